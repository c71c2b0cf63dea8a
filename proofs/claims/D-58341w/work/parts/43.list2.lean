/-! ArrayList: remove; walks -/
section List1
variable {σ σ' : Hp} {l arr : Nat} {xs : List Nat}
theorem nI_sub {a b : Nat} (h : b ≤ a) : nI a - nI b = nI (a - b) := by
  have h1 := nI_add (a - b) b
  rw [Nat.sub_add_cancel h] at h1
  rw [← h1]
  simp
theorem nI_sub1 {a : Nat} (h : 1 ≤ a) : nI a - 1 = nI (a - 1) := by
  have := nI_sub (a := a) (b := 1) h
  exact this
theorem mem_eraseIdx9 {x : Nat} {i : Nat} (h : x ∈ xs.eraseIdx i) : x ∈ xs := (List.eraseIdx_sublist xs i).mem h
theorem AL.remove {i : Nat} (h : AL σ l arr xs) (hi : i < xs.length) (hw : Wf σ) : ∃ σ', f_J2_remove σ l (nI i) = some (xs.getD i 0, σ') ∧ AL σ' l arr (xs.eraseIdx i) ∧ Fr (fun c => c = l ∨ c = arr) 0 σ σ' ∧ hK σ arr = 105 := by
  obtain ⟨a1, a2, a3, a4⟩ := h.ar hi
  obtain ⟨h1, h2, h3, h4, h5, h6⟩ := h
  have hla : l ≠ arr := fun e => by rw [e, a1] at h1; cases h1
  have hn : xs.length < 2 ^ 31 := by omega
  let σ1 := sI σ l 100 (hI σ l 100 + 1)
  have w1 : Fr (fun c => c = l) 0 σ σ1 := Fr.sI hw
  have k1 : hK σ1 l = 10 := h1
  have e5 : hI σ1 l 102 = nI xs.length := by rw [I_sI, if_neg (by omega), h2]
  have key : ∀ σ2 : Hp, Fr (fun c => c = l ∨ c = arr) 0 σ σ2 → (∀ j, hB σ2 arr j = if i ≤ j ∧ j < xs.length - 1 then hB σ arr (j + 1) else hB σ arr j) → hR σ2 l 101 = arr →
      f_J2_fastRemove_34 σ2 (nI (xs.length - 1)) l arr = some ((), sB (sI σ2 l 102 (nI (xs.length - 1))) arr (xs.length - 1) 0) ∧ AL (sB (sI σ2 l 102 (nI (xs.length - 1))) arr (xs.length - 1) 0) l arr (xs.eraseIdx i) ∧ Fr (fun c => c = l ∨ c = arr) 0 σ (sB (sI σ2 l 102 (nI (xs.length - 1))) arr (xs.length - 1) 0) := by
    intro σ2 f2 hB2 h32
    have k2 : hK σ2 l = 10 := (f2.kind hw (by rw [h1]; decide)).trans h1
    have k3 : hK σ2 arr = 105 := (f2.kind hw (by rw [a1]; decide)).trans a1
    have k4 : hL σ2 arr = hL σ arr := (f2.2.2.2.2.2.2.1 arr (hw.lt (by rw [a1]; decide))).2
    have hlen : (xs.eraseIdx i).length = xs.length - 1 := by rw [List.length_eraseIdx, if_pos hi]
    refine ⟨?_, ⟨k2, ?_, h32, by omega, fun x hx => ?_, Or.inl ⟨k3, ?_, by show hL σ2 arr = 10 ∨ hL σ2 arr = 15 ∨ hL σ2 arr = 22; rw [k4]; exact a3, fun j hj => ?_⟩⟩, ?_⟩
    · simp only [f_J2_fastRemove_34, wrI_ok k2, bd_some]
      rw [stR_ok (show hK (sI σ2 l 102 (nI (xs.length - 1))) arr = 105 from k3) ((jI_in (by omega)).mpr (by show xs.length - 1 < hL σ2 arr; omega)) (Or.inl rfl), bd_some, nI_clamp (by omega)]
    · rw [I_sB, I_sI, if_pos ⟨rfl, rfl⟩, hlen]
    · show inO (hK σ2 x)
      rw [f2.kind hw (inO_ne (h5 x (mem_eraseIdx9 hx)))]
      exact h5 x (mem_eraseIdx9 hx)
    · show _ ≤ hL σ2 arr
      omega
    · have hj' : j < hL σ arr := by rw [← k4]; exact hj
      rw [B_sB, B_sI, hB2, List.getD, List.getElem?_eraseIdx]
      by_cases e1 : j = xs.length - 1
      · rw [if_pos ⟨rfl, e1⟩, if_neg (by omega), List.getElem?_eq_none (by omega)]
        rfl
      · rw [if_neg (fun z => e1 z.2)]
        by_cases e2 : j < i
        · rw [if_neg (by omega), if_pos e2, a4 j hj']
          rfl
        · rw [if_neg e2]
          by_cases e3 : j < xs.length - 1
          · rw [if_pos ⟨by omega, e3⟩, a4 (j + 1) (by omega)]
            rfl
          · rw [if_neg (by omega), a4 j hj', List.getD, List.getElem?_eq_none (by omega), List.getElem?_eq_none (by omega)]
    · exact (f2.trans (k := 0) (W := fun c => c = l ∨ c = arr) (Fr.sI (a := l) f2.wf) (fun _ _ h => h) (fun _ _ h => Or.inl h) (by omega)).trans (W := fun c => c = l ∨ c = arr) (Fr.sB (Fr.sI (a := l) f2.wf).wf) (fun _ _ h => h) (fun _ _ h => Or.inr h) (by omega)
  have head : ∀ {σ2 : Hp}, f_J2_fastRemove σ l arr (nI i) = some ((), σ2) → f_J2_remove σ l (nI i) = some (xs.getD i 0, σ2) := by
    intro σ2 hh
    simp only [f_J2_remove, rdI_ok h1, bd_some, h2, checkIx hn hi, rdR_ok h1, h3, gk_ok h1, hh, bp_some]
    rw [elR_ok a1 ((jI_in (by omega)).mpr (by omega)), bd_some, nI_clamp (by omega), a4 i (by omega)]
  by_cases hc : xs.length - 1 ≤ i
  · obtain ⟨c1, c2, c3⟩ := key σ1 (w1.wk (fun _ _ h => Or.inl h) (Nat.le_refl _)) (fun j => by rw [if_neg (by omega)]; rfl) h3
    refine ⟨_, head ?_, c2, c3, a1⟩
    simp only [f_J2_fastRemove, rdI_ok h1, bd_some, wrI_ok h1]
    show bd (rdI σ1 10 l 102) _ = _
    rw [rdI_ok k1, bd_some, e5, nI_sub1 (by omega), if_pos ((nI_leI (by omega) (by omega)).mpr hc)]
    exact c1
  · let σ2 := cB σ1 arr (va_cpy (hB σ1 arr) (hB σ1 arr) (i + 1) i (xs.length - 1 - i))
    obtain ⟨c1, c2, c3⟩ := key σ2 (w1.trans (Fr.cB w1.wf) (fun _ _ h => Or.inl h) (fun _ _ h => Or.inr h) (by omega)) (fun j => by
      show hB (cB σ1 arr (va_cpy (hB σ1 arr) (hB σ1 arr) (i + 1) i (xs.length - 1 - i))) arr j = _
      rw [B_cB, if_pos rfl]
      unfold va_cpy
      by_cases e : i ≤ j ∧ j < xs.length - 1
      · rw [if_pos e, if_pos ⟨e.1, by omega⟩, show i + 1 + (j - i) = j + 1 by omega]
        rfl
      · rw [if_neg e, if_neg (by omega)]
        rfl) h3
    refine ⟨_, head ?_, c2, c3, a1⟩
    have hcp : cpR σ1 arr (nI (i + 1)) arr (nI i) (nI (xs.length - 1 - i)) = some σ2 := by
      refine cpR_ok (nI_clamp (by omega)) (nI_clamp (by omega)) (nI_clamp (by omega)) ⟨nI_pos (by omega), nI_pos (by omega), nI_pos (by omega)⟩ a1 a1 (by show _ ≤ hL σ arr; omega) (by show _ ≤ hL σ arr; omega) fun k hk => Or.inr ?_
      show inO (hK σ (hB σ arr (i + 1 + k)))
      rw [a4 _ (by omega)]
      refine h5 _ ?_
      rw [List.getD, List.getElem?_eq_getElem (by omega)]
      exact List.getElem_mem _
    simp only [f_J2_fastRemove, rdI_ok h1, bd_some, wrI_ok h1]
    show bd (rdI σ1 10 l 102) _ = _
    rw [rdI_ok k1, bd_some, e5, nI_sub1 (by omega), if_neg (fun z => hc ((nI_leI (by omega) (by omega)).mp z)), nI_1, nI_sub (by omega)]
    show bd (cpR σ1 arr (nI (i + 1)) arr (nI i) (nI (xs.length - 1 - i))) _ = _
    rw [hcp, bd_some]
    exact c1
end List1
