/-! ArrayList: what its methods do to a list of references -/
def AL (σ : Hp) (l arr : Nat) (xs : List Nat) : Prop := hK σ l = 10 ∧ hI σ l 102 = nI xs.length ∧ hR σ l 101 = arr ∧ xs.length ≤ 22 ∧ (∀ x ∈ xs, inO (hK σ x)) ∧
  ((hK σ arr = 105 ∧ xs.length ≤ hL σ arr ∧ (hL σ arr = 10 ∨ hL σ arr = 15 ∨ hL σ arr = 22) ∧ ∀ j, j < hL σ arr → hB σ arr j = xs.getD j 0) ∨ (arr = hQ σ 0 ∧ hK σ arr = 202 ∧ hL σ arr = 0 ∧ xs = []))
theorem inO_ne {k : Nat} (h : inO k) : k ≠ 0 := by rcases h with h | h | h | h | h <;> omega
section List0
variable {σ σ' : Hp} {l arr : Nat} {xs : List Nat}
theorem AL.mv {W : Nat → Prop} {k : Nat} (h : AL σ l arr xs) (hw : Wf σ) (hf : Fr W k σ σ') (hl : ¬ W l) (ha : ¬ W arr) : AL σ' l arr xs := by
  obtain ⟨h1, h2, h3, h4, h5, h6⟩ := h
  obtain ⟨s1, s2, s3, s4, s5, s6⟩ := hf.sam hw (a := l) (by rw [h1]; decide) hl
  refine ⟨s1.trans h1, by rw [s3]; exact h2, by rw [s4]; exact h3, h4, fun x hx => by rw [hf.kind hw (inO_ne (h5 x hx))]; exact h5 x hx, ?_⟩
  rcases h6 with ⟨a1, a2, a3, a4⟩ | ⟨a1, a2, a3, a4⟩
  · obtain ⟨t1, t2, t3, t4, t5, t6⟩ := hf.sam hw (a := arr) (by rw [a1]; decide) ha
    exact Or.inl ⟨t1.trans a1, by rw [t2]; exact a2, by rw [t2]; exact a3, fun j hj => by rw [t6]; rw [t2] at hj; exact a4 j hj⟩
  · obtain ⟨t1, t2, t3, t4, t5, t6⟩ := hf.sam hw (a := arr) (by rw [a2]; decide) ha
    exact Or.inr ⟨a1.trans (by rw [hf.2.2.2.2.1]), t1.trans a2, t2.trans a3, a4⟩
theorem AL.size (h : AL σ l arr xs) : f_J2_size σ l = some (nI xs.length, σ) := by
  obtain ⟨h1, h2, h3, h4, h5, h6⟩ := h
  simp only [f_J2_size, rdI_ok h1, bd_some, h2]
theorem AL.isEmpty (h : AL σ l arr xs) : f_J2_isEmpty σ l = some (if xs = [] then 1 else 0, σ) := by
  obtain ⟨h1, h2, h3, h4, h5, h6⟩ := h
  simp only [f_J2_isEmpty, rdI_ok h1, bd_some, h2, f_J2_isEmpty_12]
  cases xs with
  | nil => rfl
  | cons a b =>
    rw [if_neg (nI_ne0 (by simp) (by omega)), if_neg (by simp)]
    simp only [okZ_0, bd_some]
theorem checkIx {n i : Nat} (hn : n < 2 ^ 31) (hi : i < n) : f_J16_checkIndex (nI i) (nI n) = some (nI i) := by
  simp only [f_J16_checkIndex, f_J17_checkIndex, if_neg (nI_pos (n := i) (by omega)), if_pos (nI_lt hi hn), bd_some]
theorem AL.ar (h : AL σ l arr xs) {i : Nat} (hi : i < xs.length) : hK σ arr = 105 ∧ xs.length ≤ hL σ arr ∧ (hL σ arr = 10 ∨ hL σ arr = 15 ∨ hL σ arr = 22) ∧ ∀ j, j < hL σ arr → hB σ arr j = xs.getD j 0 := by
  rcases h.2.2.2.2.2 with h | ⟨-, -, -, h⟩
  · exact h
  · rw [h] at hi; exact absurd hi (Nat.not_lt_zero _)
theorem AL.get (h : AL σ l arr xs) {i : Nat} (hi : i < xs.length) : f_J2_get σ l (nI i) = some (xs.getD i 0, σ) := by
  obtain ⟨a1, a2, a3, a4⟩ := h.ar hi
  obtain ⟨h1, h2, h3, h4, h5, h6⟩ := h
  simp only [f_J2_get, rdI_ok h1, bd_some, h2, checkIx (n := xs.length) (i := i) (by omega) hi, gk_ok h1, f_J2_elementData, rdR_ok h1, h3]
  rw [elR_ok a1 ((jI_in (by omega)).mpr (by omega)), nI_clamp (by omega), a4 i (by omega)]
  rfl
theorem AL.init (h : hK σ l = 10) (hd : hK σ (hQ σ 0) = 202) (hz : hL σ (hQ σ 0) = 0) (hw : Wf σ) (h0 : hI σ l 102 = 0) : ∃ σ', f_J2_init σ l = some ((), σ') ∧ AL σ' l (hQ σ 0) [] ∧ Fr (fun c => c = l) 0 σ σ' := by
  refine ⟨sR (sI σ l 100 0) l 101 (hQ σ 0), ?_, ⟨h, ?_, ?_, by simp, by simp, Or.inr ⟨rfl, hd, hz, rfl⟩⟩, ?_⟩
  · simp only [f_J2_init, f_J1_init, f_J0_init, gz_ok (show hK σ l ≠ 0 by rw [h]; decide), bd_some, bp_some, wrI_ok h, wrR_ok (σ := sI σ l 100 0) (K := 10) (a := l) h, Q_sI]
  · simp only [I_sR, I_sI, h0]
    decide +kernel
  · simp only [R_sR]
    simp
  · exact (Fr.sI hw).trans (Fr.sR hw) (fun _ _ h => h) (fun _ _ h => h) (by omega)
theorem nl_10 : f_J3_newLength 10 (nI (10 + 1) - 10) (10 >>> ((1 : Int32) &&& 31)) = some 15 := by decide +kernel
theorem nl_15 : f_J3_newLength 15 (nI (15 + 1) - 15) (15 >>> ((1 : Int32) &&& 31)) = some 22 := by decide +kernel
theorem cpAll_of {n : Nat} {q : Nat → Bool} (h : ∀ i, i < n → q i = true) : cpAll n q := List.all_eq_true.mpr fun i hi => h i (List.mem_range.mp hi)
theorem getD_snoc (e : Nat) (j : Nat) : (xs ++ [e]).getD j 0 = if j = xs.length then e else xs.getD j 0 := by
  by_cases h : j < xs.length
  · rw [if_neg (by omega)]
    simp [List.getD, List.getElem?_append_left h]
  · by_cases e9 : j = xs.length
    · subst e9; simp [List.getD]
    · rw [if_neg e9]
      rw [List.getD, List.getElem?_eq_none (by simp; omega), List.getD, List.getElem?_eq_none (by omega)]
theorem cpR_ok {a0 a s d m : Nat} {sp dp n : Int32} (hs : sp.toNatClampNeg = s) (hd : dp.toNatClampNeg = d) (hm : n.toNatClampNeg = m) (h0 : ¬ sp < 0 ∧ ¬ dp < 0 ∧ ¬ n < 0) (k0 : hK σ a0 = 105) (k1 : hK σ a = 105) (l0 : s + m ≤ hL σ a0) (l1 : d + m ≤ hL σ a) (hc : ∀ i, i < m → hB σ a0 (s + i) = 0 ∨ inO (hK σ (hB σ a0 (s + i)))) : cpR σ a0 sp a dp n = some (cB σ a (va_cpy (hB σ a0) (hB σ a) s d m)) := by
  subst hs; subst hd; subst hm
  exact if_pos ⟨⟨⟨k0, k1⟩, h0, l0, l1⟩, cpAll_of fun i hi => decide_eq_true (hc i hi)⟩
/-- the array grows from L0 to L1 -/
theorem AL.grow {L0 L1 : Nat} (hw : Wf σ) (h1 : hK σ l = 10) (h3 : hR σ l 101 = arr) (h5 : ∀ x ∈ xs, inO (hK σ x)) (a1 : hK σ arr = 105) (a2 : xs.length = L0) (a3 : hL σ arr = L0) (a4 : ∀ j, j < L0 → hB σ arr j = xs.getD j 0) (hL0 : 0 < L0) (hL1 : L0 < L1) (hL2 : L1 < 1000)
    (hnl : f_J3_newLength (nI L0) (nI (L0 + 1) - nI L0) (nI L0 >>> ((1 : Int32) &&& 31)) = some (nI L1)) :
    ∃ σ', f_J2_grow_2 σ l (nI (L0 + 1)) = some (hN σ, σ') ∧ hK σ' l = 10 ∧ hR σ' l 101 = hN σ ∧ hI σ' l 102 = hI σ l 102 ∧ hK σ' (hN σ) = 105 ∧ hL σ' (hN σ) = L1 ∧ (∀ j, j < L1 → hB σ' (hN σ) j = xs.getD j 0) ∧ Fr (fun c => c = l) (L1 + 1) σ σ' := by
  have hl : l < hN σ := hw.lt (by rw [h1]; decide)
  have ha : arr < hN σ := hw.lt (by rw [a1]; decide)
  have hn1 : arr ≠ hN σ := by omega
  have hn2 : l ≠ hN σ := by omega
  let f := va_cpy (hB (nC σ 105 L1) arr) (hB (nC σ 105 L1) (hN σ)) 0 0 L0
  refine ⟨sR (cB (nC σ 105 L1) (hN σ) f) l 101 (hN σ), ?_, ?_, ?_, ?_, ?_, ?_, ?_, ?_⟩
  · have e1 : nwA σ 105 (nI L1) = some (nC σ 105 L1) := by
      rw [nwA_ok (nI_pos (by omega)) (by rw [nI_clamp (by omega)]; omega), nI_clamp (by omega)]
    have e2 : elN (nC σ 105 L1) arr = some (nI L0) := by
      rw [elN_ok (by rw [K_nC, if_neg hn1, a1]; decide) (by rw [K_nC, if_neg hn1, a1]; decide), L_nC, if_neg hn1, a3]
    have z0 : (0 : Int32).toNatClampNeg = 0 := by decide +kernel
    have e3 : cpR (nC σ 105 L1) arr 0 (hN σ) 0 (nI L0) = some (cB (nC σ 105 L1) (hN σ) f) := by
      refine cpR_ok z0 z0 (nI_clamp (by omega)) ⟨by decide, by decide, nI_pos (by omega)⟩ (by rw [K_nC, if_neg hn1, a1]) (by rw [K_nC, if_pos rfl]) (by rw [L_nC, if_neg hn1, a3]; omega) (by rw [L_nC, if_pos rfl]; omega) fun i hi => ?_
      rw [B_nC, if_neg hn1, a4 _ (by omega)]
      refine Or.inr ?_
      have hx : xs.getD (0 + i) 0 ∈ xs := by
        rw [List.getD, List.getElem?_eq_getElem (by omega)]
        exact List.getElem_mem _
      have hk := h5 _ hx
      rw [K_nC, if_neg ?_]
      · exact hk
      · intro e
        rw [e, hw _ (Nat.le_refl _)] at hk
        exact absurd rfl (inO_ne hk)
    have e4 : elN σ arr = some (nI L0) := by rw [elN_ok (by rw [a1]; decide) (by rw [a1]; decide), a3]
    have e5 : (if nI L1 < nI L0 then nI L1 else nI L0) = nI L0 := if_neg (nI_nlt (by omega) (by omega))
    have e6 : (0 : Int32) < nI L0 := by
      have := nI_lt (a := 0) (b := L0) hL0 (by omega)
      rwa [nI_0] at this
    simp only [f_J2_grow_2, rdR_ok h1, bd_some, h3, e4, if_pos e6, f_J2_grow_2_20, hnl, f_J5_copyOf, gk_ok a1, f_J5_copyOf_2, if_pos, e1, e2, e5, e3, bp_some]
    rw [wrR_ok (by show hK (nC σ 105 L1) l = 10; rw [K_nC, if_neg hn2, h1])]
    rfl
  · show hK (nC σ 105 L1) l = 10
    rw [K_nC, if_neg hn2, h1]
  · rw [R_sR, if_pos ⟨rfl, rfl⟩]
  · show hI (nC σ 105 L1) l 102 = _
    rw [I_nC, if_neg hn2]
  · show hK (nC σ 105 L1) (hN σ) = 105
    rw [K_nC, if_pos rfl]
  · show hL (nC σ 105 L1) (hN σ) = L1
    rw [L_nC, if_pos rfl]
  · intro j hj
    rw [B_sR, B_cB, if_pos rfl]
    show va_cpy _ _ 0 0 L0 j = _
    unfold va_cpy
    by_cases h : j < L0
    · rw [if_pos ⟨by omega, by omega⟩, B_nC, if_neg hn1, a4 _ (by omega), show 0 + (j - 0) = j by omega]
    · rw [if_neg (by omega), B_nC, if_pos rfl]
      simp [List.getD, show xs.length ≤ j by omega]
  · have w1 := Fr.nC (K := 105) (n := L1) hw
    have w2 := Fr.cB (a := hN σ) (f := f) w1.wf
    have w3 := Fr.sR (a := l) (f := 101) (v := hN σ) w2.wf
    refine (w1.trans (W := fun c => c = l) w2 (fun _ _ h => h.elim) (fun c hc h => by omega) (Nat.le_refl _)).trans w3 (fun _ _ h => h) (fun _ _ h => h) (by omega)
/-- what is written by add -/
def ALw (σ : Hp) (l arr : Nat) : Nat → Prop := fun c => c = l ∨ (c = arr ∧ hK σ arr = 105)
theorem AL.put {e n : Nat} (h1 : hK σ l = 10) (hn : xs.length = n) (h4 : n < 22) (h5 : ∀ x ∈ xs, inO (hK σ x)) (he : inO (hK σ e)) (a1 : hK σ arr = 105) (h3 : hR σ l 101 = arr) (a3 : hL σ arr = 10 ∨ hL σ arr = 15 ∨ hL σ arr = 22) (a2 : n < hL σ arr) (a4 : ∀ j, j < hL σ arr → hB σ arr j = xs.getD j 0) (hw : Wf σ) :
    f_J2_add_2_11 σ l e arr (nI n) = some ((), sI (sB σ arr n e) l 102 (nI n + 1)) ∧ AL (sI (sB σ arr n e) l 102 (nI n + 1)) l arr (xs ++ [e]) ∧ Fr (ALw σ l arr) 0 σ (sI (sB σ arr n e) l 102 (nI n + 1)) := by
  refine ⟨?_, ⟨h1, ?_, h3, by simp; omega, fun x hx => ?_, Or.inl ⟨a1, ?_, a3, fun j hj => ?_⟩⟩, ?_⟩
  · simp only [f_J2_add_2_11]
    rw [stR_ok a1 ((jI_in (by omega)).mpr a2) (Or.inr he), bd_some, nI_clamp (by omega), wrI_ok (by exact h1), bd_some]
  · rw [I_sI, if_pos ⟨rfl, rfl⟩, nI_1]
    congr 1
    simp [hn]
  · rcases List.mem_append.mp hx with h | h
    · exact h5 x h
    · rw [List.mem_singleton.mp h]; exact he
  · simp
    show xs.length + 1 ≤ hL σ arr
    omega
  · have hj' : j < hL σ arr := hj
    rw [B_sI, B_sB, getD_snoc, hn]
    by_cases e9 : j = n
    · rw [if_pos ⟨rfl, e9⟩, if_pos e9]
    · rw [if_neg (fun z => e9 z.2), if_neg e9]
      exact a4 j hj'
  · exact (Fr.sB hw).trans (Fr.sI (Fr.sB hw).wf) (fun c _ h => Or.inr ⟨h, a1⟩) (fun c _ h => Or.inl h) (by omega)
set_option maxHeartbeats 1000000 in
theorem AL.add {e : Nat} (h : AL σ l arr xs) (hn : xs.length < 22) (he : inO (hK σ e)) (hw : Wf σ) : ∃ σ' arr', f_J2_add σ l e = some (1, σ') ∧ AL σ' l arr' (xs ++ [e]) ∧ Fr (ALw σ l arr) 60 σ σ' ∧ ((arr' = arr ∧ hK σ arr = 105) ∨ arr' = hN σ) := by
  obtain ⟨h1, h2, h3, h4, h5, h6⟩ := h
  have hw1 : Wf (sI σ l 100 (hI σ l 100 + 1)) := hw
  have f1 := Fr.sI (a := l) (f := 100) (v := hI σ l 100 + 1) hw
  have hl : l < hN σ := hw.lt (by rw [h1]; decide)
  have e102 : hI (sI σ l 100 (hI σ l 100 + 1)) l 102 = nI xs.length := by rw [I_sI, if_neg (by omega), h2]
  have base : ∀ {σ2 : Hp} {a : Nat}, f_J2_add_2 (sI σ l 100 (hI σ l 100 + 1)) l e arr (nI xs.length) = some ((), σ2) → f_J2_add σ l e = some (1, σ2) := by
    intro σ2 a hh
    simp only [f_J2_add, rdI_ok h1, bd_some, wrI_ok h1, rdR_ok (σ := sI σ l 100 (hI σ l 100 + 1)) (K := 10) (a := l) h1, rdI_ok (σ := sI σ l 100 (hI σ l 100 + 1)) (K := 10) (a := l) h1, gk_ok (σ := sI σ l 100 (hI σ l 100 + 1)) (K := 10) (a := l) h1, e102, R_sI, h3, hh, bp_some, okZ_1]
  have grown : ∀ {L0 L1 : Nat}, hK σ arr = 105 → xs.length = L0 → hL σ arr = L0 → (∀ j, j < L0 → hB σ arr j = xs.getD j 0) → 0 < L0 → L0 < L1 → L1 ≤ 22 → (L1 = 15 ∨ L1 = 22) → f_J3_newLength (nI L0) (nI (L0 + 1) - nI L0) (nI L0 >>> ((1 : Int32) &&& 31)) = some (nI L1) →
      ∃ σ' arr', f_J2_add σ l e = some (1, σ') ∧ AL σ' l arr' (xs ++ [e]) ∧ Fr (ALw σ l arr) 60 σ σ' ∧ ((arr' = arr ∧ hK σ arr = 105) ∨ arr' = hN σ) := by
    intro L0 L1 a1 a2 a3 a4 g0 g1 g2 g3 g4
    obtain ⟨σ2, b1, b2, b3, b4, b5, b6, b7, b8⟩ := AL.grow (σ := sI σ l 100 (hI σ l 100 + 1)) (arr := arr) (xs := xs) hw1 h1 h3 h5 a1 a2 a3 a4 g0 g1 (by omega) g4
    have hek : hK σ2 e = hK σ e := (b8.kind hw1 (a := e) (inO_ne he))
    obtain ⟨c1, c2, c3⟩ := AL.put (σ := σ2) (l := l) (arr := hN σ) (xs := xs) (e := e) (n := xs.length) b2 rfl (by omega) (fun x hx => by rw [b8.kind hw1 (a := x) (inO_ne (h5 x hx))]; exact h5 x hx) (by rw [hek]; exact he) b5 b3 (by rw [show hL σ2 (hN σ) = L1 from b6]; omega) (by rw [show hL σ2 (hN σ) = L1 from b6]; omega) (by rw [show hL σ2 (hN σ) = L1 from b6]; exact b7) b8.wf
    refine ⟨_, hN σ, base (a := 0) ?_, c2, ?_, Or.inr rfl⟩
    · have e1 : elN (sI σ l 100 (hI σ l 100 + 1)) arr = some (nI L0) := by
        rw [elN_ok (by show 101 ≤ hK σ arr; rw [a1]; decide) (by show hK σ arr ≤ 106; rw [a1]; decide)]
        show some (nI (hL σ arr)) = _
        rw [a3]
      have e2 : f_J2_grow (sI σ l 100 (hI σ l 100 + 1)) l = some (hN σ, σ2) := by
        simp only [f_J2_grow, rdI_ok (σ := sI σ l 100 (hI σ l 100 + 1)) (K := 10) (a := l) h1, bd_some, gk_ok (σ := sI σ l 100 (hI σ l 100 + 1)) (K := 10) (a := l) h1, e102, a2, nI_1, b1, bp_some]
        rfl
      simp only [f_J2_add_2, e1, bd_some, a2, if_pos, gk_ok (σ := sI σ l 100 (hI σ l 100 + 1)) (K := 10) (a := l) h1, e2, bp_some]
      rw [← a2]
      exact c1
    · exact (f1.trans (W := fun c => c = l) b8 (fun _ _ h => h) (fun _ _ h => h) (Nat.le_refl _)).trans c3 (fun c _ h => Or.inl h) (fun c hc h => by
        rcases h with h | ⟨h, -⟩
        · exact Or.inl h
        · rw [h] at hc; exact absurd hc (Nat.lt_irrefl _)) (by omega)
  rcases h6 with ⟨a1, a2, a3, a4⟩ | ⟨a1, a2, a3, a4⟩
  · by_cases hc : xs.length = hL σ arr
    · rcases a3 with a3 | a3 | a3
      · exact grown a1 (hc.trans a3) a3 (by rw [← a3]; exact a4) (by decide) (by decide : 10 < 15) (by decide) (Or.inl rfl) nl_10
      · exact grown a1 (hc.trans a3) a3 (by rw [← a3]; exact a4) (by decide) (by decide : 15 < 22) (by decide) (Or.inr rfl) nl_15
      · omega
    · obtain ⟨c1, c2, c3⟩ := AL.put (σ := sI σ l 100 (hI σ l 100 + 1)) (l := l) (arr := arr) (xs := xs) (e := e) (n := xs.length) h1 rfl hn h5 he a1 h3 a3 (Nat.lt_of_le_of_ne a2 hc) a4 hw1
      refine ⟨_, arr, base (a := 0) ?_, c2, f1.trans c3 (fun c _ h => Or.inl h) (fun c _ h => h) (by omega), Or.inl ⟨rfl, a1⟩⟩
      have e1 : elN (sI σ l 100 (hI σ l 100 + 1)) arr = some (nI (hL σ arr)) := elN_ok (by show 101 ≤ hK σ arr; rw [a1]; decide) (by show hK σ arr ≤ 106; rw [a1]; decide)
      simp only [f_J2_add_2, e1, bd_some]
      rw [if_neg (fun z => hc ((nI_eq (by omega) (by omega)).mp z))]
      exact c1
  · subst a4
    let σ1 := sI σ l 100 (hI σ l 100 + 1)
    let σ2 := sR (nC σ1 105 10) l 101 (hN σ)
    have w2 : Wf (nC σ1 105 10) := (Fr.nC (K := 105) (n := 10) hw1).wf
    have hn2 : l ≠ hN σ := by omega
    have hk2 : hK σ2 l = 10 := by show hK (nC σ1 105 10) l = 10; rw [K_nC, if_neg (by exact hn2)]; exact h1
    have g8 : Fr (fun c => c = l) 11 σ1 σ2 := (Fr.nC (K := 105) (n := 10) hw1).trans (Fr.sR w2) (fun _ _ h => h.elim) (fun _ _ h => h) (by omega)
    have hek : hK σ2 e = hK σ e := g8.kind hw1 (a := e) (inO_ne he)
    obtain ⟨c1, c2, c3⟩ := AL.put (σ := σ2) (l := l) (arr := hN σ) (xs := []) (e := e) (n := 0) hk2 rfl (by decide) (by simp) (by rw [hek]; exact he) (by show hK (nC σ1 105 10) (hN σ) = 105; exact if_pos rfl) (by rw [R_sR, if_pos ⟨rfl, rfl⟩]) (by exact Or.inl (if_pos rfl)) (by show 0 < hL (nC σ1 105 10) (hN σ); rw [L_nC, if_pos (show hN σ = hN σ1 from rfl)]; decide) (fun j _ => by show hB (nC σ1 105 10) (hN σ) j = _; rw [B_nC, if_pos (show hN σ = hN σ1 from rfl)]; rfl) g8.wf
    refine ⟨_, hN σ, base (a := 0) ?_, c2, (f1.trans (W := fun c => c = l) g8 (fun _ _ h => h) (fun _ _ h => h) (Nat.le_refl _)).trans c3 (fun c _ h => Or.inl h) (fun c hc h => by
        rcases h with h | ⟨h, -⟩
        · exact Or.inl h
        · rw [h] at hc; exact absurd hc (Nat.lt_irrefl _)) (by omega), Or.inr rfl⟩
    have e1 : elN σ1 arr = some 0 := elN_0 a2
    have e0 : nI ([] : List Nat).length = 0 := nI_0
    have e3 : f_J2_grow_2 σ1 l (0 + 1) = some (hN σ, σ2) := by
      have z1 : elN σ1 (hR σ1 l 101) = some 0 := by rw [show hR σ1 l 101 = arr from h3]; exact e1
      have z2 : hR σ1 l 101 = hQ σ1 0 := by rw [show hR σ1 l 101 = arr from h3]; exact a1
      have z3 : nwA σ1 105 (if (10 : Int32) < 0 + 1 then 0 + 1 else 10) = some (nC σ1 105 10) := by
        rw [if_neg (by decide)]
        rw [nwA_ok (by decide) (by decide)]
        rfl
      simp only [f_J2_grow_2, rdR_ok (σ := σ1) (K := 10) (a := l) h1, bd_some, z1, z3]
      rw [if_neg (by decide), if_pos z2, wrR_ok (show hK (nC σ1 105 10) l = 10 by rw [K_nC, if_neg (by exact hn2)]; exact h1)]
      rfl
    have e2 : f_J2_grow σ1 l = some (hN σ, σ2) := by
      simp only [f_J2_grow, rdI_ok (σ := σ1) (K := 10) (a := l) h1, bd_some, gk_ok (σ := σ1) (K := 10) (a := l) h1]
      rw [show hI σ1 l 102 = 0 from e102.trans e0, e3, bp_some]
    show f_J2_add_2 σ1 l e arr (nI ([] : List Nat).length) = _
    rw [e0]
    simp only [f_J2_add_2, e1, bd_some, if_pos, gk_ok (σ := σ1) (K := 10) (a := l) h1, e2, bp_some]
    exact c1
end List0
