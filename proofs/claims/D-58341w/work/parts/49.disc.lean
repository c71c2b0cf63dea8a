/-! a block goes -/
def dscR (R : Nat → Int32) (n k : Nat) : Nat → Int32 := fun m => if m = 8 then nI (n - 1) else if m < ix k 0 then R m else if m < ix (n - 1) 0 then R (m + 7) else if m < ix n 0 then 0 else R m
def dn (k j : Nat) : Nat := if k < j then j - 1 else j
theorem erase_getD {xs : List Nat} {k j : Nat} : (xs.eraseIdx k).getD j 0 = if j < k then xs.getD j 0 else xs.getD (j + 1) 0 := by
  rw [List.getD, List.getElem?_eraseIdx]
  split <;> rfl
theorem erase_dn {xs : List Nat} {k j : Nat} (h : j ≠ k) : (xs.eraseIdx k).getD (dn k j) 0 = xs.getD j 0 := by
  rw [erase_getD]
  unfold dn
  by_cases c : k < j
  · rw [if_pos c, if_neg (by omega), Nat.sub_add_cancel (by omega)]
  · rw [if_neg c, if_pos (by omega)]
def O9 (O : Nat → Nat) (s k : Nat) : Nat → Nat := fun c => if lb s (10 + k) < O c ∧ O c < lb s 40 then O c - 1 else if O c = lb s (10 + k) then lb s 99 else O c
section Disc
variable {σ σ' : Hp} {O O' : Nat → Nat} {s k i : Nat} {R R' : Nat → Int32} {ks ks' : Nat → List Nat} {bs bs' : List Nat} {ls : Nat → Nat} {b : Nat} {x y : Int32}
theorem dscR_lo {n k m : Nat} (hk : k < n) (h8 : m ≠ 8) (h : m < ix k 0) : dscR R n k m = R m := by
  unfold dscR
  rw [if_neg h8, if_pos h]
theorem dscR_hi {n k j w : Nat} (hk : k ≤ j) (hj : j + 1 < n) (hw : w < 7) : dscR R n k (ix j w) = R (ix (j + 1) w) := by
  unfold dscR
  rw [if_neg (Ne.symm (ix_lt (by decide))), if_neg (by unfold ix; omega), if_pos (by unfold ix; omega)]
  congr 1
  unfold ix
  omega
theorem O9_keep (hk : k < 20) {c : Nat} (h : ∀ j, 10 ≤ j → j < 100 → O c ≠ lb s j) : O9 O s k c = O c := by
  unfold O9
  have h1 : ¬ (lb s (10 + k) < O c ∧ O c < lb s 40) := by
    intro z
    refine h (O c - 100 * s) ?_ ?_ ?_ <;> unfold lb at * <;> omega
  rw [if_neg h1, if_neg (h (10 + k) (by omega) (by omega))]
set_option maxHeartbeats 1000000 in
theorem RS.remove (h : RS σ O s R ks bs ls) (hw : Wf σ) (hk : k < bs.length) (hf : ∀ i, i < 3 → k ∉ ks i) :
    ∃ σ', f_J2_remove σ (hR σ s 20) (nI k) = some (bs.getD k 0, σ') ∧ RS σ' (O9 O s k) s (dscR R bs.length k) (fun i => (ks i).map (dn k)) (bs.eraseIdx k) ls ∧ Fr (inS O s) 0 σ σ' := by
  obtain ⟨σ', e1, l1, f1⟩ := h.bl.remove hk hw
  have h20 := h.n.2
  have hlen : (bs.eraseIdx k).length = bs.length - 1 := by rw [List.length_eraseIdx, if_pos hk]
  have keep : ∀ {c j : Nat}, O c = lb s j → j < 10 → O9 O s k c = O c := fun e hj => O9_keep (by omega) fun m h1 h2 z => by
    have := lb_inj (e.symm.trans z)
    omega
  have l2 : LA σ' (O9 O s k) (lb s 1) (hR σ s 20) (bs.eraseIdx k) := by
    obtain ⟨arr, a1, a2, a3, a4⟩ := l1
    refine ⟨arr, a1, (keep a2 (by decide)).trans a2, fun z => (keep (a3 z) (by decide)).trans (a3 z), fun z => ?_⟩
    have := a4 z
    rw [O9_keep (by omega) (fun m _ _ e => lb_ne0 h.2.2.2.2.2.2.2.2.2 (e.symm.trans this))]
    exact this
  refine ⟨σ', e1, h.re hw f1 (fun c _ hh => O9_keep (by omega) hh) l2 (fun i hi => ?_) (fun j hj => ?_) (fun m hm => dscR_lo hk (by omega) (by unfold ix; omega)) ?_ (by omega), f1.wk (inS_lb (by decide) rfl) (Nat.le_refl _)⟩
  · rw [List.map_map]
    refine List.map_congr_left fun j hj => ?_
    exact erase_dn (fun e => hf i hi (e ▸ hj))
  · have hj' : j < bs.length - 1 := by rw [← hlen]; exact hj
    rw [erase_getD]
    by_cases c : j < k
    · rw [if_pos c]
      have hB := h.blk (j := j) (by omega)
      have hBO := h.blkO (j := j) (by omega)
      obtain ⟨z0, z1, z2, z3, z4, z5, z6⟩ := hB.mv (f1.sam hw (by rw [hB.1]; decide) (fun z => by have := lb_inj (hBO.symm.trans z); omega))
      have q : ∀ {w : Nat}, w < 7 → dscR R bs.length k (ix j w) = R (ix j w) := fun hw => dscR_lo hk (Ne.symm (ix_lt (by decide))) (by unfold ix; omega)
      refine ⟨⟨z0, by rw [q (by decide)]; exact z1, by rw [q (by decide)]; exact z2, by rw [q (by decide)]; exact z3, by rw [q (by decide)]; exact z4, by rw [q (by decide)]; exact z5, by rw [q (by decide)]; exact z6⟩, ?_⟩
      unfold O9
      rw [hBO, if_neg (by unfold lb; omega), if_neg (by unfold lb; omega)]
    · rw [if_neg c]
      have hB := h.blk (j := j + 1) (by omega)
      have hBO := h.blkO (j := j + 1) (by omega)
      obtain ⟨z0, z1, z2, z3, z4, z5, z6⟩ := hB.mv (f1.sam hw (by rw [hB.1]; decide) (fun z => by have := lb_inj (hBO.symm.trans z); omega))
      have q : ∀ {w : Nat}, w < 7 → dscR R bs.length k (ix j w) = R (ix (j + 1) w) := fun hw => dscR_hi (by omega) (by omega) hw
      refine ⟨⟨z0, by rw [q (by decide)]; exact z1, by rw [q (by decide)]; exact z2, by rw [q (by decide)]; exact z3, by rw [q (by decide)]; exact z4, by rw [q (by decide)]; exact z5, by rw [q (by decide)]; exact z6⟩, ?_⟩
      unfold O9
      rw [hBO, if_pos (by unfold lb; omega)]
      unfold lb
      omega
  · unfold dscR
    rw [if_pos rfl, hlen]
/-! minutes -/
def coolR (R : Nat → Int32) (n : Nat) : Nat → Int32 := itr (fun k Q => u1 Q (ix k 3) (cld (Q (ix k 3)))) n R
set_option maxHeartbeats 1000000 in
theorem RS.rest {m : Nat} (h : RS σ O s R ks bs ls) (hw : Wf σ) (hm : m < 1000) : ∃ σ', f_X2_rest σ s (nI m) = some (warmS (u1 (itr (fun _ Q => coolR Q bs.length) m R) 4 ((itr (fun _ Q => coolR Q bs.length) m R) 4 + nI m)) bs.length, σ') ∧ RS σ' O s (u1 (itr (fun _ Q => coolR Q bs.length) m R) 4 ((itr (fun _ Q => coolR Q bs.length) m R) 4 + nI m)) ks bs ls ∧ Fr (inS O s) 0 σ σ' := by
  have hn := h.n.2
  have inner : ∀ (j : Nat) (R0 : Nat → Int32) (σ0 : Hp), j ≤ bs.length → RS σ0 O s (itr (fun k Q => u1 Q (ix k 3) (cld (Q (ix k 3)))) (bs.length - j) R0) ks bs ls → Wf σ0 →
      ∃ σ1, (∀ (t : Nat) (k2 : Hp → Int32 → Nat → Int32 → Option (Int32 × Hp)) (fuel : Nat), j < fuel → f_X2_rest_9 k2 fuel σ0 (nI (bs.length - j)) (nI t) s (nI m) = k2 σ1 (nI (t + 1)) s (nI m)) ∧ RS σ1 O s (coolR R0 bs.length) ks bs ls ∧ Fr (inS O s) 0 σ0 σ1 := by
    intro j
    induction j with
    | zero =>
      intro R0 σ0 _ r0 w0
      refine ⟨σ0, fun t k2 fuel hf => ?_, r0, Fr.rf w0⟩
      obtain ⟨f, rfl⟩ : ∃ f, fuel = f + 1 := ⟨fuel - 1, by omega⟩
      show f_X2_rest_9_b k2 (f_X2_rest_9 k2 f) σ0 (nI (bs.length - 0)) (nI t) s (nI m) = _
      simp only [f_X2_rest_9_b, rdR_ok r0.kk, bd_some, gk_ok r0.bl.kind, r0.bl.size, bp_some, Nat.sub_zero, nI_1]
      exact if_pos (Int32.le_refl _)
    | succ j ih =>
      intro R0 σ0 hj r0 w0
      have hlt : bs.length - (j + 1) < bs.length := by omega
      have hB := r0.blk hlt
      have r1 := r0.put w0 (v := cld (itr (fun k Q => u1 Q (ix k 3) (cld (Q (ix k 3)))) (bs.length - (j + 1)) R0 (ix (bs.length - (j + 1)) 3))) hlt (w := 3) (by decide)
      have f1 := r0.putF w0 (v := cld (itr (fun k Q => u1 Q (ix k 3) (cld (Q (ix k 3)))) (bs.length - (j + 1)) R0 (ix (bs.length - (j + 1)) 3))) hlt (w := 3) (by decide)
      have e1 : bs.length - j = (bs.length - (j + 1)) + 1 := by omega
      obtain ⟨σ1, g1, g2, g3⟩ := ih R0 _ (by omega) (by rw [e1]; exact r1) f1.wf
      refine ⟨σ1, fun t k2 fuel hf => ?_, g2, f1.trans g3 (fun _ _ h => h) (fun _ _ h => h) (Nat.le_refl _)⟩
      obtain ⟨f, rfl⟩ : ∃ f, fuel = f + 1 := ⟨fuel - 1, by omega⟩
      rw [← g1 t k2 f (by omega), e1]
      show f_X2_rest_9_b k2 (f_X2_rest_9 k2 f) σ0 (nI (bs.length - (j + 1))) (nI t) s (nI m) = _
      simp only [f_X2_rest_9_b, rdR_ok r0.kk, bd_some, gk_ok r0.bl.kind, r0.bl.size, bp_some, nI_1, if_neg (nI_ge hlt (nI_small hn)), r0.bl.get hlt, ckC_ok hB.1, rdI_ok hB.1, hB.2.2.2.2.1, cooled_ok, wrI_ok hB.1]
      rfl
  have outer : ∀ (j : Nat) (σ0 : Hp), j ≤ m → RS σ0 O s (itr (fun _ Q => coolR Q bs.length) (m - j) R) ks bs ls → Wf σ0 →
      ∃ σ1, (∀ fuel, j < fuel → f_X2_rest_2 fuel σ0 (nI (m - j)) s (nI m) = some (warmS (u1 (itr (fun _ Q => coolR Q bs.length) m R) 4 ((itr (fun _ Q => coolR Q bs.length) m R) 4 + nI m)) bs.length, σ1)) ∧ RS σ1 O s (u1 (itr (fun _ Q => coolR Q bs.length) m R) 4 ((itr (fun _ Q => coolR Q bs.length) m R) 4 + nI m)) ks bs ls ∧ Fr (inS O s) 0 σ0 σ1 := by
    intro j
    induction j with
    | zero =>
      intro σ0 _ r0 w0
      rw [Nat.sub_zero] at r0
      obtain ⟨r5, f5⟩ := r0.cnt w0 (t := 0) (v := (itr (fun _ Q => coolR Q bs.length) m R) 4 + nI m) (by decide)
      refine ⟨_, fun fuel hf => ?_, r5, f5⟩
      obtain ⟨f, rfl⟩ : ∃ f, fuel = f + 1 := ⟨fuel - 1, by omega⟩
      show f_X2_rest_2_b (f_X2_rest_2 f) σ0 (nI (m - 0)) s (nI m) = _
      simp only [f_X2_rest_2_b, Nat.sub_zero]
      rw [if_pos (Int32.le_refl _), rdI_ok r0.kk, bd_some, r0.2.1.1, wrI_ok r0.kk, bd_some]
      have hwm := r5.warmest
      have hkk := r5.kk
      rw [gk_ok (show hK (sI σ0 s 23 ((itr (fun _ Q => coolR Q bs.length) m R) 4 + nI m)) s = 2 from hkk), bd_some]
      rw [show f_X2_warmest (sI σ0 s 23 ((itr (fun _ Q => coolR Q bs.length) m R) 4 + nI m)) s = _ from hwm, bp_some]
    | succ j ih =>
      intro σ0 hj r0 w0
      have e1 : m - j = (m - (j + 1)) + 1 := by omega
      have hc : ¬ nI m ≤ nI (m - (j + 1)) := nI_ge (by omega) (by omega)
      obtain ⟨σ1, g1, g2, g3⟩ := inner bs.length (itr (fun _ Q => coolR Q bs.length) (m - (j + 1)) R) σ0 (Nat.le_refl _) (by rw [Nat.sub_self]; exact r0) w0
      obtain ⟨σ2, q1, q2, q3⟩ := ih σ1 (by omega) (by rw [e1]; exact g2) g3.wf
      refine ⟨σ2, fun fuel hf => ?_, q2, g3.trans q3 (fun _ _ h => h) (fun _ _ h => h) (Nat.le_refl _)⟩
      obtain ⟨f, rfl⟩ : ∃ f, fuel = f + 1 := ⟨fuel - 1, by omega⟩
      show f_X2_rest_2_b (f_X2_rest_2 f) σ0 (nI (m - (j + 1))) s (nI m) = _
      simp only [f_X2_rest_2_b]
      rw [if_neg hc]
      have := g1 (m - (j + 1)) (f_X2_rest_2 f) FU (by unfold FU; omega)
      rw [Nat.sub_self, nI_0] at this
      rw [this, ← e1]
      exact q1 f (by omega)
  obtain ⟨σ1, g1, g2, g3⟩ := outer m σ (Nat.le_refl _) (by rw [Nat.sub_self]; exact h) hw
  refine ⟨σ1, ?_, g2, g3⟩
  have := g1 FU (by unfold FU; omega)
  rw [Nat.sub_self, nI_0] at this
  exact this
end Disc
