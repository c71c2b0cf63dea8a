/-! A State's questions that change nothing -/
def errR (R : Nat → Int32) (k : Nat) : Int32 := R (ix k 1) - R (ix k 2)
def absI (x : Int32) : Int32 := if 0 ≤ x then x else 0 - x
def grd (R : Nat → Int32) (k : Nat) : Int32 := if 100 < absI (errR R k) then (if 250 < absI (errR R k) then (if 500 < absI (errR R k) then 3 else 2) else 1) else 0
def lenA (R : Nat → Int32) (k : Nat) (w : Int32) : Int32 := 1000 * R (ix k 0) + errR R k + R (ix k 0) * w / 1000 * 115 / 1000
def cld (w : Int32) : Int32 := w - (w + 9) / 10
def isF (R : Nat → Int32) (k : Nat) : Prop := R (ix k 4) = -1
def freeS (R : Nat → Int32) (n : Nat) : Int32 := itr (fun k m => m ||| (if R (ix k 4) = -1 then 1 <<< (nI k &&& 31) else 0)) n 0
def warmS (R : Nat → Int32) (n : Nat) : Int32 := itr (fun k m => if m < R (ix k 3) then R (ix k 3) else m) n 0
theorem dvI_ok {x y : Int32} (h : y ≠ 0) : dvI x y = some (x / y) := if_neg h
theorem rmI_ok {x y : Int32} (h : y ≠ 0) : rmI x y = some (x - x / y * y) := if_neg h
theorem ckC_ok {σ : Hp} {K a : Nat} (h : hK σ a = K) : ckC σ K a = some () := if_pos (Or.inr (Or.inl h))
theorem ckC_0 {σ : Hp} {K : Nat} : ckC σ K 0 = some () := if_pos (Or.inl rfl)
theorem cooled_ok {w : Int32} : f_X1_cooled w = some (cld w) := by
  simp only [f_X1_cooled, dvI_ok (show (10 : Int32) ≠ 0 by decide), bd_some, cld]
theorem isIn_ok {x a b : Int32} : f_X1_isIn x a b = some (if a ≤ x ∧ x ≤ b then 1 else 0) := by
  by_cases h1 : a ≤ x
  · by_cases h2 : x ≤ b
    · rw [if_pos ⟨h1, h2⟩]
      simp only [f_X1_isIn, f_X1_isIn_14, f_X1_isIn_15]
      rw [if_neg (Int32.not_lt.mpr h1), if_neg (Int32.not_lt.mpr h2), okZ_1, bd_some]
    · rw [if_neg (fun z => h2 z.2)]
      simp only [f_X1_isIn, f_X1_isIn_14, f_X1_isIn_15]
      rw [if_neg (Int32.not_lt.mpr h1), if_pos (Int32.not_le.mp h2), okZ_0, bd_some]
  · rw [if_neg (fun z => h1 z.1)]
    simp only [f_X1_isIn, f_X1_isIn_14, f_X1_isIn_15]
    rw [if_pos (Int32.not_le.mp h1), okZ_0, bd_some]
section St1
variable {σ σ' : Hp} {O O' : Nat → Nat} {s k : Nat} {R : Nat → Int32} {ks : Nat → List Nat} {bs : List Nat} {ls : Nat → Nat} {b : Nat}
theorem BK.error (h : BK σ b R k) : f_X4_error σ b = some (errR R k, σ) := by
  obtain ⟨h0, h1, h2, h3, h4, h5, h6⟩ := h
  simp only [f_X4_error, rdI_ok h0, bd_some, h2, h3, errR]
theorem BK.isFree (h : BK σ b R k) : f_X4_isFree σ b = some (if R (ix k 4) = -1 then 1 else 0, σ) := by
  obtain ⟨h0, h1, h2, h3, h4, h5, h6⟩ := h
  simp only [f_X4_isFree, f_X4_isFree_13, rdI_ok h0, bd_some, h6]
  by_cases e : R (ix k 4) = -1
  · rw [if_pos e, if_pos e, okZ_1, bd_some]
  · rw [if_neg e, if_neg e, okZ_0, bd_some]
theorem BK.grade (h : BK σ b R k) : f_X4_grade σ b = some (grd R k, σ) := by
  simp only [f_X4_grade, gk_ok h.1, bd_some, h.error, bp_some, f_X4_grade_41]
  show (if 100 < absI (errR R k) then (if 250 < absI (errR R k) then (if 500 < absI (errR R k) then some ((3 : Int32), σ) else some (2, σ)) else some (1, σ)) else some (0, σ)) = _
  unfold grd
  by_cases c1 : 100 < absI (errR R k)
  · rw [if_pos c1, if_pos c1]
    by_cases c2 : 250 < absI (errR R k)
    · rw [if_pos c2, if_pos c2]
      by_cases c3 : 500 < absI (errR R k)
      · rw [if_pos c3, if_pos c3]
      · rw [if_neg c3, if_neg c3]
    · rw [if_neg c2, if_neg c2]
  · rw [if_neg c1, if_neg c1]
theorem BK.lengthAt (h : BK σ b R k) (w : Int32) : f_X4_lengthAt σ b w = some (lenA R k w, σ) := by
  have h9 := h.error
  obtain ⟨h0, h1, h2, h3, h4, h5, h6⟩ := h
  simp only [f_X4_lengthAt, rdI_ok h0, bd_some, gk_ok h0, h9, bp_some, dvI_ok (show (1000 : Int32) ≠ 0 by decide), h1, lenA]
theorem BK.warm (h : BK σ b R k) (x : Int32) : f_X4_warm σ b x = some ((), sI σ b (fd 3) (if R (ix k 3) + x < 1000 then R (ix k 3) + x else 1000)) := by
  obtain ⟨h0, h1, h2, h3, h4, h5, h6⟩ := h
  simp only [f_X4_warm, rdI_ok h0, bd_some, h4, wrI_ok h0]
  rfl
theorem RS.kk (h : RS σ O s R ks bs ls) : hK σ s = 2 := h.1.1
theorem RS.bl (h : RS σ O s R ks bs ls) : LA σ O (lb s 1) (hR σ s 20) bs := h.2.2.2.1
theorem RS.st (h : RS σ O s R ks bs ls) : LA σ O (lb s 2) (hR σ s 21) [ls 0, ls 1, ls 2] := h.2.2.2.2.1
theorem RS.sl (h : RS σ O s R ks bs ls) {i : Nat} (hi : i < 3) : LA σ O (lb s (4 + i)) (ls i) ((ks i).map (fun k => bs.getD k 0)) := h.2.2.2.2.2.1 i hi
theorem ls_at {i : Nat} (hi : i < 3) : [ls 0, ls 1, ls 2].getD i 0 = ls i := by
  have : i = 0 ∨ i = 1 ∨ i = 2 := by omega
  rcases this with rfl | rfl | rfl <;> rfl
theorem RS.gst (h : RS σ O s R ks bs ls) {i : Nat} (hi : i < 3) : f_J2_get σ (hR σ s 21) (nI i) = some (ls i, σ) := by
  rw [h.st.get (i := i) (by simpa using hi), ls_at hi]
theorem nI_small {n : Nat} (h : n ≤ 20) : n < 2 ^ 31 := by omega
set_option maxHeartbeats 1000000 in
theorem RS.free (h : RS σ O s R ks bs ls) : f_X2_free σ s = some (freeS R bs.length, σ) := by
  have hn := h.n.2
  have key := loop_up (L := fun fuel j a => f_X2_free_4 fuel σ (nI j) a s) (f := fun k m => m ||| (if R (ix k 4) = -1 then 1 <<< (nI k &&& 31) else 0)) (fin := fun a => some (a, σ)) (n := bs.length)
    (fun fuel j a hj => by
      have hb := h.blk hj
      show f_X2_free_4_b (f_X2_free_4 fuel) σ (nI j) a s = f_X2_free_4 fuel σ (nI (j + 1)) _ s
      simp only [f_X2_free_4_b, rdR_ok h.kk, bd_some, gk_ok h.bl.kind, h.bl.size, bp_some, if_neg (nI_ge hj (nI_small hn)), h.bl.get hj, ckC_ok hb.1, gk_ok hb.1, hb.isFree, f_X2_free_40, nI_1]
      by_cases e : R (ix j 4) = -1
      · rw [if_pos e, if_neg (by decide), if_pos e]
      · rw [if_neg e, if_pos rfl, if_neg e])
    (fun fuel a => by
      show f_X2_free_4_b (f_X2_free_4 fuel) σ (nI bs.length) a s = some (a, σ)
      simp only [f_X2_free_4_b, rdR_ok h.kk, bd_some, gk_ok h.bl.kind, h.bl.size, bp_some]
      rw [if_pos (Int32.le_refl _)])
  have := key 0 FU 0 (Nat.zero_le _) (by unfold FU; omega)
  simpa [f_X2_free, freeS, itr, nI_0] using this
set_option maxHeartbeats 1000000 in
theorem RS.warmest (h : RS σ O s R ks bs ls) : f_X2_warmest σ s = some (warmS R bs.length, σ) := by
  have hn := h.n.2
  have key := loop_up (L := fun fuel j a => f_X2_warmest_4 fuel σ (nI j) a s) (f := fun k m => if m < R (ix k 3) then R (ix k 3) else m) (fin := fun a => some (a, σ)) (n := bs.length)
    (fun fuel j a hj => by
      have hb := h.blk hj
      show f_X2_warmest_4_b (f_X2_warmest_4 fuel) σ (nI j) a s = f_X2_warmest_4 fuel σ (nI (j + 1)) _ s
      simp only [f_X2_warmest_4_b, rdR_ok h.kk, bd_some, gk_ok h.bl.kind, h.bl.size, bp_some, if_neg (nI_ge hj (nI_small hn)), h.bl.get hj, ckC_ok hb.1, rdI_ok hb.1, hb.2.2.2.2.1, nI_1])
    (fun fuel a => by
      show f_X2_warmest_4_b (f_X2_warmest_4 fuel) σ (nI bs.length) a s = some (a, σ)
      simp only [f_X2_warmest_4_b, rdR_ok h.kk, bd_some, gk_ok h.bl.kind, h.bl.size, bp_some]
      rw [if_pos (Int32.le_refl _)])
  have := key 0 FU 0 (Nat.zero_le _) (by unfold FU; omega)
  simpa [f_X2_warmest, warmS, itr, nI_0] using this
/-- the number of a block -/
theorem RS.numberOf (h : RS σ O s R ks bs ls) {j : Nat} (hj : j < bs.length) : f_X2_numberOf σ s (bs.getD j 0) = some (nI j, σ) := by
  have hn := h.n.2
  have key : ∀ (m fuel : Nat), m ≤ j → j < fuel + m → f_X2_numberOf_2 fuel σ (nI m) s (bs.getD j 0) = some (nI j, σ) := by
    intro m fuel
    induction fuel generalizing m with
    | zero => intro a b; omega
    | succ f ih =>
      intro a b
      have hm : m < bs.length := by omega
      show f_X2_numberOf_2_b (f_X2_numberOf_2 f) σ (nI m) s (bs.getD j 0) = _
      simp only [f_X2_numberOf_2_b, rdR_ok h.kk, bd_some, gk_ok h.bl.kind, h.bl.size, bp_some, if_neg (nI_ge hm (nI_small hn)), h.bl.get hm, nI_1]
      by_cases e : m = j
      · subst e; rw [if_pos rfl]
      · rw [if_neg (fun z => e (h.inj hm hj z))]
        exact ih (m + 1) (by omega) (by omega)
  have := key 0 FU (Nat.zero_le _) (by unfold FU; omega)
  simpa [f_X2_numberOf, nI_0] using this
theorem RS.ne0 (h : RS σ O s R ks bs ls) (hz : hK σ 0 = 0) {j : Nat} (hj : j < bs.length) : bs.getD j 0 ≠ 0 := fun z => by
  have h3 := (h.blk hj).1
  rw [z, hz] at h3
  cases h3
theorem RS.numberOf0 (h : RS σ O s R ks bs ls) (hz : hK σ 0 = 0) : f_X2_numberOf σ s 0 = some (-1, σ) := by
  have hn := h.n.2
  have key := loop_up (L := fun fuel j (a : Unit) => f_X2_numberOf_2 fuel σ (nI j) s 0) (f := fun _ a => a) (fin := fun _ => some ((-1 : Int32), σ)) (n := bs.length)
    (fun fuel j a hj => by
      have hb := h.blk hj
      show f_X2_numberOf_2_b (f_X2_numberOf_2 fuel) σ (nI j) s 0 = f_X2_numberOf_2 fuel σ (nI (j + 1)) s 0
      simp only [f_X2_numberOf_2_b, rdR_ok h.kk, bd_some, gk_ok h.bl.kind, h.bl.size, bp_some, if_neg (nI_ge hj (nI_small hn)), h.bl.get hj, nI_1]
      rw [if_neg (h.ne0 hz hj)])
    (fun fuel a => by
      show f_X2_numberOf_2_b (f_X2_numberOf_2 fuel) σ (nI bs.length) s 0 = some (-1, σ)
      simp only [f_X2_numberOf_2_b, rdR_ok h.kk, bd_some, gk_ok h.bl.kind, h.bl.size, bp_some]
      rw [if_pos (Int32.le_refl _)])
  have := key 0 FU () (Nat.zero_le _) (by unfold FU; omega)
  simpa [f_X2_numberOf, nI_0] using this
end St1
