/-! the case's list of blocks: one comes, one goes -/
section Blks
variable {σ σ' : Hp} {O O' : Nat → Nat} {s k i : Nat} {R R' : Nat → Int32} {ks ks' : Nat → List Nat} {bs bs' : List Nat} {ls : Nat → Nat} {b : Nat} {x y : Int32}
theorem RS.re {K : Nat} (h : RS σ O s R ks bs ls) (hw : Wf σ) (hf : Fr (fun c => O c = lb s 1) K σ σ') (ha : ∀ c, c < hN σ → (∀ j, 10 ≤ j → j < 100 → O c ≠ lb s j) → O' c = O c) (hl : LA σ' O' (lb s 1) (hR σ s 20) bs')
    (hm : ∀ i, i < 3 → (ks' i).map (fun k => bs'.getD k 0) = (ks i).map (fun k => bs.getD k 0)) (hb : ∀ k, k < bs'.length → BK σ' (bs'.getD k 0) R' k ∧ O' (bs'.getD k 0) = lb s (10 + k)) (hR9 : ∀ m, m < 8 → R' m = R m) (h8 : R' 8 = nI bs'.length) (h20 : bs'.length ≤ 20) : RS σ' O' s R' ks' bs' ls := by
  obtain ⟨⟨a1, a2⟩, ⟨a3, a4, a5, a6⟩, ⟨b1, b2, b3, b4⟩, c1, c2, c3, d1, d2, d3, d4⟩ := h
  have ls1 : s < hN σ := hw.lt (by rw [a1]; decide)
  have lse : hR σ s 22 < hN σ := hw.lt (by rw [b1]; decide)
  have nw : ∀ {c j : Nat}, O c = lb s j → j ≠ 1 → ¬ (O c = lb s 1) := fun e hj z => hj (lb_inj (e.symm.trans z))
  have ag : ∀ {c j : Nat}, c < hN σ → O c = lb s j → j < 10 → O' c = O c := fun hc e hj => ha _ hc fun m h1 h2 z => by
    have := lb_inj (e.symm.trans z)
    omega
  obtain ⟨s1, s2, s3, s4, s5, s6⟩ := hf.sam hw (a := s) (by rw [a1]; decide) (nw a2 (by decide))
  obtain ⟨t1, t2, t3, t4, t5, t6⟩ := hf.sam hw (a := hR σ s 22) (by rw [b1]; decide) (nw b3 (by decide))
  have la : ∀ {j : Nat}, j ≠ 1 → ∀ c, c < hN σ → O c = lb s 1 → O c ≠ lb s j ∧ O c ≠ 0 := fun hj c _ e => ⟨fun z => hj (lb_inj (z.symm.trans e)), by rw [e]; exact lb_ne0 d4⟩
  have lg : ∀ {j : Nat}, j < 10 → ∀ c, c < hN σ → O c = lb s j ∨ O c = 0 → O' c = O c := fun hj c hc z => by
    rcases z with z | z
    · exact ag hc z hj
    · exact ha c hc fun m _ _ e => lb_ne0 d4 (e.symm.trans z)
  refine ⟨⟨s1.trans a1, (ag ls1 a2 (by decide)).trans a2⟩, ⟨by rw [s3, hR9 4 (by decide)]; exact a3, by rw [s3, hR9 5 (by decide)]; exact a4, by rw [s3, hR9 6 (by decide)]; exact a5, by rw [s3, hR9 7 (by decide)]; exact a6⟩, ⟨by rw [s4]; exact t1.trans b1, by rw [s4]; exact t2.trans b2, by rw [s4]; exact (ag lse b3 (by decide)).trans b3, fun j hj => by rw [s4, t5, hR9 j (by omega)]; exact b4 j hj⟩, ?_, ?_, fun j hj => ?_, hb, h8, h20, d4⟩
  · rw [s4]; exact hl
  · rw [s4]; exact c2.mv1 hw hf (la (by decide)) (lg (by decide))
  · rw [hm j hj]; exact (c3 j hj).mv1 hw hf (la (by omega)) (lg (by omega))
/-- the row with a block more -/
def zR (R : Nat → Int32) (n : Nat) : Nat → Int32 := fun m => if ix n 0 ≤ m ∧ m < ix n 7 then 0 else R m
def addR (R : Nat → Int32) (n : Nat) (x y : Int32) : Nat → Int32 := u1 (u1 (u1 (u1 (u1 (zR R n) (ix n 0) x) (ix n 1) y) (ix n 4) (-1)) (ix n 5) (-1)) 8 (nI (n + 1))
theorem addR_at {n w : Nat} (hw : w < 7) : addR R n x y (ix n w) = if w = 0 then x else if w = 1 then y else if w = 4 ∨ w = 5 then -1 else 0 := by
  unfold addR
  rw [u1_ne (Ne.symm (ix_lt (by decide)))]
  have z : zR R n (ix n w) = 0 := if_pos ⟨by unfold ix; omega, by unfold ix; omega⟩
  have e : w = 0 ∨ w = 1 ∨ w = 2 ∨ w = 3 ∨ w = 4 ∨ w = 5 ∨ w = 6 := by omega
  rcases e with rfl | rfl | rfl | rfl | rfl | rfl | rfl <;> simp [u1, ix, z] <;> (unfold zR ix; simp)
theorem addR_ne {n m : Nat} (h8 : m ≠ 8) (h : m < ix n 0 ∨ ix n 7 ≤ m) : addR R n x y m = R m := by
  unfold addR
  rw [u1_ne h8, u1_ne, u1_ne, u1_ne, u1_ne]
  · exact if_neg (by omega)
  all_goals (unfold ix at *; omega)
theorem getD_append {xs : List Nat} {e j : Nat} (h : j < xs.length) : (xs ++ [e]).getD j 0 = xs.getD j 0 := by rw [getD_snoc, if_neg (by omega)]
set_option maxHeartbeats 1000000 in
theorem RS.add (h : RS σ O s R ks bs ls) (hw : Wf σ) (hn : bs.length < 20) (hks : ∀ i, i < 3 → ∀ k ∈ ks i, k < bs.length) :
    ∃ σ' O', f_X2_add σ s x y = some (nI bs.length, σ') ∧ RS σ' O' s (addR R bs.length x y) ks (bs ++ [hN σ]) ls ∧ Fr (inS O s) 70 σ σ' ∧ Ag σ O O' ∧ (∀ c, hN σ ≤ c → isS s (O' c)) := by
  let σ1 := nC σ 3 6
  let σ2 := sI (sI (sI σ1 (hN σ) 35 (-1)) (hN σ) 30 x) (hN σ) 31 y
  have k1 : hK σ1 (hN σ) = 3 := by show hK (nC σ 3 6) (hN σ) = 3; rw [K_nC, if_pos rfl]
  have f1 : Fr (fun _ => False) 7 σ σ1 := Fr.nC hw
  have f12 : Fr (fun c => c = hN σ) 0 σ1 σ2 := ((Fr.sI f1.wf).trans (k := 0) (W := fun c => c = hN σ) (Fr.sI (Fr.sI f1.wf).wf) (fun _ _ h => h) (fun _ _ h => h) (by omega)).trans (Fr.sI (Fr.sI (Fr.sI f1.wf).wf).wf) (fun _ _ h => h) (fun _ _ h => h) (by omega)
  have f2 : Fr (fun _ => False) 7 σ σ2 := f1.trans f12 (fun _ _ h => h) (fun c hc e => by omega) (by omega)
  let O1 := mk9 σ O (lb s (10 + bs.length))
  have r2 : RS σ2 O1 s R ks bs ls := h.mv hw f2 (fun _ _ z => z.elim) mk9.ag
  have hN2 : hN σ2 = hN σ + 1 := rfl
  have kb : hK σ2 (hN σ) = 3 := k1
  obtain ⟨σ3, e3, l3, f3⟩ := r2.bl.add (e := hN σ) (by omega) (Or.inr (Or.inl kb)) f2.wf
  have e20 : hR σ2 s 20 = hR σ s 20 := by
    have := (f2.sam hw (a := s) (by rw [h.kk]; decide) (fun z => z)).2.2.2.1
    rw [this]
  let O2 := mk9 σ2 O1 (lb s 1)
  have hw3 := f3.wf
  have sam : ∀ {c : Nat}, hK σ2 c = 3 → (O1 c ≠ lb s 1) → Sam σ2 σ3 c := fun hc hne => f3.sam f2.wf (by rw [hc]; decide) hne
  have O1n : O1 (hN σ) = lb s (10 + bs.length) := mk9.nw (Nat.le_refl _)
  have i6 : ∀ j, hI σ2 (hN σ) j = if j = 31 then y else if j = 30 then x else if j = 35 then -1 else 0 := by
    intro j
    show hI (sI (sI (sI (nC σ 3 6) (hN σ) 35 (-1)) (hN σ) 30 x) (hN σ) 31 y) (hN σ) j = _
    rw [I_sI, I_sI, I_sI, I_nC, if_pos rfl]
    simp
  refine ⟨σ3, O2, ?_, ?_, ?_, ?_, ?_⟩
  · have e4 : f_X4_init σ1 (hN σ) x y = some ((), σ2) := by
      simp only [f_X4_init, gz_ok (show hK σ1 (hN σ) ≠ 0 by rw [k1]; decide), bd_some, wrI_ok k1, wrI_ok (show hK (sI σ1 (hN σ) 35 (-1)) (hN σ) = 3 from k1), wrI_ok (show hK (sI (sI σ1 (hN σ) 35 (-1)) (hN σ) 30 x) (hN σ) = 3 from k1)]
      rfl
    have e5 : hR σ3 s 20 = hR σ2 s 20 := by
      have := (f3.sam f2.wf (a := s) (by rw [r2.kk]; decide) (fun z => by have := lb_inj (r2.1.2.symm.trans z); omega)).2.2.2.1
      rw [this]
    have k3 : hK σ3 s = 2 := (f3.kind f2.wf (by rw [r2.kk]; decide)).trans r2.kk
    have hsz := l3.size
    rw [← e5] at hsz
    have kl : hK σ3 (hR σ3 s 20) = 10 := by rw [e5]; exact l3.kind
    simp only [f_X2_add, rdR_ok h.kk, bd_some]
    rw [gz_ok (show hK (nC σ 3 6) (hN σ) ≠ 0 by rw [show hK (nC σ 3 6) (hN σ) = 3 from k1]; decide), bd_some, show f_X4_init (nC σ 3 6) (hN σ) x y = some ((), σ2) from e4, bp_some, ← e20, gk_ok r2.bl.kind, bd_some, e3, bp_some, rdR_ok k3, bd_some, gk_ok kl, bd_some, hsz, bp_some]
    simp [nI_pred]
  · refine r2.re f2.wf f3 (fun c hc _ => mk9.ag c hc) l3 (fun i hi => ?_) (fun k hk => ?_) (fun m hm => addR_ne (by omega) (Or.inl (by unfold ix; omega))) ?_ ?_
    · exact List.map_congr_left fun k hk => getD_append (hks i hi k hk)
    · by_cases e : k < bs.length
      · rw [getD_append e]
        have hB := r2.blk e
        have hBO := r2.blkO e
        have hlt : bs.getD k 0 < hN σ2 := f2.wf.lt (by rw [hB.1]; decide)
        obtain ⟨z0, z1, z2, z3, z4, z5, z6⟩ := hB.mv (sam hB.1 (fun z => by have := lb_inj (hBO.symm.trans z); omega))
        have hq : ∀ {w : Nat}, w < 7 → addR R bs.length x y (ix k w) = R (ix k w) := fun hw => addR_ne (Ne.symm (ix_lt (by decide))) (Or.inl (by unfold ix; omega))
        exact ⟨⟨z0, by rw [hq (by decide)]; exact z1, by rw [hq (by decide)]; exact z2, by rw [hq (by decide)]; exact z3, by rw [hq (by decide)]; exact z4, by rw [hq (by decide)]; exact z5, by rw [hq (by decide)]; exact z6⟩, (mk9.ag _ hlt).trans hBO⟩
      · have e9 : k = bs.length := by simp at hk; omega
        subst e9
        rw [getD_snoc, if_pos rfl]
        obtain ⟨s1, s2, s3, s4, s5, s6⟩ := sam kb (fun z => by have := lb_inj (O1n.symm.trans z); omega)
        refine ⟨⟨s1.trans kb, ?_, ?_, ?_, ?_, ?_, ?_⟩, (mk9.ag _ (by omega)).trans O1n⟩ <;> rw [s3, i6, addR_at (by decide)] <;> rfl
    · unfold addR
      rw [u1_at]
      simp
    · simp; omega
  · exact f2.trans f3 (fun _ _ z => z.elim) (fun c hc z => by
      have : O1 c = O c := mk9.ag c hc
      show isS s (O c)
      rw [← this, z]
      exact lb_is (by decide)) (by omega)
  · intro c hc
    exact (mk9.ag c (by omega)).trans (mk9.ag c hc)
  · intro c hc
    by_cases e : hN σ2 ≤ c
    · rw [show O2 c = lb s 1 from mk9.nw e]; exact lb_is (by decide)
    · rw [show O2 c = O1 c from mk9.ag c (by omega), show O1 c = lb s (10 + bs.length) from mk9.nw hc]
      exact lb_is (by omega)
end Blks
