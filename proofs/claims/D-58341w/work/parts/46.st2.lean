/-! A State that changes: a block's numbers, the counters, a stack -/
/-- the cells of the State s -/
def inS (O : Nat → Nat) (s : Nat) : Nat → Prop := fun c => isS s (O c)
section St2
variable {σ σ' : Hp} {O O' : Nat → Nat} {s k i : Nat} {R : Nat → Int32} {ks : Nat → List Nat} {bs : List Nat} {ls : Nat → Nat} {b : Nat}
theorem RS.putF (h : RS σ O s R ks bs ls) (hw9 : Wf σ) {j w : Nat} {v : Int32} (hj : j < bs.length) (hw : w = 1 ∨ w = 2 ∨ w = 3 ∨ w = 4 ∨ w = 6) : Fr (inS O s) 0 σ (sI σ (bs.getD j 0) (fd w) v) :=
  (Fr.sI hw9).wk (fun c _ e => by
    show isS s (O c)
    rw [e, h.blkO hj]
    have := h.n.2
    exact lb_is (by omega)) (Nat.le_refl _)
theorem RS.cnt (h : RS σ O s R ks bs ls) (hw9 : Wf σ) {t : Nat} {v : Int32} (ht : t < 4) : RS (sI σ s (23 + t) v) O s (u1 R (4 + t) v) ks bs ls ∧ Fr (inS O s) 0 σ (sI σ s (23 + t) v) := by
  have hf := Fr.sI (a := s) (f := 23 + t) (v := v) hw9
  obtain ⟨⟨a1, a2⟩, ⟨a3, a4, a5, a6⟩, ⟨b1, b2, b3, b4⟩, c1, c2, c3, d1, d2, d3, d4⟩ := h
  have la : ∀ {i : Nat}, 0 < i → ∀ c, c < hN σ → c = s → O c ≠ lb s i ∧ O c ≠ 0 := by
    intro i hi c _ e
    rw [e, a2]
    exact ⟨fun z => by have := lb_inj z; omega, lb_ne0 d4⟩
  refine ⟨⟨⟨a1, a2⟩, ?_, ⟨b1, b2, b3, fun i hi => ?_⟩, c1.mv hw9 hf (la (by decide)) Ag.rf, c2.mv hw9 hf (la (by decide)) Ag.rf, fun i hi => (c3 i hi).mv hw9 hf (la (by omega)) Ag.rf, fun i hi => ⟨?_, (d1 i hi).2⟩, ?_, d3, d4⟩, hf.wk (fun c _ e => ?_) (Nat.le_refl _)⟩
  · have : t = 0 ∨ t = 1 ∨ t = 2 ∨ t = 3 := by omega
    rcases this with rfl | rfl | rfl | rfl <;> simp [I_sI, u1, *]
  · rw [u1_ne (by omega)]; exact b4 i hi
  · have hne : bs.getD i 0 ≠ s := fun e => by
      have := (d1 i hi).2
      rw [e, a2] at this
      have := lb_inj this
      omega
    obtain ⟨z0, z1, z2, z3, z4, z5, z6⟩ := (d1 i hi).1.mv (Sam_sI (σ := σ) (a := s) (k := 23 + t) (v := v) hne)
    refine ⟨z0, ?_, ?_, ?_, ?_, ?_, ?_⟩ <;> rw [u1_ne (by unfold ix; omega)] <;> assumption
  · rw [u1_ne (by omega)]; exact d2
  · show isS s (O c)
    rw [e, a2]
    exact lb_is (by decide)
theorem inS_lb {n : Nat} {j : Nat} (hj : j < 100) (hn : n = lb s j) : ∀ c, c < hN σ → O c = n → inS O s c := fun c _ e => by
  show isS s (O c)
  rw [e, hn]
  exact lb_is hj
theorem map_snoc {f : Nat → Nat} {xs : List Nat} {x : Nat} : (xs ++ [x]).map f = xs.map f ++ [f x] := by simp
theorem map_erase {f : Nat → Nat} {xs : List Nat} {j : Nat} : (xs.eraseIdx j).map f = (xs.map f).eraseIdx j := by
  induction xs generalizing j with
  | nil => simp
  | cons a t ih =>
    cases j with
    | zero => simp
    | succ j => simp [ih]
/-- the marks of the State's other parts aren't touched by a stack's list -/
theorem RS.stk (h : RS σ O s R ks bs ls) (hw : Wf σ) (hi : i < 3) {K : Nat} {v : List Nat} (hf : Fr (fun c => O c = lb s (4 + i)) K σ σ') (ha : Ag σ O O') (hl : LA σ' O' (lb s (4 + i)) (ls i) (v.map (fun k => bs.getD k 0))) : RS σ' O' s R (u1 ks i v) bs ls := by
  obtain ⟨⟨a1, a2⟩, ⟨a3, a4, a5, a6⟩, ⟨b1, b2, b3, b4⟩, c1, c2, c3, d1, d2, d3, d4⟩ := h
  have ls1 : s < hN σ := hw.lt (by rw [a1]; decide)
  have lse : hR σ s 22 < hN σ := hw.lt (by rw [b1]; decide)
  have nw : ∀ {c j : Nat}, O c = lb s j → j ≠ 4 + i → ¬ (O c = lb s (4 + i)) := fun e hj z => hj (lb_inj (e.symm.trans z))
  obtain ⟨s1, s2, s3, s4, s5, s6⟩ := hf.sam hw (a := s) (by rw [a1]; decide) (nw a2 (by omega))
  obtain ⟨t1, t2, t3, t4, t5, t6⟩ := hf.sam hw (a := hR σ s 22) (by rw [b1]; decide) (nw b3 (by omega))
  have la : ∀ {j : Nat}, j ≠ 4 + i → ∀ c, c < hN σ → O c = lb s (4 + i) → O c ≠ lb s j ∧ O c ≠ 0 := fun hj c _ e => ⟨fun z => hj (lb_inj (z.symm.trans e)), by rw [e]; exact lb_ne0 d4⟩
  refine ⟨⟨s1.trans a1, (ha s ls1).trans a2⟩, ⟨by rw [s3]; exact a3, by rw [s3]; exact a4, by rw [s3]; exact a5, by rw [s3]; exact a6⟩, ⟨by rw [s4]; exact t1.trans b1, by rw [s4]; exact t2.trans b2, by rw [s4]; exact (ha _ lse).trans b3, fun j hj => by rw [s4, t5]; exact b4 j hj⟩, ?_, ?_, fun j hj => ?_, fun j hj => ?_, d2, d3, d4⟩
  · rw [s4]; exact c1.mv hw hf (la (by omega)) ha
  · rw [s4]; exact c2.mv hw hf (la (by omega)) ha
  · by_cases e : j = i
    · subst e; rw [u1_at]; exact hl
    · rw [u1_ne e]; exact (c3 j hj).mv hw hf (la (by omega)) ha
  · have hk := (d1 j hj).1.1
    have hlt : bs.getD j 0 < hN σ := hw.lt (by rw [hk]; decide)
    exact ⟨(d1 j hj).1.mv (hf.sam hw (by rw [hk]; decide) (nw (d1 j hj).2 (by omega))), (ha _ hlt).trans (d1 j hj).2⟩
theorem RS.push (h : RS σ O s R ks bs ls) (hw : Wf σ) (hi : i < 3) (hb : b < bs.length) (hl : (ks i).length < 22) : ∃ σ', f_J2_add σ (ls i) (bs.getD b 0) = some (1, σ') ∧ RS σ' (mk9 σ O (lb s (4 + i))) s R (u1 ks i (ks i ++ [b])) bs ls ∧ Fr (inS O s) 60 σ σ' := by
  obtain ⟨σ', b1, b2, b3⟩ := (h.sl hi).add (e := bs.getD b 0) (by simpa using hl) (Or.inr (Or.inl (h.blk hb).1)) hw
  exact ⟨σ', b1, h.stk hw hi b3 mk9.ag (by rw [map_snoc]; exact b2), b3.wk (inS_lb (by omega) rfl) (Nat.le_refl _)⟩
theorem RS.pop (h : RS σ O s R ks bs ls) (hw : Wf σ) (hi : i < 3) {j : Nat} (hj : j < (ks i).length) : ∃ σ', f_J2_remove σ (ls i) (nI j) = some (bs.getD ((ks i).getD j 0) 0, σ') ∧ RS σ' O s R (u1 ks i ((ks i).eraseIdx j)) bs ls ∧ Fr (inS O s) 0 σ σ' := by
  obtain ⟨σ', b1, b2, b3⟩ := (h.sl hi).remove (i := j) (by simpa using hj) hw
  refine ⟨σ', ?_, h.stk hw hi b3 Ag.rf (by rw [map_erase]; exact b2), b3.wk (inS_lb (by omega) rfl) (Nat.le_refl _)⟩
  rw [b1]
  simp [List.getD, List.getElem?_map, List.getElem?_eq_getElem hj]
/-- why a block is refused by a stack of m -/
def refR (R : Nat → Int32) (m b : Nat) : Int32 := if R (ix b 4) = -1 then (if m = 6 then 2 else if R (ix b 3) ≤ R 1 then (if grd R b = 3 then 4 else 0) else 3) else 1
theorem RS.se (h : RS σ O s R ks bs ls) {j : Nat} (hj : j < 4) : elI σ 101 (hR σ s 22) (nI j) = some (R j) := by
  obtain ⟨b1, b2, b3, b4⟩ := h.2.2.1
  rw [elI_ok b1 ((jI_in (by omega)).mpr (by rw [b2]; exact hj)), nI_clamp (by omega), b4 j hj]
theorem RS.se1 (h : RS σ O s R ks bs ls) : elI σ 101 (hR σ s 22) (1 : Int32) = some (R 1) := h.se (j := 1) (by decide)
theorem RS.se2 (h : RS σ O s R ks bs ls) : elI σ 101 (hR σ s 22) (2 : Int32) = some (R 2) := h.se (j := 2) (by decide)
theorem RS.se3 (h : RS σ O s R ks bs ls) : elI σ 101 (hR σ s 22) (3 : Int32) = some (R 3) := h.se (j := 3) (by decide)
theorem RS.refusal (h : RS σ O s R ks bs ls) (hi : i < 3) (hb : b < bs.length) : f_X2_refusal σ s (nI i) (nI b) = some (refR R (ks i).length b, σ) := by
  have hB := h.blk hb
  have hsz := (h.sl hi).size
  rw [List.length_map] at hsz
  have hlen : (ks i).length ≤ 22 := by have := (h.sl hi).len; simpa using this
  simp only [f_X2_refusal, rdR_ok h.kk, bd_some, gk_ok h.bl.kind, h.bl.get hb, bp_some, ckC_ok hB.1, gk_ok hB.1, hB.isFree, gk_ok h.st.kind, h.gst hi, ckC_ok (h.sl hi).kind, gk_ok (h.sl hi).kind, hsz, rdI_ok hB.1, hB.2.2.2.2.1, h.se1, hB.grade, f_X2_refusal_72]
  unfold refR
  by_cases c1 : R (ix b 4) = -1
  · rw [if_pos c1, if_pos c1, if_neg (by decide)]
    by_cases c2 : (ks i).length = 6
    · rw [if_pos c2, c2, if_pos (by decide)]
    · rw [if_neg c2, if_neg (show ¬ nI (ks i).length = 6 from fun z => c2 ((nI_eq (by omega) (by decide)).mp (z : nI (ks i).length = nI 6)))]
      by_cases c3 : R (ix b 3) ≤ R 1
      · rw [if_pos c3, if_pos c3]
        by_cases c4 : grd R b = 3
        · rw [if_pos c4, if_pos c4]
        · rw [if_neg c4, if_neg c4]
      · rw [if_neg c3, if_neg c3]
  · rw [if_neg c1, if_neg c1, if_pos rfl]
/-- the uppermost block of a stack -/
def topK (k : List Nat) : Option Nat := if k = [] then none else some (k.getD (k.length - 1) 0)
theorem RS.top (h : RS σ O s R ks bs ls) (hi : i < 3) (hks : ∀ k ∈ ks i, k < bs.length) : f_X2_top σ s (nI i) = some ((topK (ks i)).elim 0 (fun k => bs.getD k 0), σ) := by
  have hsz := (h.sl hi).size
  rw [List.length_map] at hsz
  have hlen : (ks i).length ≤ 22 := by have := (h.sl hi).len; simpa using this
  simp only [f_X2_top, rdR_ok h.kk, bd_some, gk_ok h.st.kind, h.gst hi, bp_some, ckC_ok (h.sl hi).kind, gk_ok (h.sl hi).kind, (h.sl hi).isEmpty, f_X2_top_36, hsz]
  by_cases c : ks i = []
  · have e0 : (if (ks i).map (fun k => bs.getD k 0) = [] then (1 : Int32) else 0) = 1 := if_pos (by rw [c]; rfl)
    rw [e0, if_neg (by decide)]
    unfold topK
    rw [if_pos c]
    rfl
  · have hpos : 0 < (ks i).length := List.length_pos_iff.mpr c
    have hk : (ks i).getD ((ks i).length - 1) 0 < bs.length := hks _ (by
      rw [List.getD, List.getElem?_eq_getElem (by omega)]
      exact List.getElem_mem _)
    have e0 : (if (ks i).map (fun k => bs.getD k 0) = [] then (1 : Int32) else 0) = 0 := if_neg (by simpa using c)
    rw [e0, if_pos rfl, nI_sub1 hpos, (h.sl hi).get (i := (ks i).length - 1) (by simp; omega), bp_some]
    have e : ((ks i).map (fun k => bs.getD k 0)).getD ((ks i).length - 1) 0 = bs.getD ((ks i).getD ((ks i).length - 1) 0) 0 := by
      simp [List.getD, List.getElem?_map, List.getElem?_eq_getElem (show (ks i).length - 1 < (ks i).length by omega)]
    rw [e, ckC_ok (h.blk hk).1, bd_some]
    unfold topK
    rw [if_neg c]
    rfl
/-- a hand's warmth, and the wear -/
def wrmR (R : Nat → Int32) (k : Nat) (x : Int32) : Nat → Int32 := u1 R (ix k 3) (if R (ix k 3) + x < 1000 then R (ix k 3) + x else 1000)
def wrR9 (R : Nat → Int32) (k : Nat) : Nat → Int32 := u1 R (ix k 2) (R (ix k 2) + R 2)
def tchR (R : Nat → Int32) (k1 : Nat) : Option Nat → Nat → Int32
  | none => wrmR R k1 (R 3)
  | some k2 => wrR9 (wrR9 (wrmR R k1 (R 3)) k1) k2
theorem RS.touch (h : RS σ O s R ks bs ls) (hw : Wf σ) (hz : hK σ 0 = 0) {k1 : Nat} {o : Option Nat} (h1 : k1 < bs.length) (h2 : ∀ k2, o = some k2 → k2 < bs.length) : ∃ σ', f_X2_touch σ s (bs.getD k1 0) (o.elim 0 (fun k => bs.getD k 0)) = some ((), σ') ∧ RS σ' O s (tchR R k1 o) ks bs ls ∧ Fr (inS O s) 0 σ σ' := by
  have hB := h.blk h1
  have r1 : RS (sI σ (bs.getD k1 0) 33 (if R (ix k1 3) + R 3 < 1000 then R (ix k1 3) + R 3 else 1000)) O s (wrmR R k1 (R 3)) ks bs ls := h.put hw h1 (w := 3) (by decide)
  have f1 : Fr (inS O s) 0 σ (sI σ (bs.getD k1 0) 33 (if R (ix k1 3) + R 3 < 1000 then R (ix k1 3) + R 3 else 1000)) := h.putF hw h1 (w := 3) (by decide)
  have e0 : f_X4_warm σ (bs.getD k1 0) (R 3) = some ((), sI σ (bs.getD k1 0) 33 (if R (ix k1 3) + R 3 < 1000 then R (ix k1 3) + R 3 else 1000)) := hB.warm _
  generalize sI σ (bs.getD k1 0) 33 (if R (ix k1 3) + R 3 < 1000 then R (ix k1 3) + R 3 else 1000) = σ1 at r1 f1 e0
  cases o with
  | none =>
    refine ⟨_, ?_, r1, f1⟩
    simp only [f_X2_touch, rdR_ok h.kk, bd_some, h.se3, gk_ok hB.1, e0, bp_some, f_X2_touch_44]
    exact if_pos rfl
  | some k2 =>
    have h2 := h2 k2 rfl
    have hB1 := r1.blk h1
    have r2 : RS (sI σ1 (bs.getD k1 0) 32 (wrmR R k1 (R 3) (ix k1 2) + wrmR R k1 (R 3) 2)) O s (wrR9 (wrmR R k1 (R 3)) k1) ks bs ls := r1.put f1.wf h1 (w := 2) (by decide)
    have f2 : Fr (inS O s) 0 σ1 (sI σ1 (bs.getD k1 0) 32 (wrmR R k1 (R 3) (ix k1 2) + wrmR R k1 (R 3) 2)) := r1.putF f1.wf h1 (w := 2) (by decide)
    have hne : bs.getD k2 0 ≠ 0 := h.ne0 hz h2
    show ∃ σ', f_X2_touch σ s (bs.getD k1 0) (bs.getD k2 0) = some ((), σ') ∧ _
    have step : f_X2_touch σ s (bs.getD k1 0) (bs.getD k2 0) = (bd (rdI (sI σ1 (bs.getD k1 0) 32 (wrmR R k1 (R 3) (ix k1 2) + wrmR R k1 (R 3) 2)) 3 (bs.getD k2 0) 32) fun y19 => bd (rdR (sI σ1 (bs.getD k1 0) 32 (wrmR R k1 (R 3) (ix k1 2) + wrmR R k1 (R 3) 2)) 2 s 22) fun b21 => bd (elI (sI σ1 (bs.getD k1 0) 32 (wrmR R k1 (R 3) (ix k1 2) + wrmR R k1 (R 3) 2)) 101 b21 (2 : Int32)) fun y23 => bd (wrI (sI σ1 (bs.getD k1 0) 32 (wrmR R k1 (R 3) (ix k1 2) + wrmR R k1 (R 3) 2)) 3 (bs.getD k2 0) 32 (y19 + y23)) fun σ25 => f_X2_touch_44 σ25) := by
      simp only [f_X2_touch, rdR_ok h.kk, bd_some, h.se3, gk_ok hB.1, e0, bp_some]
      rw [if_neg hne]
      simp only [rdI_ok hB1.1, bd_some, hB1.2.2.2.1, rdR_ok r1.kk, r1.se2, wrI_ok hB1.1]
    rw [step]
    generalize sI σ1 (bs.getD k1 0) 32 (wrmR R k1 (R 3) (ix k1 2) + wrmR R k1 (R 3) 2) = σ2 at r2 f2
    have hB2 := r2.blk h2
    refine ⟨sI σ2 (bs.getD k2 0) 32 (wrR9 (wrmR R k1 (R 3)) k1 (ix k2 2) + wrR9 (wrmR R k1 (R 3)) k1 2), ?_, r2.put f2.wf h2 (w := 2) (by decide), (f1.trans (k := 0) f2 (fun _ _ h => h) (fun _ _ h => h) (Nat.le_refl _)).trans (r2.putF f2.wf h2 (w := 2) (by decide)) (fun _ _ h => h) (fun _ _ h => h) (Nat.le_refl _)⟩
    simp only [rdI_ok hB2.1, bd_some, hB2.2.2.2.1, rdR_ok r2.kk, r2.se2, wrI_ok hB2.1, f_X2_touch_44]
end St2
