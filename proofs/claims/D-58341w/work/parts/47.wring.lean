/-! wring, takeOff, a new block -/
theorem u1_comm {α : Type} {f : Nat → α} {a b : Nat} {x y : α} (h : a ≠ b) : u1 (u1 f a x) b y = u1 (u1 f b y) a x := by
  funext m
  unfold u1
  by_cases h1 : m = b
  · rw [if_pos h1, if_neg (by omega), if_pos h1]
  · rw [if_neg h1]
    by_cases h2 : m = a
    · rw [if_pos h2, if_pos h2]
    · rw [if_neg h2, if_neg h2, if_neg h1]
theorem u1_u1 {α : Type} {f : Nat → α} {a : Nat} {x y : α} : u1 (u1 f a x) a y = u1 f a y := by
  funext m
  unfold u1
  by_cases h1 : m = a
  · rw [if_pos h1, if_pos h1]
  · rw [if_neg h1, if_neg h1, if_neg h1]
section Wring
variable {σ σ' : Hp} {O O' : Nat → Nat} {s k i p : Nat} {R R' : Nat → Int32} {ks : Nat → List Nat} {bs : List Nat} {ls : Nat → Nat} {b : Nat} {v x : Int32}
theorem wrmR_comm (h1 : p ≠ ix b 3) : wrmR (u1 R p v) b x = u1 (wrmR R b x) p v := by
  unfold wrmR
  rw [u1_ne (Ne.symm h1), u1_comm h1]
theorem wrR9_comm (h1 : p ≠ ix b 2) (h2 : p ≠ 2) : wrR9 (u1 R p v) b = u1 (wrR9 R b) p v := by
  unfold wrR9
  rw [u1_ne (Ne.symm h1), u1_ne (Ne.symm h2), u1_comm h1]
theorem tchR_comm {t : Option Nat} (h2 : p ≠ 2) (h3 : p ≠ 3) (h4 : p ≠ ix b 2) (h5 : p ≠ ix b 3) (h6 : ∀ k, t = some k → p ≠ ix k 2) : tchR (u1 R p v) b t = u1 (tchR R b t) p v := by
  cases t with
  | none =>
    show wrmR (u1 R p v) b ((u1 R p v) 3) = u1 (wrmR R b (R 3)) p v
    rw [wrmR_comm h5, u1_ne (Ne.symm h3)]
  | some k =>
    show wrR9 (wrR9 (wrmR (u1 R p v) b ((u1 R p v) 3)) b) k = u1 (wrR9 (wrR9 (wrmR R b (R 3)) b) k) p v
    rw [wrmR_comm h5, u1_ne (Ne.symm h3), wrR9_comm h4 h2, wrR9_comm (h6 k rfl) h2]
/-- what tchR leaves alone -/
theorem tchR_ne {t : Option Nat} {m : Nat} (h4 : m ≠ ix b 2) (h5 : m ≠ ix b 3) (h6 : ∀ k, t = some k → m ≠ ix k 2) : tchR R b t m = R m := by
  cases t with
  | none => exact u1_ne h5
  | some k => exact (u1_ne (h6 k rfl)).trans ((u1_ne h4).trans (u1_ne h5))
/-- the row's places that a State doesn't keep -/
theorem RS.place (h : RS σ O s R ks bs ls) {j : Nat} : RS σ O s (u1 R (ix j 5) v) ks bs ls := by
  obtain ⟨a, ⟨a3, a4, a5, a6⟩, ⟨b1, b2, b3, b4⟩, c1, c2, c3, d1, d2, d3, d4⟩ := h
  have lt : ∀ {m : Nat}, m < 9 → u1 R (ix j 5) v m = R m := fun hm => u1_ne (by unfold ix; omega)
  refine ⟨a, ⟨by rw [lt (by decide)]; exact a3, by rw [lt (by decide)]; exact a4, by rw [lt (by decide)]; exact a5, by rw [lt (by decide)]; exact a6⟩, ⟨b1, b2, b3, fun i hi => by rw [lt (by omega)]; exact b4 i hi⟩, c1, c2, c3, fun i hi => ⟨?_, (d1 i hi).2⟩, by rw [lt (by decide)]; exact d2, d3, d4⟩
  obtain ⟨z0, z1, z2, z3, z4, z5, z6⟩ := (d1 i hi).1
  refine ⟨z0, ?_, ?_, ?_, ?_, ?_, ?_⟩ <;> rw [u1_ne (ix_ne (by decide) (by decide) (Or.inr (by decide)))] <;> assumption
/-- a block is wrung to the stack i of m blocks, the uppermost being t -/
def wrgR (R : Nat → Int32) (m i b : Nat) (t : Option Nat) : Nat → Int32 :=
  let R1 := tchR (u1 (u1 R (ix b 5) (nI m)) (ix b 4) (nI i)) b t
  let R2 := u1 R1 (ix b 6) (R1 (ix b 6) + 1)
  u1 R2 5 (R2 5 + 1)
/-- the uppermost block b is taken off; t is below it -/
def tkR (R : Nat → Int32) (b : Nat) (t : Option Nat) : Nat → Int32 :=
  let R1 := u1 (u1 (tchR R b t) (ix b 4) (-1)) (ix b 5) (-1)
  u1 R1 6 (R1 6 + 1)
theorem ix_lt {j w m : Nat} (h : m < 9) : m ≠ ix j w := by unfold ix; omega
set_option maxHeartbeats 1000000 in
theorem RS.wring0 (h : RS σ O s R ks bs ls) (hw : Wf σ) (hz : hK σ 0 = 0) (hi : i < 3) (hb : b < bs.length) (hks : ∀ k ∈ ks i, k < bs.length) (hl : (ks i).length < 22) (hr : refR R (ks i).length b = 0) :
    ∃ σ' O', f_X2_wring σ s (nI i) (nI b) = some (0, σ') ∧ RS σ' O' s (wrgR R (ks i).length i b (topK (ks i))) (u1 ks i (ks i ++ [b])) bs ls ∧ Fr (inS O s) 60 σ σ' ∧ Ag σ O O' ∧ (∀ c, hN σ ≤ c → O' c = lb s (4 + i)) := by
  have hB := h.blk hb
  have ht : ∀ k2, topK (ks i) = some k2 → k2 < bs.length := by
    intro k2 e
    unfold topK at e
    by_cases c : ks i = []
    · rw [if_pos c] at e; cases e
    · rw [if_neg c] at e
      cases e
      have : 0 < (ks i).length := List.length_pos_iff.mpr c
      refine hks _ ?_
      rw [List.getD, List.getElem?_eq_getElem (by omega)]
      exact List.getElem_mem _
  obtain ⟨σ1, e1, r1, f1⟩ := h.touch hw hz hb ht
  obtain ⟨σ2, e2, r2, f2⟩ := r1.push f1.wf hi hb hl
  have r3 : RS (sI σ2 (bs.getD b 0) 35 (nI i)) (mk9 σ1 O (lb s (4 + i))) s (u1 (tchR R b (topK (ks i))) (ix b 4) (nI i)) (u1 ks i (ks i ++ [b])) bs ls := r2.put f2.wf hb (w := 4) (by decide)
  have f3 : Fr (inS (mk9 σ1 O (lb s (4 + i))) s) 0 σ2 (sI σ2 (bs.getD b 0) 35 (nI i)) := r2.putF f2.wf hb (w := 4) (by decide)
  have hn1 := f1.1
  have hn2 := f2.1
  have hn3 : hN σ1 = hN σ := by have := f1.2.1; omega
  have hst : f_X2_wring σ s (nI i) (nI b) = bd (rdI (sI σ2 (bs.getD b 0) 35 (nI i)) 3 (bs.getD b 0) 34) fun y42 => bd (wrI (sI σ2 (bs.getD b 0) 35 (nI i)) 3 (bs.getD b 0) 34 (y42 + (1 : Int32))) fun σ44 => bd (rdI σ44 2 s 24) fun y46 => bd (wrI σ44 2 s 24 (y46 + (1 : Int32))) fun σ48 => some ((0 : Int32), σ48) := by
    simp only [f_X2_wring, gk_ok h.kk, bd_some, h.refusal hi hb, bp_some, hr]
    rw [if_pos (by decide)]
    simp only [rdR_ok h.kk, bd_some, gk_ok h.bl.kind, h.bl.get hb, bp_some, ckC_ok hB.1, gk_ok h.kk, h.top hi hks, e1, rdR_ok r1.kk, gk_ok r1.st.kind, r1.gst hi, ckC_ok (r1.sl hi).kind, gk_ok (r1.sl hi).kind, e2, wrI_ok (r2.blk hb).1]
  rw [hst]
  generalize sI σ2 (bs.getD b 0) 35 (nI i) = σ3 at r3 f3
  have hB3 := r3.blk hb
  have r4 : RS (sI σ3 (bs.getD b 0) 34 (u1 (tchR R b (topK (ks i))) (ix b 4) (nI i) (ix b 6) + 1)) (mk9 σ1 O (lb s (4 + i))) s (u1 (u1 (tchR R b (topK (ks i))) (ix b 4) (nI i)) (ix b 6) (u1 (tchR R b (topK (ks i))) (ix b 4) (nI i) (ix b 6) + 1)) (u1 ks i (ks i ++ [b])) bs ls := r3.put f3.wf hb (w := 6) (by decide)
  have f4 : Fr (inS (mk9 σ1 O (lb s (4 + i))) s) 0 σ3 (sI σ3 (bs.getD b 0) 34 (u1 (tchR R b (topK (ks i))) (ix b 4) (nI i) (ix b 6) + 1)) := r3.putF f3.wf hb (w := 6) (by decide)
  simp only [rdI_ok hB3.1, bd_some, hB3.2.2.2.2.2.1, wrI_ok hB3.1]
  generalize sI σ3 (bs.getD b 0) 34 (u1 (tchR R b (topK (ks i))) (ix b 4) (nI i) (ix b 6) + 1) = σ4 at r4 f4
  obtain ⟨r5, f5⟩ := r4.cnt f4.wf (t := 1) (v := u1 (u1 (tchR R b (topK (ks i))) (ix b 4) (nI i)) (ix b 6) (u1 (tchR R b (topK (ks i))) (ix b 4) (nI i) (ix b 6) + 1) 5 + 1) (by decide)
  refine ⟨sI σ4 s 24 (u1 (u1 (tchR R b (topK (ks i))) (ix b 4) (nI i)) (ix b 6) (u1 (tchR R b (topK (ks i))) (ix b 4) (nI i) (ix b 6) + 1) 5 + 1), mk9 σ1 O (lb s (4 + i)), ?_, ?_, ?_, ?_, ?_⟩
  · simp only [rdI_ok r4.kk, bd_some, r4.2.1.2.1, wrI_ok r4.kk]
  · have e : wrgR R (ks i).length i b (topK (ks i)) = u1 (u1 (u1 (u1 (tchR R b (topK (ks i))) (ix b 4) (nI i)) (ix b 6) (u1 (tchR R b (topK (ks i))) (ix b 4) (nI i) (ix b 6) + 1)) 5 (u1 (u1 (tchR R b (topK (ks i))) (ix b 4) (nI i)) (ix b 6) (u1 (tchR R b (topK (ks i))) (ix b 4) (nI i) (ix b 6) + 1) 5 + 1)) (ix b 5) (nI (ks i).length) := by
      have n5 : ∀ k, topK (ks i) = some k → ix b 5 ≠ ix k 2 := fun k _ => ix_ne (by decide) (by decide) (Or.inr (by decide))
      have n4 : ∀ k, topK (ks i) = some k → ix b 4 ≠ ix k 2 := fun k _ => ix_ne (by decide) (by decide) (Or.inr (by decide))
      have q : ∀ {w v : Nat}, w < 7 → v < 7 → w ≠ v → ix b w ≠ ix b v := fun a c d => ix_ne a c (Or.inr d)
      unfold wrgR
      rw [tchR_comm (Ne.symm (ix_lt (by decide))) (Ne.symm (ix_lt (by decide))) (q (by decide) (by decide) (by decide)) (q (by decide) (by decide) (by decide)) n4, tchR_comm (Ne.symm (ix_lt (by decide))) (Ne.symm (ix_lt (by decide))) (q (by decide) (by decide) (by decide)) (q (by decide) (by decide) (by decide)) n5]
      dsimp only
      rw [u1_comm (a := ix b 5) (b := ix b 4) (q (by decide) (by decide) (by decide)), u1_comm (a := ix b 5) (b := ix b 6) (q (by decide) (by decide) (by decide)), u1_ne (b := ix b 6) (a := ix b 5) (q (by decide) (by decide) (by decide)), u1_comm (a := ix b 5) (b := 5) (Ne.symm (ix_lt (by decide))), u1_ne (b := 5) (a := ix b 5) (ix_lt (by decide))]
    rw [e]
    exact r5.place
  · have w : ∀ {c : Nat}, c < hN σ → inS (mk9 σ1 O (lb s (4 + i))) s c → inS O s c := by
      intro c hc hh
      have : mk9 σ1 O (lb s (4 + i)) c = O c := mk9.ag c (by omega)
      unfold inS at hh ⊢
      rwa [this] at hh
    exact (((f1.trans (k := 60) (W := inS O s) f2 (fun _ _ h => h) (fun _ _ h => h) (by omega)).trans (k := 60) (W := inS O s) f3 (fun _ _ h => h) (fun c hc h => w hc h) (by omega)).trans (k := 60) (W := inS O s) f4 (fun _ _ h => h) (fun c hc h => w hc h) (by omega)).trans f5 (fun _ _ h => h) (fun c hc h => w hc h) (by omega)
  · intro c hc
    exact mk9.ag c (by omega)
  · intro c hc
    exact mk9.nw (by omega)
theorem RS.wringN (h : RS σ O s R ks bs ls) (hw : Wf σ) (hi : i < 3) (hb : b < bs.length) (hr : ¬ refR R (ks i).length b ≤ 0) :
    ∃ σ', f_X2_wring σ s (nI i) (nI b) = some (refR R (ks i).length b, σ') ∧ RS σ' O s (u1 R 7 (R 7 + 1)) ks bs ls ∧ Fr (inS O s) 0 σ σ' := by
  obtain ⟨r5, f5⟩ := h.cnt hw (t := 3) (v := R 7 + 1) (by decide)
  refine ⟨_, ?_, r5, f5⟩
  simp only [f_X2_wring, gk_ok h.kk, bd_some, h.refusal hi hb, bp_some]
  rw [if_neg hr]
  simp only [rdI_ok h.kk, bd_some, h.2.1.2.2.2, wrI_ok h.kk]
set_option maxHeartbeats 1000000 in
/-- the uppermost block goes: ks i is k ++ [b] -/
theorem RS.takeOff (h : RS σ O s R ks bs ls) (hw : Wf σ) (hz : hK σ 0 = 0) (hi : i < 3) {kk : List Nat} (he : ks i = kk ++ [b]) (hks : ∀ k ∈ ks i, k < bs.length) :
    ∃ σ', f_X2_takeOff σ s (nI i) = some (nI b, σ') ∧ RS σ' O s (tkR R b (topK kk)) (u1 ks i kk) bs ls ∧ Fr (inS O s) 0 σ σ' := by
  have hb : b < bs.length := hks b (by rw [he]; simp)
  have hlen : (ks i).length = kk.length + 1 := by rw [he]; simp
  have hl22 : (ks i).length ≤ 22 := by have := (h.sl hi).len; simpa using this
  obtain ⟨σ1, e1, r1, f1⟩ := h.pop hw hi (j := kk.length) (by omega)
  have eb : (ks i).getD kk.length 0 = b := by rw [he]; simp [List.getD]
  have ek : (ks i).eraseIdx kk.length = kk := by rw [he, List.eraseIdx_append_of_length_le (Nat.le_refl _)]; simp
  rw [eb] at e1
  rw [ek] at r1
  have hks1 : ∀ k ∈ u1 ks i kk i, k < bs.length := fun k hk => hks k (by rw [he]; rw [u1_at] at hk; simp [hk])
  have ht : ∀ k2, topK kk = some k2 → k2 < bs.length := by
    intro k2 e
    unfold topK at e
    by_cases c : kk = []
    · rw [if_pos c] at e; cases e
    · rw [if_neg c] at e
      cases e
      have : 0 < kk.length := List.length_pos_iff.mpr c
      refine hks1 _ ?_
      rw [u1_at, List.getD, List.getElem?_eq_getElem (by omega)]
      exact List.getElem_mem _
  have hz1 : hK σ1 0 = 0 := by
    by_cases hp : 0 < hN σ
    · rw [(f1.2.2.2.2.2.2.1 0 hp).1]; exact hz
    · exact f1.wf 0 (by have := f1.2.1; omega)
  have htop := r1.top hi hks1
  rw [u1_at] at htop
  obtain ⟨σ2, e2, r2, f2⟩ := r1.touch f1.wf hz1 hb ht
  have r3 : RS (sI σ2 (bs.getD b 0) 35 (-1)) O s (u1 (tchR R b (topK kk)) (ix b 4) (-1)) (u1 ks i kk) bs ls := r2.put f2.wf hb (w := 4) (by decide)
  have f3 : Fr (inS O s) 0 σ2 (sI σ2 (bs.getD b 0) 35 (-1)) := r2.putF f2.wf hb (w := 4) (by decide)
  have hsz := (h.sl hi).size
  rw [List.length_map, hlen] at hsz
  have hst : f_X2_takeOff σ s (nI i) = bd (rdI (sI σ2 (bs.getD b 0) 35 (-1)) 2 s 25) fun y34 => bd (wrI (sI σ2 (bs.getD b 0) 35 (-1)) 2 s 25 (y34 + (1 : Int32))) fun σ36 => bd (gk σ36 2 s) fun e38 => bp (f_X2_numberOf σ36 s (bs.getD b 0)) fun y40 σ41 => some (y40, σ41) := by
    simp only [f_X2_takeOff, rdR_ok h.kk, bd_some, gk_ok h.st.kind, h.gst hi, bp_some, ckC_ok (h.sl hi).kind, gk_ok (h.sl hi).kind, hsz, nI_pred, e1, ckC_ok (r1.blk hb).1, gk_ok r1.kk, htop, e2, wrI_ok (r2.blk hb).1]
  rw [hst]
  generalize sI σ2 (bs.getD b 0) 35 (-1) = σ3 at r3 f3
  obtain ⟨r5, f5⟩ := r3.cnt f3.wf (t := 2) (v := u1 (tchR R b (topK kk)) (ix b 4) (-1) 6 + 1) (by decide)
  refine ⟨sI σ3 s 25 (u1 (tchR R b (topK kk)) (ix b 4) (-1) 6 + 1), ?_, ?_, ((f1.trans (k := 0) (W := inS O s) f2 (fun _ _ h => h) (fun _ _ h => h) (by omega)).trans (k := 0) (W := inS O s) f3 (fun _ _ h => h) (fun _ _ h => h) (by omega)).trans f5 (fun _ _ h => h) (fun _ _ h => h) (by omega)⟩
  · have hno := r5.numberOf hb
    simp only [rdI_ok r3.kk, bd_some, r3.2.1.2.2.1, wrI_ok r3.kk]
    rw [gk_ok (show hK (sI σ3 s 25 _) s = 2 from r5.kk), bd_some]
    rw [show f_X2_numberOf (sI σ3 s 25 (u1 (tchR R b (topK kk)) (ix b 4) (-1) 6 + 1)) s (bs.getD b 0) = _ from hno, bp_some]
  · have e : tkR R b (topK kk) = u1 (u1 (u1 (tchR R b (topK kk)) (ix b 4) (-1)) 6 (u1 (tchR R b (topK kk)) (ix b 4) (-1) 6 + 1)) (ix b 5) (-1) := by
      unfold tkR
      dsimp only
      rw [u1_ne (b := 6) (a := ix b 5) (ix_lt (by decide)), u1_comm (a := ix b 5) (b := 6) (Ne.symm (ix_lt (by decide)))]
    rw [e]
    exact r5.place
end Wring
