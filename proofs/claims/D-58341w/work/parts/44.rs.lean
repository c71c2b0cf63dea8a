/-! WHO OWNS A CELL (O: a mark for each address; 0: nobody writes it), lists that are owned, a State that stands for a row -/
/-- the marks of the old cells stay -/
def Ag (σ : Hp) (O O' : Nat → Nat) : Prop := ∀ c, c < hN σ → O' c = O c
theorem Ag.rf {σ : Hp} {O : Nat → Nat} : Ag σ O O := fun _ _ => rfl
theorem Ag.trans {σ σ1 : Hp} {O O1 O2 : Nat → Nat} (h : Ag σ O O1) (g : Ag σ1 O1 O2) (hn : hN σ ≤ hN σ1) : Ag σ O O2 := fun c hc => (g c (by omega)).trans (h c hc)
/-- all that is new from σ on is n's -/
def mk9 (σ : Hp) (O : Nat → Nat) (n : Nat) : Nat → Nat := fun c => if hN σ ≤ c then n else O c
theorem mk9.ag {σ : Hp} {O : Nat → Nat} {n : Nat} : Ag σ O (mk9 σ O n) := fun c hc => if_neg (by omega)
theorem mk9.nw {σ : Hp} {O : Nat → Nat} {n c : Nat} (h : hN σ ≤ c) : mk9 σ O n c = n := if_pos h
/-- a list that n owns -/
def LA (σ : Hp) (O : Nat → Nat) (n l : Nat) (xs : List Nat) : Prop := ∃ arr, AL σ l arr xs ∧ O l = n ∧ (hK σ arr = 105 → O arr = n) ∧ (hK σ arr = 202 → O arr = 0)
section LA0
variable {σ σ' : Hp} {O O' : Nat → Nat} {n l k : Nat} {xs : List Nat} {W : Nat → Prop}
theorem LA.kind (h : LA σ O n l xs) : hK σ l = 10 := h.choose_spec.1.1
theorem LA.size (h : LA σ O n l xs) : f_J2_size σ l = some (nI xs.length, σ) := h.choose_spec.1.size
theorem LA.isEmpty (h : LA σ O n l xs) : f_J2_isEmpty σ l = some (if xs = [] then 1 else 0, σ) := h.choose_spec.1.isEmpty
theorem LA.get (h : LA σ O n l xs) {i : Nat} (hi : i < xs.length) : f_J2_get σ l (nI i) = some (xs.getD i 0, σ) := h.choose_spec.1.get hi
theorem LA.mem (h : LA σ O n l xs) {x : Nat} (hx : x ∈ xs) : inO (hK σ x) := h.choose_spec.1.2.2.2.2.1 x hx
theorem LA.len (h : LA σ O n l xs) : xs.length ≤ 22 := h.choose_spec.1.2.2.2.1
theorem AL.ark {arr : Nat} (h : AL σ l arr xs) : hK σ arr = 105 ∨ hK σ arr = 202 := h.2.2.2.2.2.elim (fun h => Or.inl h.1) (fun h => Or.inr h.2.1)
theorem LA.mv1 (h : LA σ O n l xs) (hw : Wf σ) (hf : Fr W k σ σ') (hn : ∀ c, c < hN σ → W c → O c ≠ n ∧ O c ≠ 0) (ha : ∀ c, c < hN σ → O c = n ∨ O c = 0 → O' c = O c) : LA σ' O' n l xs := by
  obtain ⟨arr, h1, h2, h3, h4⟩ := h
  have hl : l < hN σ := hw.lt (by rw [h1.1]; decide)
  have har : arr < hN σ := hw.lt (by rcases h1.ark with e | e <;> rw [e] <;> decide)
  have hka : hK σ' arr = hK σ arr := (hf.2.2.2.2.2.2.1 arr har).1
  refine ⟨arr, h1.mv hw hf (fun z => (hn l hl z).1 h2) (fun z => ?_), (ha l hl (Or.inl h2)).trans h2, fun z => (ha arr har (Or.inl (h3 (hka ▸ z)))).trans (h3 (hka ▸ z)), fun z => (ha arr har (Or.inr (h4 (hka ▸ z)))).trans (h4 (hka ▸ z))⟩
  rcases h1.ark with e | e
  · exact (hn arr har z).1 (h3 e)
  · exact (hn arr har z).2 (h4 e)
theorem LA.mv (h : LA σ O n l xs) (hw : Wf σ) (hf : Fr W k σ σ') (hn : ∀ c, c < hN σ → W c → O c ≠ n ∧ O c ≠ 0) (ha : Ag σ O O') : LA σ' O' n l xs := h.mv1 hw hf hn fun c hc _ => ha c hc
theorem LA.add {e : Nat} (h : LA σ O n l xs) (hn : xs.length < 22) (he : inO (hK σ e)) (hw : Wf σ) : ∃ σ', f_J2_add σ l e = some (1, σ') ∧ LA σ' (mk9 σ O n) n l (xs ++ [e]) ∧ Fr (fun c => O c = n) 60 σ σ' := by
  obtain ⟨arr, h1, h2, h3, h4⟩ := h
  obtain ⟨σ', arr', b1, b2, b3, b4⟩ := h1.add hn he hw
  have hl : l < hN σ := hw.lt (by rw [h1.1]; decide)
  refine ⟨σ', b1, ⟨arr', b2, (mk9.ag l hl).trans h2, fun z => ?_, fun z => ?_⟩, b3.wk (fun c hc z => ?_) (Nat.le_refl _)⟩
  · rcases b4 with ⟨e1, e2⟩ | e1
    · rw [e1]; exact (mk9.ag arr (hw.lt (by rw [e2]; decide))).trans (h3 e2)
    · rw [e1]; exact mk9.nw (Nat.le_refl _)
  · rcases b2.2.2.2.2.2 with ⟨q, -⟩ | ⟨-, -, -, q⟩
    · rw [q] at z; cases z
    · exact absurd q (by simp)
  · rcases z with z | ⟨z, y⟩
    · rw [z]; exact h2
    · rw [z]; exact h3 y
theorem LA.remove {i : Nat} (h : LA σ O n l xs) (hi : i < xs.length) (hw : Wf σ) : ∃ σ', f_J2_remove σ l (nI i) = some (xs.getD i 0, σ') ∧ LA σ' O n l (xs.eraseIdx i) ∧ Fr (fun c => O c = n) 0 σ σ' := by
  obtain ⟨arr, h1, h2, h3, h4⟩ := h
  obtain ⟨σ', b1, b2, b3, b4⟩ := h1.remove hi hw
  have hka : hK σ' arr = hK σ arr := b3.kind hw (by rw [b4]; decide)
  refine ⟨σ', b1, ⟨arr, b2, h2, fun z => h3 b4, fun z => ?_⟩, b3.wk (fun c hc z => ?_) (Nat.le_refl _)⟩
  · rw [hka, b4] at z; cases z
  · rcases z with z | z
    · rw [z]; exact h2
    · rw [z]; exact h3 b4
theorem LA.init (h : hK σ l = 10) (hd : hK σ (hQ σ 0) = 202) (hz : hL σ (hQ σ 0) = 0) (hw : Wf σ) (h0 : hI σ l 102 = 0) (ho : O l = n) (hq : O (hQ σ 0) = 0) : ∃ σ', f_J2_init σ l = some ((), σ') ∧ LA σ' O n l [] ∧ Fr (fun c => c = l) 0 σ σ' := by
  obtain ⟨σ', b1, b2, b3⟩ := AL.init h hd hz hw h0
  refine ⟨σ', b1, ⟨hQ σ 0, b2, ho, fun z => ?_, fun _ => hq⟩, b3⟩
  rw [b3.kind hw (by rw [hd]; decide), hd] at z
  cases z
end LA0
/-- the place w of the block k in a row -/
def ix (k w : Nat) : Nat := 9 + 7 * k + w
/-- a Block stands for the block k of a row -/
def BK (σ : Hp) (b : Nat) (R : Nat → Int32) (k : Nat) : Prop := hK σ b = 3 ∧ hI σ b 30 = R (ix k 0) ∧ hI σ b 31 = R (ix k 1) ∧ hI σ b 32 = R (ix k 2) ∧ hI σ b 33 = R (ix k 3) ∧ hI σ b 34 = R (ix k 6) ∧ hI σ b 35 = R (ix k 4)
def lb (s i : Nat) : Nat := 100 * s + i
/-- the State s stands for the row R, its stacks for ks (the numbers of their blocks); bs: its blocks; ls: its stacks' lists -/
def RS (σ : Hp) (O : Nat → Nat) (s : Nat) (R : Nat → Int32) (ks : Nat → List Nat) (bs : List Nat) (ls : Nat → Nat) : Prop :=
  (hK σ s = 2 ∧ O s = lb s 0) ∧ (hI σ s 23 = R 4 ∧ hI σ s 24 = R 5 ∧ hI σ s 25 = R 6 ∧ hI σ s 26 = R 7) ∧
  (hK σ (hR σ s 22) = 101 ∧ hL σ (hR σ s 22) = 4 ∧ O (hR σ s 22) = lb s 3 ∧ ∀ j, j < 4 → hA σ (hR σ s 22) j = R j) ∧
  LA σ O (lb s 1) (hR σ s 20) bs ∧ LA σ O (lb s 2) (hR σ s 21) [ls 0, ls 1, ls 2] ∧ (∀ i, i < 3 → LA σ O (lb s (4 + i)) (ls i) ((ks i).map (fun k => bs.getD k 0))) ∧
  (∀ k, k < bs.length → BK σ (bs.getD k 0) R k ∧ O (bs.getD k 0) = lb s (10 + k)) ∧ R 8 = nI bs.length ∧ bs.length ≤ 20 ∧ s ≠ 0
section RS0
variable {σ σ' : Hp} {O O' : Nat → Nat} {s k : Nat} {R : Nat → Int32} {ks : Nat → List Nat} {bs : List Nat} {ls : Nat → Nat} {W : Nat → Prop}
/-- the marks of a State's cells -/
def isS (s m : Nat) : Prop := 100 * s ≤ m ∧ m < 100 * s + 100
theorem lb_is {i : Nat} (h : i < 100) : isS s (lb s i) := ⟨Nat.le_add_right _ _, Nat.add_lt_add_left h _⟩
theorem lb_inj {i j : Nat} (h : lb s i = lb s j) : i = j := Nat.add_left_cancel h
theorem lb_ne0 (hs : s ≠ 0) {i : Nat} : lb s i ≠ 0 := by unfold lb; omega
theorem BK.mv {b : Nat} (h : BK σ b R k) (hs : Sam σ σ' b) : BK σ' b R k := by
  obtain ⟨h0, h1, h2, h3, h4, h5, h6⟩ := h
  obtain ⟨s1, s2, s3, s4, s5, s6⟩ := hs
  exact ⟨s1.trans h0, by rw [s3]; exact h1, by rw [s3]; exact h2, by rw [s3]; exact h3, by rw [s3]; exact h4, by rw [s3]; exact h5, by rw [s3]; exact h6⟩
/-- another's cells are written -/
theorem RS.mv1 {K : Nat} (h : RS σ O s R ks bs ls) (hw : Wf σ) (hf : Fr W K σ σ') (hn : ∀ c, c < hN σ → W c → ¬ isS s (O c) ∧ O c ≠ 0) (ha : ∀ c, c < hN σ → isS s (O c) ∨ O c = 0 → O' c = O c) : RS σ' O' s R ks bs ls := by
  obtain ⟨⟨a1, a2⟩, ⟨a3, a4, a5, a6⟩, ⟨b1, b2, b3, b4⟩, c1, c2, c3, d1, d2, d3, d4⟩ := h
  have ns : ∀ {c i : Nat}, i < 100 → c < hN σ → O c = lb s i → ¬ W c := fun hi hc ho hW => (hn _ hc hW).1 (by rw [ho]; exact lb_is hi)
  have ls1 : s < hN σ := hw.lt (by rw [a1]; decide)
  have lse : hR σ s 22 < hN σ := hw.lt (by rw [b1]; decide)
  obtain ⟨s1, s2, s3, s4, s5, s6⟩ := hf.sam hw (a := s) (by rw [a1]; decide) (ns (by decide) ls1 a2)
  obtain ⟨t1, t2, t3, t4, t5, t6⟩ := hf.sam hw (a := hR σ s 22) (by rw [b1]; decide) (ns (by decide) lse b3)
  have la : ∀ {i : Nat}, i < 100 → ∀ c, c < hN σ → W c → O c ≠ lb s i ∧ O c ≠ 0 := fun hi c hc hW => ⟨fun e => (hn c hc hW).1 (by rw [e]; exact lb_is hi), (hn c hc hW).2⟩
  have lg : ∀ {i : Nat}, i < 100 → ∀ c, c < hN σ → O c = lb s i ∨ O c = 0 → O' c = O c := fun hi c hc z => ha c hc (z.imp (fun e => by rw [e]; exact lb_is hi) id)
  refine ⟨⟨s1.trans a1, (ha s ls1 (Or.inl (by rw [a2]; exact lb_is (by decide)))).trans a2⟩, ⟨by rw [s3]; exact a3, by rw [s3]; exact a4, by rw [s3]; exact a5, by rw [s3]; exact a6⟩, ⟨by rw [s4]; exact t1.trans b1, by rw [s4]; exact t2.trans b2, by rw [s4]; exact (ha _ lse (Or.inl (by rw [b3]; exact lb_is (by decide)))).trans b3, fun j hj => by rw [s4, t5]; exact b4 j hj⟩, ?_, ?_, fun i hi => ?_, fun j hj => ?_, d2, d3, d4⟩
  · rw [s4]; exact c1.mv1 hw hf (la (by decide)) (lg (by decide))
  · rw [s4]; exact c2.mv1 hw hf (la (by decide)) (lg (by decide))
  · exact (c3 i hi).mv1 hw hf (la (by omega)) (lg (by omega))
  · have hk := (d1 j hj).1.1
    have hlt : bs.getD j 0 < hN σ := hw.lt (by rw [hk]; decide)
    exact ⟨(d1 j hj).1.mv (hf.sam hw (by rw [hk]; decide) (ns (by omega) hlt (d1 j hj).2)), (ha _ hlt (Or.inl (by rw [(d1 j hj).2]; exact lb_is (by omega)))).trans (d1 j hj).2⟩
theorem RS.mv {K : Nat} (h : RS σ O s R ks bs ls) (hw : Wf σ) (hf : Fr W K σ σ') (hn : ∀ c, c < hN σ → W c → ¬ isS s (O c) ∧ O c ≠ 0) (ha : Ag σ O O') : RS σ' O' s R ks bs ls := h.mv1 hw hf hn fun c hc _ => ha c hc
theorem RS.n (h : RS σ O s R ks bs ls) : R 8 = nI bs.length ∧ bs.length ≤ 20 := ⟨h.2.2.2.2.2.2.2.1, h.2.2.2.2.2.2.2.2.1⟩
theorem RS.blk (h : RS σ O s R ks bs ls) {j : Nat} (hj : j < bs.length) : BK σ (bs.getD j 0) R j := (h.2.2.2.2.2.2.1 j hj).1
theorem RS.blkO (h : RS σ O s R ks bs ls) {j : Nat} (hj : j < bs.length) : O (bs.getD j 0) = lb s (10 + j) := (h.2.2.2.2.2.2.1 j hj).2
theorem RS.inj (h : RS σ O s R ks bs ls) {i j : Nat} (hi : i < bs.length) (hj : j < bs.length) (e : bs.getD i 0 = bs.getD j 0) : i = j := by
  have h1 := h.blkO hi
  rw [e, h.blkO hj] at h1
  have := lb_inj h1
  omega
/-- a block's number that the row and the object keep -/
def fd : Nat → Nat
  | 0 => 30
  | 1 => 31
  | 2 => 32
  | 3 => 33
  | 6 => 34
  | _ => 35
theorem u1_at {α : Type} {f : Nat → α} {a : Nat} {v : α} : u1 f a v a = v := if_pos rfl
theorem u1_ne {α : Type} {f : Nat → α} {a b : Nat} {v : α} (h : b ≠ a) : u1 f a v b = f b := if_neg h
theorem ix_ne {j k w v : Nat} (hw : w < 7) (hv : v < 7) (h : j ≠ k ∨ w ≠ v) : ix j w ≠ ix k v := by unfold ix; omega
theorem BK.put {b : Nat} (h : BK σ b R k) {w : Nat} {v : Int32} (hw : w = 1 ∨ w = 2 ∨ w = 3 ∨ w = 4 ∨ w = 6) : BK (sI σ b (fd w) v) b (u1 R (ix k w) v) k := by
  obtain ⟨h0, h1, h2, h3, h4, h5, h6⟩ := h
  rcases hw with rfl | rfl | rfl | rfl | rfl <;>
    refine ⟨h0, ?_, ?_, ?_, ?_, ?_, ?_⟩ <;> rw [I_sI] <;> simp [fd, u1, ix, *]
theorem RS.put (h : RS σ O s R ks bs ls) (hw9 : Wf σ) {j w : Nat} {v : Int32} (hj : j < bs.length) (hw : w = 1 ∨ w = 2 ∨ w = 3 ∨ w = 4 ∨ w = 6) : RS (sI σ (bs.getD j 0) (fd w) v) O s (u1 R (ix j w) v) ks bs ls := by
  have hb := h.blk hj
  have hbO := h.blkO hj
  have hI := fun {i j : Nat} => h.inj (i := i) (j := j)
  obtain ⟨⟨a1, a2⟩, ⟨a3, a4, a5, a6⟩, ⟨b1, b2, b3, b4⟩, c1, c2, c3, d1, d2, d3, d4⟩ := h
  have hlt : ∀ {m : Nat}, m < 9 → u1 R (ix j w) v m = R m := fun hm => u1_ne (by unfold ix; omega)
  have hf := Fr.sI (a := bs.getD j 0) (f := fd w) (v := v) hw9
  have la : ∀ {i : Nat}, i < 10 → ∀ c, c < hN σ → c = bs.getD j 0 → O c ≠ lb s i ∧ O c ≠ 0 := by
    intro i hi c _ e
    rw [e, hbO]
    exact ⟨fun z => by have := lb_inj z; omega, lb_ne0 d4⟩
  have hs : s ≠ bs.getD j 0 := fun e => by rw [e, hb.1] at a1; cases a1
  refine ⟨⟨a1, a2⟩, ⟨?_, ?_, ?_, ?_⟩, ⟨b1, b2, b3, fun i hi => ?_⟩, c1.mv hw9 hf (la (by decide)) Ag.rf, c2.mv hw9 hf (la (by decide)) Ag.rf, fun i hi => (c3 i hi).mv hw9 hf (la (by omega)) Ag.rf, fun i hi => ⟨?_, (d1 i hi).2⟩, ?_, d3, d4⟩
  · rw [I_sI, if_neg (fun z => hs z.1), hlt (by decide)]; exact a3
  · rw [I_sI, if_neg (fun z => hs z.1), hlt (by decide)]; exact a4
  · rw [I_sI, if_neg (fun z => hs z.1), hlt (by decide)]; exact a5
  · rw [I_sI, if_neg (fun z => hs z.1), hlt (by decide)]; exact a6
  · rw [hlt (by omega)]; exact b4 i hi
  · by_cases e : i = j
    · subst e; exact hb.put hw
    · obtain ⟨z0, z1, z2, z3, z4, z5, z6⟩ := (d1 i hi).1.mv (Sam_sI (σ := σ) (a := bs.getD j 0) (k := fd w) (v := v) (b := bs.getD i 0) (fun z => e (hI hi hj z)))
      have hw7 : w < 7 := by omega
      refine ⟨z0, ?_, ?_, ?_, ?_, ?_, ?_⟩ <;> rw [u1_ne (ix_ne (by decide) hw7 (Or.inl e))] <;> assumption
  · rw [hlt (by decide)]; exact d2
end RS0
