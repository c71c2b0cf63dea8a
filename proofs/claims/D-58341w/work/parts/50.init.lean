/-! a new State -/
def initR : Nat → Int32 := fun m => if m = 0 then 10 else if m = 1 then 300 else if m = 2 then 3 else if m = 3 then 40 else 0
/-- a State that is being made: xs are its stacks' lists so far -/
def PS (σ : Hp) (O : Nat → Nat) (s : Nat) (xs : List Nat) : Prop :=
  (hK σ s = 2 ∧ O s = lb s 0 ∧ s ≠ 0) ∧ (∀ j, j < 4 → hI σ s (23 + j) = 0) ∧
  (hK σ (hR σ s 22) = 101 ∧ hL σ (hR σ s 22) = 4 ∧ O (hR σ s 22) = lb s 3 ∧ ∀ j, j < 4 → hA σ (hR σ s 22) j = initR j) ∧
  LA σ O (lb s 1) (hR σ s 20) [] ∧ LA σ O (lb s 2) (hR σ s 21) xs ∧ (∀ i, i < xs.length → LA σ O (lb s (4 + i)) (xs.getD i 0) []) ∧
  (hK σ (hQ σ 0) = 202 ∧ hL σ (hQ σ 0) = 0 ∧ O (hQ σ 0) = 0)
section Init
variable {σ σ' : Hp} {O O' : Nat → Nat} {s : Nat} {xs : List Nat}
theorem PS.mv {W : Nat → Prop} {K : Nat} (h : PS σ O s xs) (hw : Wf σ) (hf : Fr W K σ σ') (hn : ∀ c, c < hN σ → W c → ¬ isS s (O c) ∧ O c ≠ 0) (ha : Ag σ O O') (hx : xs.length ≤ 3) : PS σ' O' s xs := by
  obtain ⟨⟨a1, a2, d4⟩, a3, ⟨b1, b2, b3, b4⟩, c1, c2, c3, q1, q2, q3⟩ := h
  have ns : ∀ {c i : Nat}, i < 100 → c < hN σ → O c = lb s i → ¬ W c := fun hi hc ho hW => (hn _ hc hW).1 (by rw [ho]; exact lb_is hi)
  have ls1 : s < hN σ := hw.lt (by rw [a1]; decide)
  have lse : hR σ s 22 < hN σ := hw.lt (by rw [b1]; decide)
  have lq : hQ σ 0 < hN σ := hw.lt (by rw [q1]; decide)
  obtain ⟨s1, s2, s3, s4, s5, s6⟩ := hf.sam hw (a := s) (by rw [a1]; decide) (ns (by decide) ls1 a2)
  obtain ⟨t1, t2, t3, t4, t5, t6⟩ := hf.sam hw (a := hR σ s 22) (by rw [b1]; decide) (ns (by decide) lse b3)
  have la : ∀ {i : Nat}, i < 100 → ∀ c, c < hN σ → W c → O c ≠ lb s i ∧ O c ≠ 0 := fun hi c hc hW => ⟨fun e => (hn c hc hW).1 (by rw [e]; exact lb_is hi), (hn c hc hW).2⟩
  refine ⟨⟨s1.trans a1, (ha s ls1).trans a2, d4⟩, fun j hj => by rw [s3]; exact a3 j hj, ⟨by rw [s4]; exact t1.trans b1, by rw [s4]; exact t2.trans b2, by rw [s4]; exact (ha _ lse).trans b3, fun j hj => by rw [s4, t5]; exact b4 j hj⟩, ?_, ?_, fun i hi => ?_, ?_⟩
  · rw [s4]; exact c1.mv hw hf (la (by decide)) ha
  · rw [s4]; exact c2.mv hw hf (la (by decide)) ha
  · exact (c3 i hi).mv hw hf (la (by omega)) ha
  · rw [hf.2.2.2.2.1]
    exact ⟨(hf.2.2.2.2.2.2.1 _ lq).1.trans q1, (hf.2.2.2.2.2.2.1 _ lq).2.trans q2, (ha _ lq).trans q3⟩
set_option maxHeartbeats 1000000 in
/-- one more stack -/
theorem PS.step (h : PS σ O s xs) (hw : Wf σ) (hx : xs.length < 3) : ∃ σ' O', (∀ k55 : Hp → Int32 → Nat → Option (Unit × Hp), f_X2_init_55_b k55 σ (nI xs.length) s = k55 σ' (nI (xs.length + 1)) s) ∧ PS σ' O' s (xs ++ [hN σ]) ∧ Fr (inS O s) 70 σ σ' ∧ Ag σ O O' ∧ (∀ c, hN σ ≤ c → isS s (O' c)) := by
  let σ1 := nC σ 10 3
  let O1 := mk9 σ O (lb s (4 + xs.length))
  have f1 : Fr (fun _ => False) 4 σ σ1 := Fr.nC hw
  have k1 : hK σ1 (hN σ) = 10 := by show hK (nC σ 10 3) (hN σ) = 10; rw [K_nC, if_pos rfl]
  have p1 : PS σ1 O1 s xs := h.mv hw f1 (fun _ _ z => z.elim) mk9.ag (by omega)
  have O1n : O1 (hN σ) = lb s (4 + xs.length) := mk9.nw (Nat.le_refl _)
  have ns : ∀ j, j ≠ 4 + xs.length → ∀ c, c < hN σ1 → c = hN σ → O1 c ≠ lb s j ∧ O1 c ≠ 0 := fun j hj c _ e => by
    rw [e, O1n]
    exact ⟨fun z => hj (lb_inj z).symm, lb_ne0 h.1.2.2⟩
  obtain ⟨σ2, e2, l2, f2⟩ := LA.init (σ := σ1) (O := O1) (l := hN σ) (n := lb s (4 + xs.length)) k1 p1.2.2.2.2.2.2.1 p1.2.2.2.2.2.2.2.1 f1.wf (by show hI (nC σ 10 3) (hN σ) 102 = 0; rw [I_nC, if_pos rfl]) O1n p1.2.2.2.2.2.2.2.2
  -- the parts that stay
  have hN2 : hN σ1 = hN σ + 1 := rfl
  have fs : Fr (fun c => c = hN σ) 4 σ σ2 := f1.trans f2 (fun _ _ z => z.elim) (fun _ _ z => z) (by omega)
  have sS : Sam σ1 σ2 s := f2.sam f1.wf (by rw [p1.1.1]; decide) (fun e => by have := O1n; rw [← e, p1.1.2.1] at this; have := lb_inj this; omega)
  have l21 : LA σ2 O1 (lb s 2) (hR σ1 s 21) xs := p1.2.2.2.2.1.mv f1.wf f2 (ns 2 (by omega)) Ag.rf
  obtain ⟨σ3, e3, l3, f3⟩ := l21.add (e := hN σ) (by omega) (by rw [show hK σ2 (hN σ) = 10 from l2.kind]; exact Or.inr (Or.inr (Or.inr (Or.inr rfl)))) f2.wf
  have fr3 : ∀ j, j ≠ 2 → ∀ c, c < hN σ2 → O1 c = lb s 2 → O1 c ≠ lb s j ∧ O1 c ≠ 0 := fun j hj c _ e => ⟨fun z => hj (lb_inj (z.symm.trans e)), by rw [e]; exact lb_ne0 h.1.2.2⟩
  have ls2 : hK σ2 s = 2 := sS.1.trans p1.1.1
  have sS3 : Sam σ2 σ3 s := f3.sam f2.wf (by rw [ls2]; decide) (fun e => by have := lb_inj (p1.1.2.1.symm.trans e); omega)
  have e20 : hR σ3 s = hR σ s := by rw [sS3.2.2.2.1, sS.2.2.2.1, (f1.sam hw (a := s) (by rw [h.1.1]; decide) (fun z => z)).2.2.2.1]
  have e21 : hR σ1 s = hR σ s := (f1.sam hw (a := s) (by rw [h.1.1]; decide) (fun z => z)).2.2.2.1
  have se2 : hK σ2 (hR σ1 s 22) = 101 := (f2.kind f1.wf (by rw [p1.2.2.1.1]; decide)).trans p1.2.2.1.1
  have sQ : Sam σ1 σ2 (hR σ1 s 22) := f2.sam f1.wf (by rw [p1.2.2.1.1]; decide) (fun e => by have := O1n; rw [← e, p1.2.2.1.2.2.1] at this; have := lb_inj this; omega)
  have sQ3 : Sam σ2 σ3 (hR σ1 s 22) := f3.sam f2.wf (by rw [se2]; decide) (fun e => by have := lb_inj (p1.2.2.1.2.2.1.symm.trans e); omega)
  have hlen : (xs ++ [hN σ]).length = xs.length + 1 := by simp
  let O2 := mk9 σ2 O1 (lb s 2)
  have lt2 : ∀ {c : Nat}, c < hN σ1 → c < hN σ2 := fun hc => Nat.lt_of_lt_of_le hc f2.1
  have ls1 : s < hN σ1 := f1.wf.lt (by rw [p1.1.1]; decide)
  have lse : hR σ1 s 22 < hN σ1 := f1.wf.lt (by rw [p1.2.2.1.1]; decide)
  refine ⟨σ3, O2, fun k55 => ?_, ⟨⟨sS3.1.trans ls2, (mk9.ag s (lt2 ls1)).trans p1.1.2.1, h.1.2.2⟩, fun j hj => ?_, ⟨?_, ?_, ?_, fun j hj => ?_⟩, ?_, ?_, fun i hi => ?_, ?_⟩, ?_, ?_, ?_⟩
  · simp only [f_X2_init_55_b]
    rw [if_neg (show ¬ (3 : Int32) ≤ nI xs.length from nI_ge (b := 3) hx (by decide)), rdR_ok h.1.1, bd_some, gz_ok (show hK (nC σ 10 3) (hN σ) ≠ 0 by rw [show hK (nC σ 10 3) (hN σ) = 10 from k1]; decide), bd_some, show f_J2_init (nC σ 10 3) (hN σ) = some ((), σ2) from e2, bp_some, ← e21, gk_ok l21.kind, bd_some, e3, bp_some, nI_1]
  · rw [sS3.2.2.1, sS.2.2.1]; exact p1.2.1 j hj
  · rw [e20, ← e21]; exact sQ3.1.trans se2
  · rw [e20, ← e21]; exact sQ3.2.1.trans (sQ.2.1.trans p1.2.2.1.2.1)
  · rw [e20, ← e21]; exact (mk9.ag _ (lt2 lse)).trans p1.2.2.1.2.2.1
  · rw [e20, ← e21, sQ3.2.2.2.2.1, sQ.2.2.2.2.1]; exact p1.2.2.1.2.2.2 j hj
  · rw [e20, ← e21]; exact (p1.2.2.2.1.mv f1.wf f2 (ns 1 (by omega)) Ag.rf).mv f2.wf f3 (fr3 1 (by decide)) mk9.ag
  · rw [e20, ← e21]; exact l3
  · by_cases c : i < xs.length
    · rw [getD_append c]
      exact ((p1.2.2.2.2.2.1 i c).mv f1.wf f2 (ns (4 + i) (by omega)) Ag.rf).mv f2.wf f3 (fr3 (4 + i) (by omega)) mk9.ag
    · have e : i = xs.length := by rw [hlen] at hi; omega
      subst e
      rw [getD_snoc, if_pos rfl]
      exact l2.mv f2.wf f3 (fr3 _ (by omega)) mk9.ag
  · have lq : hQ σ 0 < hN σ := hw.lt (by rw [h.2.2.2.2.2.2.1]; decide)
    have q0 : hQ σ3 = hQ σ := f3.2.2.2.2.1.trans (f2.2.2.2.2.1.trans f1.2.2.2.2.1)
    have ft : Fr (fun c => c = hN σ ∨ O1 c = lb s 2) 70 σ σ3 := fs.trans f3 (fun _ _ z => Or.inl z) (fun _ _ z => Or.inr z) (by omega)
    rw [q0]
    exact ⟨(ft.2.2.2.2.2.2.1 _ lq).1.trans h.2.2.2.2.2.2.1, (ft.2.2.2.2.2.2.1 _ lq).2.trans h.2.2.2.2.2.2.2.1, (mk9.ag _ (lt2 (Nat.lt_succ_of_lt lq))).trans ((mk9.ag _ lq).trans h.2.2.2.2.2.2.2.2)⟩
  · refine fs.trans f3 (fun c hc e => absurd e (Nat.ne_of_lt hc)) (fun c hc z => ?_) (by omega)
    have : O1 c = O c := mk9.ag c hc
    show isS s (O c)
    rw [← this, z]
    exact lb_is (by decide)
  · intro c hc
    exact (mk9.ag c (lt2 (Nat.lt_succ_of_lt hc))).trans (mk9.ag c hc)
  · intro c hc
    by_cases e : hN σ2 ≤ c
    · rw [show O2 c = lb s 2 from mk9.nw e]; exact lb_is (by decide)
    · rw [show O2 c = O1 c from mk9.ag c (by omega), show O1 c = lb s (4 + xs.length) from mk9.nw hc]
      exact lb_is (by omega)
end Init
