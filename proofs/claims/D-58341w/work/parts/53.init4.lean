/-! a new State stands for the first row -/
section Init4
variable {σ σ' : Hp} {O O' : Nat → Nat} {s n : Nat} {xs : List Nat}
theorem PS.RS {ls : Nat → Nat} (h : PS σ O s xs) (e : xs = [ls 0, ls 1, ls 2]) : RS σ O s initR (fun _ => []) [] ls := by
  obtain ⟨⟨a1, a2, d4⟩, a3, ⟨b1, b2, b3, b4⟩, c1, c2, c3, q⟩ := h
  refine ⟨⟨a1, a2⟩, ⟨?_, ?_, ?_, ?_⟩, ⟨b1, b2, b3, b4⟩, c1, by rw [← e]; exact c2, fun i hi => ?_, fun k hk => absurd hk (Nat.not_lt_zero _), ?_, Nat.zero_le _, d4⟩
  · exact a3 0 (by decide)
  · exact a3 1 (by decide)
  · exact a3 2 (by decide)
  · exact a3 3 (by decide)
  · have h9 := c3 i (by rw [e]; exact hi)
    rw [e, ls_at hi] at h9
    exact h9
  · show initR 8 = nI 0
    rw [nI_0]
    rfl
theorem RS.new (hw : Wf σ) (hq : Qk σ O) (hs0 : s ≠ 0) (hs : hN σ = s) (hO : ∀ c, c < hN σ → O c < 100 * s) :
    ∃ σ' O' ls, f_X2_init (nC σ 2 7) s = some ((), σ') ∧ RS σ' O' s initR (fun _ => []) [] ls ∧ Fr (fun _ => False) 300 σ σ' ∧ Ag σ O O' ∧ (∀ c, s ≤ c → isS s (O' c)) ∧ Qk σ' O' := by
  obtain ⟨σ0, O0, e0, p0, f0, a0, n0⟩ := PS.mk0 hw hq hs0 hs
  obtain ⟨σ1, O1, e1, p1, f1, a1, n1⟩ := p0.step f0.wf (by decide)
  obtain ⟨σ2, O2, e2, p2, f2, a2, n2⟩ := p1.step f1.wf (by simp)
  obtain ⟨σ3, O3, e3, p3, f3, a3, n3⟩ := p2.step f2.wf (by simp)
  have g0 := f0.1
  have g1 := f1.1
  have g2 := f2.1
  have g3 := f3.1
  refine ⟨σ3, O3, fun i => if i = 0 then hN σ0 else if i = 1 then hN σ1 else hN σ2, ?_, p3.RS rfl, ?_, ?_, ?_, p3.2.2.2.2.2.2⟩
  · rw [e0]
    have l1 : ∀ (k : Hp → Int32 → Nat → Option (Unit × Hp)), f_X2_init_55_b k σ0 0 s = k σ1 (nI 1) s := fun k => by have := e1 k; rwa [show nI ([] : List Nat).length = 0 from nI_0] at this
    have l4 : ∀ f : Nat, f_X2_init_55 (f + 1) σ3 (nI 3) s = some ((), σ3) := fun f => by
      show f_X2_init_55_b (f_X2_init_55 f) σ3 (nI 3) s = _
      simp only [f_X2_init_55_b]
      exact if_pos (by decide)
    have l3 : ∀ f : Nat, f_X2_init_55 (f + 2) σ2 (nI 2) s = some ((), σ3) := fun f => (e3 (f_X2_init_55 (f + 1))).trans (l4 f)
    have l2 : ∀ f : Nat, f_X2_init_55 (f + 3) σ1 (nI 1) s = some ((), σ3) := fun f => (e2 (f_X2_init_55 (f + 2))).trans (l3 f)
    have l0 : ∀ f : Nat, f_X2_init_55 (f + 4) σ0 0 s = some ((), σ3) := fun f => (l1 (f_X2_init_55 (f + 3))).trans (l2 f)
    have hF : FU = (FU - 4) + 4 := by unfold FU; omega
    rw [hF]
    exact l0 _
  · have w0 : ∀ c, c < hN σ → inS O0 s c → False := fun c hc z => by
      have h1 : 100 * s ≤ O0 c := z.1
      rw [a0 c hc] at h1
      have := hO c hc
      omega
    have w1 : ∀ c, c < hN σ → inS O1 s c → False := fun c hc z => w0 c hc (by unfold inS at z ⊢; rwa [a1 c (by omega)] at z)
    have w2 : ∀ c, c < hN σ → inS O2 s c → False := fun c hc z => w1 c hc (by unfold inS at z ⊢; rwa [a2 c (by omega)] at z)
    exact ((f0.trans (k := 100) (W := fun _ => False) f1 (fun _ _ z => z) w0 (by omega)).trans (k := 170) (W := fun _ => False) f2 (fun _ _ z => z) w1 (by omega)).trans f3 (fun _ _ z => z) w2 (by omega)
  · exact fun c hc => (a3 c (by omega)).trans ((a2 c (by omega)).trans ((a1 c (by omega)).trans (a0 c hc)))
  · intro c hc
    by_cases h3 : hN σ2 ≤ c
    · exact n3 c h3
    · rw [a3 c (by omega)]
      by_cases h2 : hN σ1 ≤ c
      · exact n2 c h2
      · rw [a2 c (by omega)]
        by_cases h1 : hN σ0 ≤ c
        · exact n1 c h1
        · rw [a1 c (by omega)]
          exact n0 c hc
end Init4
