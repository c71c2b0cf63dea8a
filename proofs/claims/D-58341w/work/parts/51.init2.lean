/-! a new State, from its cell on -/
section Init2
variable {σ σ' : Hp} {O O' : Nat → Nat} {s n : Nat} {xs : List Nat}
theorem fr_wS {W : Nat → Prop} {n j a : Nat} (ha : ∀ c, W c → c = a) (ho : O a = lb s n) (hj : j ≠ n) (hs : s ≠ 0) : ∀ c, c < hN σ → W c → O c ≠ lb s j ∧ O c ≠ 0 := fun c _ hW => by
  rw [ha c hW, ho]
  exact ⟨fun z => hj (lb_inj z).symm, lb_ne0 hs⟩
/-- what every heap of ours has: the shared empty array -/
def Qk (σ : Hp) (O : Nat → Nat) : Prop := hK σ (hQ σ 0) = 202 ∧ hL σ (hQ σ 0) = 0 ∧ O (hQ σ 0) = 0
theorem Qk.mv {W : Nat → Prop} {k : Nat} (h : Qk σ O) (hw : Wf σ) (hf : Fr W k σ σ') (ha : Ag σ O O') : Qk σ' O' := by
  obtain ⟨q1, q2, q3⟩ := h
  have lq : hQ σ 0 < hN σ := hw.lt (by rw [q1]; decide)
  unfold Qk
  rw [hf.2.2.2.2.1]
  exact ⟨(hf.2.2.2.2.2.2.1 _ lq).1.trans q1, (hf.2.2.2.2.2.2.1 _ lq).2.trans q2, (ha _ lq).trans q3⟩
/-- a new empty list -/
theorem LA.new (hw : Wf σ) (hq : Qk σ O) : ∃ σ', f_J2_init (nC σ 10 3) (hN σ) = some ((), σ') ∧ LA σ' (mk9 σ O n) n (hN σ) [] ∧ Fr (fun _ => False) 4 σ σ' ∧ hN σ' = hN σ + 1 := by
  have f1 : Fr (fun _ => False) 4 σ (nC σ 10 3) := Fr.nC hw
  obtain ⟨q1, q2, q3⟩ := hq.mv (O' := mk9 σ O n) hw f1 mk9.ag
  obtain ⟨σ', e, l, f⟩ := LA.init (σ := nC σ 10 3) (O := mk9 σ O n) (l := hN σ) (n := n) (by rw [K_nC, if_pos rfl]) q1 q2 f1.wf (by rw [I_nC, if_pos rfl]) (mk9.nw (Nat.le_refl _)) q3
  refine ⟨σ', e, l, f1.trans f (fun _ _ z => z) (fun c hc z => by omega) (by omega), ?_⟩
  have h1 := f.1
  have h2 := f.2.1
  rw [N_nC] at h1 h2
  omega
theorem init_eq {σ0 σb τ1 σe τ2 σh : Hp} {a b e : Nat} (k0 : hK σ0 s ≠ 0) (ha : hN σ0 = a) (e1 : f_J2_init (nC σ0 10 3) a = some ((), σb)) (k1 : hK σb s = 2) (t1 : sR σb s 20 a = τ1) (hb : hN τ1 = b) (e2 : f_J2_init (nC τ1 10 3) b = some ((), σe)) (k2 : hK σe s = 2) (t2 : sR σe s 21 b = τ2) (he : hN τ2 = e)
    (h1 : sA (sA (sA (sA (nC τ2 101 4) e 0 10) e 1 300) e 2 3) e 3 40 = σh) (k3 : hK σh s = 2) : f_X2_init σ0 s = f_X2_init_55 FU (sR σh s 22 e) 0 s := by
  have g2 : gz (nC σ0 10 3) a = some () := gz_ok (by rw [K_nC, if_pos ha.symm]; decide)
  have g3 : gz (nC τ1 10 3) b = some () := gz_ok (by rw [K_nC, if_pos hb.symm]; decide)
  have g4 : nwA τ2 101 4 = some (nC τ2 101 4) := by
    rw [nwA_ok (by decide) (by decide)]
    congr 1
  have kg : hK (nC τ2 101 4) e = 101 := by rw [K_nC, if_pos he.symm]
  have lg : hL (nC τ2 101 4) e = 4 := by rw [L_nC, if_pos he.symm]
  have st : ∀ {τ : Hp} {v : Int32} {i : Int32} (j : Nat), nI j = i → hK τ e = 101 → hL τ e = 4 → j < 4 → stI τ 101 e i v = some (sA τ e j v) := fun j hi h1 h2 h3 => by
    rw [← hi, stI_ok h1 ((jI_in (by omega)).mpr (by rw [h2]; exact h3)), nI_clamp (by omega)]
  have s0 := st (τ := nC τ2 101 4) (v := 10) (i := 0) 0 (by decide +kernel) kg lg (by decide)
  have s1 := st (τ := sA (nC τ2 101 4) e 0 10) (v := 300) (i := 1) 1 (by decide +kernel) kg lg (by decide)
  have s2 := st (τ := sA (sA (nC τ2 101 4) e 0 10) e 1 300) (v := 3) (i := 2) 2 (by decide +kernel) kg lg (by decide)
  have s3 := st (τ := sA (sA (sA (nC τ2 101 4) e 0 10) e 1 300) e 2 3) (v := 40) (i := 3) 3 (by decide +kernel) kg lg (by decide)
  simp only [f_X2_init, gz_ok k0, bd_some, ha, g2, e1, bp_some, wrR_ok k1, t1, hb, g3, e2, wrR_ok k2, t2, he, g4, s0, s1, s2, s3, h1, wrR_ok k3]
/-- the settings' array -/
theorem set_new {τ2 : Hp} (hw : Wf τ2) : ∃ σh, sA (sA (sA (sA (nC τ2 101 4) (hN τ2) 0 10) (hN τ2) 1 300) (hN τ2) 2 3) (hN τ2) 3 40 = σh ∧ Fr (fun _ => False) 5 τ2 σh ∧ hN σh = hN τ2 + 1 ∧ hK σh (hN τ2) = 101 ∧ hL σh (hN τ2) = 4 ∧ ∀ j, j < 4 → hA σh (hN τ2) j = initR j := by
  have f0 : Fr (fun _ => False) 5 τ2 (nC τ2 101 4) := Fr.nC hw
  have f1 := (((f0.trans (k := 5) (W := fun c => c = hN τ2) (Fr.sA (a := hN τ2) (f := 0) (v := 10) f0.wf) (fun _ _ h => h.elim) (fun _ _ h => h) (by omega)).trans (k := 5) (W := fun c => c = hN τ2) (Fr.sA (a := hN τ2) (f := 1) (v := 300) f0.wf) (fun _ _ h => h) (fun _ _ h => h) (by omega)).trans (k := 5) (W := fun c => c = hN τ2) (Fr.sA (a := hN τ2) (f := 2) (v := 3) f0.wf) (fun _ _ h => h) (fun _ _ h => h) (by omega)).trans (k := 5) (W := fun c => c = hN τ2) (Fr.sA (a := hN τ2) (f := 3) (v := 40) f0.wf) (fun _ _ h => h) (fun _ _ h => h) (by omega)
  refine ⟨_, rfl, f1.wk (fun c hc z => by omega) (Nat.le_refl _), ?_, ?_, ?_, fun j hj => ?_⟩
  · rw [N_sA, N_sA, N_sA, N_sA, N_nC]
  · rw [K_sA, K_sA, K_sA, K_sA, K_nC, if_pos rfl]
  · rw [L_sA, L_sA, L_sA, L_sA, L_nC, if_pos rfl]
  · rw [A_sA, A_sA, A_sA, A_sA]
    have : j = 0 ∨ j = 1 ∨ j = 2 ∨ j = 3 := by omega
    rcases this with rfl | rfl | rfl | rfl <;> simp [initR]
end Init2
