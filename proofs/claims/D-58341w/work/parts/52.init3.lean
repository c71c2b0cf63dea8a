/-! a new State: its parts put together -/
section Init3
variable {σ σ' : Hp} {O O' : Nat → Nat} {s n : Nat} {xs : List Nat}
set_option maxHeartbeats 6000000 in
theorem PS.mk0 (hw : Wf σ) (hq : Qk σ O) (hs0 : s ≠ 0) (hs : hN σ = s) :
    ∃ σ' O', f_X2_init (nC σ 2 7) s = f_X2_init_55 FU σ' 0 s ∧ PS σ' O' s [] ∧ Fr (fun _ => False) 30 σ σ' ∧ Ag σ O O' ∧ (∀ c, s ≤ c → isS s (O' c)) := by
  obtain ⟨σ0, hσ0⟩ : ∃ x, x = nC σ 2 7 := ⟨_, rfl⟩
  have f0 : Fr (fun _ => False) 8 σ σ0 := by rw [hσ0]; exact Fr.nC hw
  have N0 : hN σ0 = s + 1 := by rw [hσ0, N_nC, hs]
  have ks0 : hK σ0 s = 2 := by rw [hσ0, K_nC, if_pos hs.symm]
  have is0 : ∀ j, hI σ0 s j = 0 := fun j => by rw [hσ0, I_nC, if_pos hs.symm]
  rw [← hσ0]
  clear hσ0
  have O0s : mk9 σ O (lb s 0) s = lb s 0 := mk9.nw (by omega)
  have ag0 : Ag σ O (mk9 σ O (lb s 0)) := mk9.ag
  generalize mk9 σ O (lb s 0) = O0 at O0s ag0
  have q0 : Qk σ0 O0 := hq.mv hw f0 ag0
  obtain ⟨σb, eb, lb1, fb, Nb⟩ := LA.new (n := lb s 1) f0.wf q0
  rw [N0] at eb lb1 Nb
  have O1s : mk9 σ0 O0 (lb s 1) s = lb s 0 := (mk9.ag s (by omega)).trans O0s
  have ag1 : Ag σ0 O0 (mk9 σ0 O0 (lb s 1)) := mk9.ag
  have nw1 : ∀ c, s + 1 ≤ c → mk9 σ0 O0 (lb s 1) c = lb s 1 := fun c hc => mk9.nw (by omega)
  generalize mk9 σ0 O0 (lb s 1) = O1 at O1s ag1 lb1 nw1
  have sb : Sam σ0 σb s := fb.sam f0.wf (by rw [ks0]; decide) (fun z => z)
  have ksb : hK σb s = 2 := sb.1.trans ks0
  obtain ⟨σc, hσc⟩ : ∃ x, x = sR σb s 20 (s + 1) := ⟨_, rfl⟩
  have fc : Fr (fun c => c = s) 0 σb σc := by rw [hσc]; exact Fr.sR fb.wf
  have Nc : hN σc = s + 2 := by rw [hσc, N_sR, Nb]
  have ksc : hK σc s = 2 := by rw [hσc, K_sR, ksb]
  have isc : ∀ j, hI σc s j = 0 := fun j => by rw [hσc, I_sR, sb.2.2.1, is0]
  have rc : hR σc s 20 = s + 1 := by rw [hσc, R_sR, if_pos ⟨rfl, rfl⟩]
  have lc1 : LA σc O1 (lb s 1) (s + 1) [] := lb1.mv fb.wf fc (fr_wS (fun _ h => h) O1s (by decide) hs0) Ag.rf
  have q1 : Qk σc O1 := (q0.mv f0.wf fb ag1).mv fb.wf fc Ag.rf
  obtain ⟨σe, ee, le2, fe, Ne⟩ := LA.new (n := lb s 2) fc.wf q1
  rw [Nc] at ee le2 Ne
  have O2s : mk9 σc O1 (lb s 2) s = lb s 0 := (mk9.ag s (by omega)).trans O1s
  have ag2 : Ag σc O1 (mk9 σc O1 (lb s 2)) := mk9.ag
  have nw2 : ∀ c, s + 2 ≤ c → mk9 σc O1 (lb s 2) c = lb s 2 := fun c hc => mk9.nw (by omega)
  generalize mk9 σc O1 (lb s 2) = O2 at O2s ag2 le2 nw2
  have se : Sam σc σe s := fe.sam fc.wf (by rw [ksc]; decide) (fun z => z)
  have kse : hK σe s = 2 := se.1.trans ksc
  have le1 : LA σe O2 (lb s 1) (s + 1) [] := lc1.mv fc.wf fe (fun _ _ z => z.elim) ag2
  obtain ⟨σf, hσf⟩ : ∃ x, x = sR σe s 21 (s + 2) := ⟨_, rfl⟩
  have ff : Fr (fun c => c = s) 0 σe σf := by rw [hσf]; exact Fr.sR fe.wf
  have Nf : hN σf = s + 3 := by rw [hσf, N_sR, Ne]
  have ksf : hK σf s = 2 := by rw [hσf, K_sR, kse]
  have isf : ∀ j, hI σf s j = 0 := fun j => by rw [hσf, I_sR, se.2.2.1, isc]
  have rf20 : hR σf s 20 = s + 1 := by rw [hσf, R_sR, if_neg (by omega), se.2.2.2.1, rc]
  have rf21 : hR σf s 21 = s + 2 := by rw [hσf, R_sR, if_pos ⟨rfl, rfl⟩]
  have lf1 : LA σf O2 (lb s 1) (s + 1) [] := le1.mv fe.wf ff (fr_wS (fun _ h => h) O2s (by decide) hs0) Ag.rf
  have lf2 : LA σf O2 (lb s 2) (s + 2) [] := le2.mv fe.wf ff (fr_wS (fun _ h => h) O2s (by decide) hs0) Ag.rf
  have q2 : Qk σf O2 := (q1.mv fc.wf fe ag2).mv fe.wf ff Ag.rf
  obtain ⟨σh, eh, fh, Nh, kh, lh, ah⟩ := set_new ff.wf
  rw [Nf] at eh Nh kh lh ah
  have O3s : mk9 σf O2 (lb s 3) s = lb s 0 := (mk9.ag s (by omega)).trans O2s
  have ag3 : Ag σf O2 (mk9 σf O2 (lb s 3)) := mk9.ag
  have nw3 : ∀ c, s + 3 ≤ c → mk9 σf O2 (lb s 3) c = lb s 3 := fun c hc => mk9.nw (by omega)
  generalize mk9 σf O2 (lb s 3) = O3 at O3s ag3 nw3
  have sh : Sam σf σh s := fh.sam ff.wf (by rw [ksf]; decide) (fun z => z)
  have lh1 : LA σh O3 (lb s 1) (s + 1) [] := lf1.mv ff.wf fh (fun _ _ z => z.elim) ag3
  have lh2 : LA σh O3 (lb s 2) (s + 2) [] := lf2.mv ff.wf fh (fun _ _ z => z.elim) ag3
  have fin : f_X2_init σ0 s = f_X2_init_55 FU (sR σh s 22 (s + 3)) 0 s := init_eq (by rw [ks0]; decide) N0 eb ksb hσc.symm Nc ee kse hσf.symm Nf eh (sh.1.trans ksf)
  rw [fin]
  obtain ⟨σi, hσi⟩ : ∃ x, x = sR σh s 22 (s + 3) := ⟨_, rfl⟩
  rw [← hσi]
  have fi : Fr (fun c => c = s) 0 σh σi := by rw [hσi]; exact Fr.sR fh.wf
  have ksi : hK σi s = 2 := by rw [hσi, K_sR]; exact sh.1.trans ksf
  have r22 : hR σi s 22 = s + 3 := by rw [hσi, R_sR, if_pos ⟨rfl, rfl⟩]
  have r20 : hR σi s 20 = s + 1 := by rw [hσi, R_sR, if_neg (by omega), sh.2.2.2.1, rf20]
  have r21 : hR σi s 21 = s + 2 := by rw [hσi, R_sR, if_neg (by omega), sh.2.2.2.1, rf21]
  have w1 := fr_wS (σ := σh) (W := fun c => c = s) (fun _ h => h) O3s (j := 1) (by decide) hs0
  have w2 := fr_wS (σ := σh) (W := fun c => c = s) (fun _ h => h) O3s (j := 2) (by decide) hs0
  have all : Fr (fun c => c = s) 30 σ σi := ((((((f0.trans (k := 12) (W := fun c => c = s) fb (fun _ _ z => z.elim) (fun _ _ z => z.elim) (by omega)).trans (k := 12) (W := fun c => c = s) fc (fun _ _ z => z) (fun _ _ z => z) (by omega)).trans (k := 16) (W := fun c => c = s) fe (fun _ _ z => z) (fun _ _ z => z.elim) (by omega)).trans (k := 16) (W := fun c => c = s) ff (fun _ _ z => z) (fun _ _ z => z) (by omega)).trans (k := 21) (W := fun c => c = s) fh (fun _ _ z => z) (fun _ _ z => z.elim) (by omega))).trans fi (fun _ _ z => z) (fun _ _ z => z) (by omega)
  have agA : Ag σ O O3 := fun c hc => (ag3 c (by omega)).trans ((ag2 c (by omega)).trans ((ag1 c (by omega)).trans (ag0 c hc)))
  refine ⟨σi, O3, rfl, ⟨⟨ksi, O3s, hs0⟩, fun j hj => ?_, ⟨by rw [r22, hσi, K_sR]; exact kh, by rw [r22, hσi, L_sR]; exact lh, by rw [r22]; exact nw3 _ (Nat.le_refl _), fun j hj => by rw [r22, hσi, A_sR]; exact ah j hj⟩, by rw [r20]; exact lh1.mv fh.wf fi w1 Ag.rf, by rw [r21]; exact lh2.mv fh.wf fi w2 Ag.rf, fun i hi => absurd hi (Nat.not_lt_zero _), (q2.mv ff.wf fh ag3).mv fh.wf fi Ag.rf⟩, all.wk (fun c hc z => by omega) (Nat.le_refl _), agA, fun c hc => ?_⟩
  · rw [hσi, I_sR, sh.2.2.1, isf]
  · by_cases e3 : s + 3 ≤ c
    · rw [nw3 c e3]; exact lb_is (by decide)
    · rw [ag3 c (by omega)]
      by_cases e2 : s + 2 ≤ c
      · rw [nw2 c e2]; exact lb_is (by decide)
      · rw [ag2 c (by omega)]
        by_cases e1 : s + 1 ≤ c
        · rw [nw1 c e1]; exact lb_is (by decide)
        · rw [ag1 c (by omega), show c = s by omega, O0s]; exact lb_is (by decide)
end Init3
