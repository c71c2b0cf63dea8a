/-! the component and the JDK, decompiled: written by gen/dec.py -/
set_option maxRecDepth 100000
abbrev VV_X0_coolIn (l : Launch) (G : Gx) (σ0 : Hp) (o : Oc) (σe : Hp) (Se : Ms) := V l G RX0 cX0_coolIn 4 (some .int) (tableOf [(0, 9, 12, 21)]) false 9 164 σ0 o σe Se
def f_X0_coolIn (σ : Hp) (a0 : Nat) (x1 : Int32) (a2 : Nat) : Option (Int32 × Hp) :=
  bd (gk σ 1 a0) fun e1 => bp (f_X1_coolIn σ a0 x1) fun r3 σ4 => ex r3 (fun y6 => bd (stI σ4 103 a2 (0 : Int32) y6) fun σ10 => some ((0 : Int32), σ10)) (fun e8 => if e8.1 = "java/lang/IndexOutOfBoundsException" then some ((1 : Int32), σ4) else none)
set_option maxHeartbeats 4000000 in
theorem v_X0_coolIn (l : Launch) (G : Gx) (hst : l.stackTraces = false) (S : Ms) {σ σe : Hp} {a0 : Nat} {x1 : Int32} {a2 : Nat} {r : Int32} (h : f_X0_coolIn σ a0 x1 a2 = some (r, σe)) : MT l G yX0_coolIn (wsW_ yX0_coolIn cX0_coolIn 4 (some .int) [(0, 9, 12, 21)]) 9 164 [pR a0, pI x1, pR a2] σ S (.inl (some (pI r))) σe S := by
  refine MT_ofH (own := RX0) (nL := 4) (ini := false) (by decide +kernel) rfl (Nat.le_of_ble_eq_true rfl) (fun h => by cases h) hst ?_
  show VV_X0_coolIn l G σ (.inl (some (pI r))) σe S 0 [(0, pR a0), (1, pI x1), (2, pR a2)] [] σ S
  unfold f_X0_coolIn at h
  refine V_aload_n (i := 2) 2 dX0_coolIn_0 rfl rfl ?_
  refine V_iconst (v := 0) dX0_coolIn_1 (by decide) ?_
  refine V_aload_n (i := 0) 0 dX0_coolIn_2 rfl rfl ?_
  refine V_iload_n (i := 1) 1 dX0_coolIn_3 rfl rfl ?_
  obtain ⟨e1, e2, h⟩ := bd_s h
  obtain ⟨r3, σ4, e5, h⟩ := bp_s h
  refine V_callVxI (n9 := 1) (c := 0) (r := (RX1, TX1, 4)) [pI (0 : Int32), pR a2] (v_X1_coolIn l G hst _ e5) rfl rfl (lw_V q1980 q1981 q1982 q76 q1983) (by decide +kernel) (by decide) (Nat.le_of_ble_eq_true rfl) (gk_k e2 rfl) rfl dX0_coolIn_4 (fun y6 e7 => ?_) (fun e8 e9 => ?_)
  · subst e7
    replace h := ex_l h
    refine V_i2l dX0_coolIn_7 ?_
    obtain ⟨σ10, e11, h⟩ := bd_s h
    refine V_stI3 e11 dX0_coolIn_8 ?_
    refine V_goto 15 dX0_coolIn_9 (by decide) ?_
    refine V_iconst (v := 0) dX0_coolIn_15 (by decide) ?_
    cases h
    exact V_iret rfl dX0_coolIn_16
  · subst e9
    replace h := ex_r h
    by_cases e12 : e8.1 = "java/lang/IndexOutOfBoundsException"
    · replace h := (if_pos e12).symm.trans h
      rw [e12]
      refine VX_catch (E := "java/lang/IndexOutOfBoundsException") (nm := "java/lang/IndexOutOfBoundsException") (tableOf []) ⟨0, 9, 12, 21⟩ (tableOf []) rfl (fun y hy => by cases hy) (by decide) (by decide) q1025 (by decide +kernel) ?_
      refine V_astore_n (i := 3) (L' := [(3, pR (e8.2)), (0, pR a0), (1, pI x1), (2, pR a2)]) dX0_coolIn_12 rfl (by decide) rfl ?_
      refine V_iconst (v := 1) dX0_coolIn_13 (by decide) ?_
      cases h
      exact V_iret rfl dX0_coolIn_14
    replace h := (if_neg e12).symm.trans h
    cases h

abbrev VV_X1_lengthIn (l : Launch) (G : Gx) (σ0 : Hp) (o : Oc) (σe : Hp) (Se : Ms) := V l G RX1 cX1_lengthIn 3 (some .int) [] false 8 140 σ0 o σe Se
def f_X1_lengthIn (σ : Hp) (a0 : Nat) (x1 : Int32) (x2 : Int32) : Option (Ex Int32 × Hp) :=
  bp (f_X1_checkStack σ x1) fun r1 σ2 => ex r1 (fun e4 => bd (f_X1_isIn x2 (0 : Int32) (600 : Int32)) fun y8 => bp (f_X1_require σ2 y8) fun r10 σ11 => ex r10 (fun e13 => bd (rdR σ11 1 a0 10) fun b17 => bd (gk σ11 2 b17) fun e19 => bp (f_X2_lengthIn σ11 b17 x1 x2) fun y21 σ22 => some (.inl y21, σ22)) (fun e15 => some (.inr e15, σ11))) (fun e6 => some (.inr e6, σ2))
set_option maxHeartbeats 4000000 in
theorem v_X1_lengthIn (l : Launch) (G : Gx) (hst : l.stackTraces = false) (S : Ms) {σ σe : Hp} {a0 : Nat} {x1 : Int32} {x2 : Int32} {r : Ex Int32} (h : f_X1_lengthIn σ a0 x1 x2 = some (r, σe)) : MT l G yX1_lengthIn (ws_ yX1_lengthIn cX1_lengthIn 3 (some .int)) 8 140 [pR a0, pI x1, pI x2] σ S (tOI r) σe S := by
  refine MT_of (own := RX1) (nL := 3) (ini := false) (by decide +kernel) rfl (Nat.le_of_ble_eq_true rfl) (fun h => by cases h) hst ?_
  show VV_X1_lengthIn l G σ (tOI r) σe S 0 [(0, pR a0), (1, pI x1), (2, pI x2)] [] σ S
  unfold f_X1_lengthIn at h
  refine V_iload_n (i := 1) 1 dX1_lengthIn_0 rfl rfl ?_
  obtain ⟨r1, σ2, e3, h⟩ := bp_s h
  refine V_callSxV (n9 := 1) [] (v_X1_checkStack l G hst _ e3) rfl rfl (lw_S q1131 q1132 q76 q1133) (by decide +kernel) (by decide) (Nat.le_of_ble_eq_true rfl) dX1_lengthIn_1 (fun e4 e5 => ?_) (fun e6 e7 => ?_)
  · subst e5
    replace h := ex_l h
    refine V_iload_n (i := 2) 2 dX1_lengthIn_4 rfl rfl ?_
    refine V_iconst (v := 0) dX1_lengthIn_5 (by decide) ?_
    refine V_sipush (v := 600) dX1_lengthIn_6 (by decide) ?_
    obtain ⟨y8, e9, h⟩ := bd_s h
    refine V_callS_v (n9 := 3) [] (v_X1_isIn l G hst _ _ e9) rfl rfl (lw_S q874 q754 q76 q755) (by decide +kernel) (by decide) (Nat.le_of_ble_eq_true rfl) dX1_lengthIn_9 ?_
    obtain ⟨r10, σ11, e12, h⟩ := bp_s h
    refine V_callSxV (n9 := 1) [] (v_X1_require l G hst _ e12) rfl rfl (lw_S q875 q876 q76 q877) (by decide +kernel) (by decide) (Nat.le_of_ble_eq_true rfl) dX1_lengthIn_12 (fun e13 e14 => ?_) (fun e15 e16 => ?_)
    · subst e14
      replace h := ex_l h
      refine V_aload_n (i := 0) 0 dX1_lengthIn_15 rfl rfl ?_
      obtain ⟨b17, e18, h⟩ := bd_s h
      refine V_rdR gf_X1_10 rfl rfl rfl e18 dX1_lengthIn_16 ?_
      refine V_iload_n (i := 1) 1 dX1_lengthIn_19 rfl rfl ?_
      refine V_iload_n (i := 2) 2 dX1_lengthIn_20 rfl rfl ?_
      obtain ⟨e19, e20, h⟩ := bd_s h
      obtain ⟨y21, σ22, e23, h⟩ := bp_s h
      refine V_callV_v (n9 := 2) (c := 1) (r := (RX2, TX2, 7)) [] (v_X2_lengthIn l G hst _ e23) rfl rfl (lw_V q1311 q1312 q1313 q77 q1314) (by decide +kernel) (by decide) (Nat.le_of_ble_eq_true rfl) (gk_k e20 rfl) rfl dX1_lengthIn_21 ?_
      cases h
      exact V_iret rfl dX1_lengthIn_24
    · subst e16
      replace h := ex_r h
      cases h
      exact VX_out (by decide)
  · subst e7
    replace h := ex_r h
    cases h
    exact VX_out (by decide)

abbrev VV_X0_lengthIn (l : Launch) (G : Gx) (σ0 : Hp) (o : Oc) (σe : Hp) (Se : Ms) := V l G RX0 cX0_lengthIn 5 (some .int) (tableOf [(0, 10, 13, 21), (0, 10, 17, 13)]) false 9 162 σ0 o σe Se
def f_X0_lengthIn (σ : Hp) (a0 : Nat) (x1 : Int32) (x2 : Int32) (a3 : Nat) : Option (Int32 × Hp) :=
  bd (gk σ 1 a0) fun e1 => bp (f_X1_lengthIn σ a0 x1 x2) fun r3 σ4 => ex r3 (fun y6 => bd (stI σ4 103 a3 (0 : Int32) y6) fun σ10 => some ((0 : Int32), σ10)) (fun e8 => if e8.1 = "java/lang/IndexOutOfBoundsException" then some ((1 : Int32), σ4) else if e8.1 = "java/lang/IllegalArgumentException" then some ((2 : Int32), σ4) else none)
set_option maxHeartbeats 4000000 in
theorem v_X0_lengthIn (l : Launch) (G : Gx) (hst : l.stackTraces = false) (S : Ms) {σ σe : Hp} {a0 : Nat} {x1 : Int32} {x2 : Int32} {a3 : Nat} {r : Int32} (h : f_X0_lengthIn σ a0 x1 x2 a3 = some (r, σe)) : MT l G yX0_lengthIn (wsW_ yX0_lengthIn cX0_lengthIn 5 (some .int) [(0, 10, 13, 21), (0, 10, 17, 13)]) 9 162 [pR a0, pI x1, pI x2, pR a3] σ S (.inl (some (pI r))) σe S := by
  refine MT_ofH (own := RX0) (nL := 5) (ini := false) (by decide +kernel) rfl (Nat.le_of_ble_eq_true rfl) (fun h => by cases h) hst ?_
  show VV_X0_lengthIn l G σ (.inl (some (pI r))) σe S 0 [(0, pR a0), (1, pI x1), (2, pI x2), (3, pR a3)] [] σ S
  unfold f_X0_lengthIn at h
  refine V_aload_n (i := 3) 3 dX0_lengthIn_0 rfl rfl ?_
  refine V_iconst (v := 0) dX0_lengthIn_1 (by decide) ?_
  refine V_aload_n (i := 0) 0 dX0_lengthIn_2 rfl rfl ?_
  refine V_iload_n (i := 1) 1 dX0_lengthIn_3 rfl rfl ?_
  refine V_iload_n (i := 2) 2 dX0_lengthIn_4 rfl rfl ?_
  obtain ⟨e1, e2, h⟩ := bd_s h
  obtain ⟨r3, σ4, e5, h⟩ := bp_s h
  refine V_callVxI (n9 := 2) (c := 0) (r := (RX1, TX1, 4)) [pI (0 : Int32), pR a3] (v_X1_lengthIn l G hst _ e5) rfl rfl (lw_V q1988 q1989 q1990 q76 q1991) (by decide +kernel) (by decide) (Nat.le_of_ble_eq_true rfl) (gk_k e2 rfl) rfl dX0_lengthIn_5 (fun y6 e7 => ?_) (fun e8 e9 => ?_)
  · subst e7
    replace h := ex_l h
    refine V_i2l dX0_lengthIn_8 ?_
    obtain ⟨σ10, e11, h⟩ := bd_s h
    refine V_stI3 e11 dX0_lengthIn_9 ?_
    refine V_goto 21 dX0_lengthIn_10 (by decide) ?_
    refine V_iconst (v := 0) dX0_lengthIn_21 (by decide) ?_
    cases h
    exact V_iret rfl dX0_lengthIn_22
  · subst e9
    replace h := ex_r h
    by_cases e12 : e8.1 = "java/lang/IndexOutOfBoundsException"
    · replace h := (if_pos e12).symm.trans h
      rw [e12]
      refine VX_catch (E := "java/lang/IndexOutOfBoundsException") (nm := "java/lang/IndexOutOfBoundsException") (tableOf []) ⟨0, 10, 13, 21⟩ (tableOf [(0, 10, 17, 13)]) rfl (fun y hy => by cases hy) (by decide) (by decide) q1025 (by decide +kernel) ?_
      refine V_astore (i := 4) (L' := [(4, pR (e8.2)), (0, pR a0), (1, pI x1), (2, pI x2), (3, pR a3)]) dX0_lengthIn_13 (by decide) rfl ?_
      refine V_iconst (v := 1) dX0_lengthIn_15 (by decide) ?_
      cases h
      exact V_iret rfl dX0_lengthIn_16
    replace h := (if_neg e12).symm.trans h
    by_cases e13 : e8.1 = "java/lang/IllegalArgumentException"
    · replace h := (if_pos e13).symm.trans h
      rw [e13]
      refine VX_catch (E := "java/lang/IllegalArgumentException") (nm := "java/lang/IllegalArgumentException") (tableOf [(0, 10, 13, 21)]) ⟨0, 10, 17, 13⟩ (tableOf []) rfl (hp_1 (Or.inr ⟨by decide, "java/lang/IndexOutOfBoundsException", q1025, by decide +kernel⟩)) (by decide) (by decide) q867 (by decide +kernel) ?_
      refine V_astore (i := 4) (L' := [(4, pR (e8.2)), (0, pR a0), (1, pI x1), (2, pI x2), (3, pR a3)]) dX0_lengthIn_17 (by decide) rfl ?_
      refine V_iconst (v := 2) dX0_lengthIn_19 (by decide) ?_
      cases h
      exact V_iret rfl dX0_lengthIn_20
    replace h := (if_neg e13).symm.trans h
    cases h

abbrev VV_J8_init (l : Launch) (G : Gx) (σ0 : Hp) (o : Oc) (σe : Hp) (Se : Ms) := V l G RJ8 cJ8_init 1 none [] true 2 51 σ0 o σe Se
def f_J8_init (σ : Hp) (a0 : Nat) : Option (Unit × Hp) :=
  bd (gz σ a0) fun e1 => bp (f_J7_init σ a0 (16 : Int32)) fun e3 σ4 => some ((), σ4)
set_option maxHeartbeats 4000000 in
theorem v_J8_init (l : Launch) (G : Gx) (hst : l.stackTraces = false) (S : Ms) {σ σe : Hp} {a0 : Nat} {r : Unit} (h : f_J8_init σ a0 = some (r, σe)) : MT l G yJ8_init (ws_ yJ8_init cJ8_init 1 none) 2 51 [pR a0] σ S (.inl none) σe S := by
  refine MT_of (own := RJ8) (nL := 1) (ini := true) (by decide +kernel) rfl (Nat.le_of_ble_eq_true rfl) (fun h => rfl) hst ?_
  show VV_J8_init l G σ (.inl none) σe S 0 [(0, pR a0)] [] σ S
  unfold f_J8_init at h
  refine V_aload_n (i := 0) 0 dJ8_init_0 rfl rfl ?_
  refine V_bipush (v := 16) dJ8_init_1 (by decide) ?_
  obtain ⟨e1, e2, h⟩ := bd_s h
  obtain ⟨e3, σ4, e5, h⟩ := bp_s h
  refine V_callI_0 (n9 := 1) [] (v_J7_init l G hst _ e5) rfl rfl q298 q86 q296 q297 rfl (by decide +kernel) (by decide) (Nat.le_of_ble_eq_true rfl) (gz_n e2) dJ8_init_3 ?_
  cases h
  exact V_vret rfl dJ8_init_6

abbrev VV_X1_init (l : Launch) (G : Gx) (σ0 : Hp) (o : Oc) (σe : Hp) (Se : Ms) := V l G RX1 cX1_init 1 none [] true 8 232 σ0 o σe Se
def f_X1_init (σ : Hp) (a0 : Nat) : Option (Unit × Hp) :=
  bd (gz σ a0) fun e1 => bd (gz (nC σ 2 7) (hN σ)) fun e3 => bp (f_X2_init (nC σ 2 7) (hN σ)) fun e5 σ6 => bd (wrR σ6 1 a0 10 (hN σ)) fun σ8 => bd (gz (nC σ8 12 3) (hN σ8)) fun e10 => bp (f_J6_init (nC σ8 12 3) (hN σ8)) fun e12 σ13 => bd (wrR σ13 1 a0 11 (hN σ8)) fun σ15 => bd (nwA σ15 106 (2 : Int32)) fun σ17 => bd (wrR σ17 1 a0 12 (hN σ15)) fun σ19 => bd (gz (nC σ19 13 4) (hN σ19)) fun e21 => bp (f_J8_init (nC σ19 13 4) (hN σ19)) fun e23 σ24 => bd (wrR σ24 1 a0 13 (hN σ19)) fun σ26 => some ((), σ26)
set_option maxHeartbeats 4000000 in
theorem v_X1_init (l : Launch) (G : Gx) (hst : l.stackTraces = false) (S : Ms) {σ σe : Hp} {a0 : Nat} {r : Unit} (h : f_X1_init σ a0 = some (r, σe)) : MT l G yX1_init (ws_ yX1_init cX1_init 1 none) 8 232 [pR a0] σ S (.inl none) σe S := by
  refine MT_of (own := RX1) (nL := 1) (ini := true) (by decide +kernel) rfl (Nat.le_of_ble_eq_true rfl) (fun h => rfl) hst ?_
  show VV_X1_init l G σ (.inl none) σe S 0 [(0, pR a0)] [] σ S
  unfold f_X1_init at h
  refine V_aload_n (i := 0) 0 dX1_init_0 rfl rfl ?_
  obtain ⟨e1, e2, h⟩ := bd_s h
  refine V_objInit (gz_n e2) q130 q131 q132 (by decide) (Nat.le_of_ble_eq_true rfl) dX1_init_1 ?_
  refine V_aload_n (i := 0) 0 dX1_init_4 rfl rfl ?_
  refine V_new (n := 7) ci_1 (by decide +kernel) q133 q134 q77 dX1_init_5 ?_
  refine V_dup dX1_init_8 rfl ?_
  obtain ⟨e3, e4, h⟩ := bd_s h
  obtain ⟨e5, σ6, e7, h⟩ := bp_s h
  refine V_callI_0 (n9 := 0) [pR (hN σ), pR a0] (v_X2_init l G hst _ e7) rfl rfl q137 q77 q135 q136 rfl (by decide +kernel) (by decide) (Nat.le_of_ble_eq_true rfl) (gz_n e4) dX1_init_9 ?_
  obtain ⟨σ8, e9, h⟩ := bd_s h
  refine V_wrR gw_X1_10 (okF_obj _ rfl) rfl rfl e9 dX1_init_12 ?_
  refine V_aload_n (i := 0) 0 dX1_init_15 rfl rfl ?_
  refine V_new (n := 3) ci_11 (by decide +kernel) q273 q274 q85 dX1_init_16 ?_
  refine V_dup dX1_init_19 rfl ?_
  obtain ⟨e10, e11, h⟩ := bd_s h
  obtain ⟨e12, σ13, e14, h⟩ := bp_s h
  refine V_callI_0 (n9 := 0) [pR (hN σ8), pR a0] (v_J6_init l G hst _ e14) rfl rfl q277 q85 q275 q276 rfl (by decide +kernel) (by decide) (Nat.le_of_ble_eq_true rfl) (gz_n e11) dX1_init_20 ?_
  obtain ⟨σ15, e16, h⟩ := bd_s h
  refine V_wrRF gw_X1_19 rfl (okF_obj _ rfl) rfl rfl e16 dX1_init_23 ?_
  refine V_aload_n (i := 0) 0 dX1_init_26 rfl rfl ?_
  refine V_iconst (v := 2) dX1_init_27 (by decide) ?_
  obtain ⟨σ17, e18, h⟩ := bd_s h
  refine V_nwQ (t := 6) e18 (by decide) q133 dX1_init_28 ?_
  obtain ⟨σ19, e20, h⟩ := bd_s h
  refine V_wrRF gw_X1_23 rfl (okF_arr _ rfl) rfl rfl e20 dX1_init_31 ?_
  refine V_aload_n (i := 0) 0 dX1_init_34 rfl rfl ?_
  refine V_new (n := 4) ci_12 (by decide +kernel) q291 q292 q87 dX1_init_35 ?_
  refine V_dup dX1_init_38 rfl ?_
  obtain ⟨e21, e22, h⟩ := bd_s h
  obtain ⟨e23, σ24, e25, h⟩ := bp_s h
  refine V_callI_0 (n9 := 0) [pR (hN σ19), pR a0] (v_J8_init l G hst _ e25) rfl rfl q295 q87 q293 q294 rfl (by decide +kernel) (by decide) (Nat.le_of_ble_eq_true rfl) (gz_n e22) dX1_init_39 ?_
  obtain ⟨σ26, e27, h⟩ := bd_s h
  refine V_wrRF gw_X1_30 rfl (okF_obj _ rfl) rfl rfl e27 dX1_init_42 ?_
  cases h
  exact V_vret rfl dX1_init_45

abbrev VV_X1_clearBuffer (l : Launch) (G : Gx) (σ0 : Hp) (o : Oc) (σe : Hp) (Se : Ms) := V l G RX1 cX1_clearBuffer 2 (some .int) [] false 6 166 σ0 o σe Se
def f_X1_clearBuffer (σ : Hp) (a0 : Nat) : Option (Int32 × Hp) :=
  bd (rdR σ 1 a0 13) fun b1 => bd (gk σ 13 b1) fun e3 => bp (f_J8_length σ b1) fun y5 σ6 => bd (rdR σ6 1 a0 13) fun b8 => bd (gk σ6 13 b8) fun e10 => bp (f_J8_setLength σ6 b8 (0 : Int32)) fun e12 σ13 => some (y5, σ13)
set_option maxHeartbeats 4000000 in
theorem v_X1_clearBuffer (l : Launch) (G : Gx) (hst : l.stackTraces = false) (S : Ms) {σ σe : Hp} {a0 : Nat} {r : Int32} (h : f_X1_clearBuffer σ a0 = some (r, σe)) : MT l G yX1_clearBuffer (ws_ yX1_clearBuffer cX1_clearBuffer 2 (some .int)) 6 166 [pR a0] σ S (.inl (some (pI r))) σe S := by
  refine MT_of (own := RX1) (nL := 2) (ini := false) (by decide +kernel) rfl (Nat.le_of_ble_eq_true rfl) (fun h => by cases h) hst ?_
  show VV_X1_clearBuffer l G σ (.inl (some (pI r))) σe S 0 [(0, pR a0)] [] σ S
  unfold f_X1_clearBuffer at h
  refine V_aload_n (i := 0) 0 dX1_clearBuffer_0 rfl rfl ?_
  obtain ⟨b1, e2, h⟩ := bd_s h
  refine V_rdR gf_X1_30 rfl rfl rfl e2 dX1_clearBuffer_1 ?_
  obtain ⟨e3, e4, h⟩ := bd_s h
  obtain ⟨y5, σ6, e7, h⟩ := bp_s h
  refine V_callV_v (n9 := 0) (c := 12) (r := (RJ8, TJ8, 4)) [] (v_J8_length l G hst _ e7) rfl rfl (lw_V q342 q343 q344 q87 q345) (by decide +kernel) (by decide) (Nat.le_of_ble_eq_true rfl) (gk_k e4 rfl) rfl dX1_clearBuffer_4 ?_
  refine V_istore_n (i := 1) (L' := [(1, pI y5), (0, pR a0)]) dX1_clearBuffer_7 rfl (by decide) rfl ?_
  refine V_aload_n (i := 0) 1 dX1_clearBuffer_8 rfl rfl ?_
  obtain ⟨b8, e9, h⟩ := bd_s h
  refine V_rdR gf_X1_30 rfl rfl rfl e9 dX1_clearBuffer_9 ?_
  refine V_iconst (v := 0) dX1_clearBuffer_12 (by decide) ?_
  obtain ⟨e10, e11, h⟩ := bd_s h
  obtain ⟨e12, σ13, e14, h⟩ := bp_s h
  refine V_callV_0 (n9 := 1) (c := 12) (r := (RJ8, TJ8, 4)) [] (v_J8_setLength l G hst _ e14) rfl rfl (lw_V q349 q350 q351 q87 q352) (by decide +kernel) (by decide) (Nat.le_of_ble_eq_true rfl) (gk_k e11 rfl) rfl dX1_clearBuffer_13 ?_
  refine V_iload_n (i := 1) 0 dX1_clearBuffer_16 rfl rfl ?_
  cases h
  exact V_iret rfl dX1_clearBuffer_17

abbrev VV_X1_firstError (l : Launch) (G : Gx) (σ0 : Hp) (o : Oc) (σe : Hp) (Se : Ms) := V l G RX1 cX1_firstError 2 (some .int) (tableOf [(0, 19, 20, 165)]) false 10 232 σ0 o σe Se
def f_X1_firstError (σ : Hp) (a0 : Nat) : Option (Int32 × Hp) :=
  bd (gz (nC σ 5 2) (hN σ)) fun e1 => bp (f_X6_init (nC σ 5 2) (hN σ) a0) fun e3 σ4 => bd (gk σ4 5 (hN σ)) fun e6 => bp (f_X6_commands σ4 (hN σ)) fun r8 σ9 => ex r8 (fun b11 => bd (rdR σ9 1 a0 13) fun b15 => bd (gk σ9 13 b15) fun e17 => bp (f_J8_length σ9 b15) fun y19 σ20 => some (y19, σ20)) (fun e13 => if e13.1 = "GaugeBlocks$SyntaxFault" then bd (rdI σ9 6 (e13.2) 60) fun y23 => some (y23, σ9) else none)
set_option maxHeartbeats 4000000 in
theorem v_X1_firstError (l : Launch) (G : Gx) (hst : l.stackTraces = false) (S : Ms) {σ σe : Hp} {a0 : Nat} {r : Int32} (h : f_X1_firstError σ a0 = some (r, σe)) : MT l G yX1_firstError (wsW_ yX1_firstError cX1_firstError 2 (some .int) [(0, 19, 20, 165)]) 10 232 [pR a0] σ S (.inl (some (pI r))) σe S := by
  refine MT_ofH (own := RX1) (nL := 2) (ini := false) (by decide +kernel) rfl (Nat.le_of_ble_eq_true rfl) (fun h => by cases h) hst ?_
  show VV_X1_firstError l G σ (.inl (some (pI r))) σe S 0 [(0, pR a0)] [] σ S
  unfold f_X1_firstError at h
  refine V_new (n := 2) ci_4 (by decide +kernel) q677 q678 q106 dX1_firstError_0 ?_
  refine V_dup dX1_firstError_3 rfl ?_
  refine V_aload_n (i := 0) 0 dX1_firstError_4 rfl rfl ?_
  obtain ⟨e1, e2, h⟩ := bd_s h
  obtain ⟨e3, σ4, e5, h⟩ := bp_s h
  refine V_callIN_0 (n9 := 1) (host := "GaugeBlocks") [pR (hN σ)] (v_X6_init l G hst _ e5) rfl rfl q681 q106 (by decide +kernel) q680 rfl (by decide +kernel) (by decide) (Nat.le_of_ble_eq_true rfl) (gz_n e2) dX1_firstError_5 ?_
  obtain ⟨e6, e7, h⟩ := bd_s h
  obtain ⟨r8, σ9, e10, h⟩ := bp_s h
  refine V_callVxR (n9 := 0) (c := 4) (r := (RX6, TX6, 2)) [] (v_X6_commands l G hst _ e10) rfl rfl (lw_V q690 q691 q692 q106 q693) (by decide +kernel) (by decide) (Nat.le_of_ble_eq_true rfl) (gk_k e7 rfl) rfl dX1_firstError_8 (fun b11 e12 => ?_) (fun e13 e14 => ?_)
  · subst e12
    replace h := ex_l h
    refine V_pop dX1_firstError_11 rfl ?_
    refine V_aload_n (i := 0) 0 dX1_firstError_12 rfl rfl ?_
    obtain ⟨b15, e16, h⟩ := bd_s h
    refine V_rdR gf_X1_30 rfl rfl rfl e16 dX1_firstError_13 ?_
    obtain ⟨e17, e18, h⟩ := bd_s h
    obtain ⟨y19, σ20, e21, h⟩ := bp_s h
    refine V_callV_v (n9 := 0) (c := 12) (r := (RJ8, TJ8, 4)) [] (v_J8_length l G hst _ e21) rfl rfl (lw_V q342 q343 q344 q87 q345) (by decide +kernel) (by decide) (Nat.le_of_ble_eq_true rfl) (gk_k e18 rfl) rfl dX1_firstError_16 ?_
    cases h
    exact V_iret rfl dX1_firstError_19
  · subst e14
    replace h := ex_r h
    by_cases e22 : e13.1 = "GaugeBlocks$SyntaxFault"
    · replace h := (if_pos e22).symm.trans h
      rw [e22]
      refine VX_catch (E := "GaugeBlocks$SyntaxFault") (nm := "GaugeBlocks$SyntaxFault") (tableOf []) ⟨0, 19, 20, 165⟩ (tableOf []) rfl (fun y hy => by cases hy) (by decide) (by decide) q676 (by decide +kernel) ?_
      refine V_astore_n (i := 1) (L' := [(1, pR (e13.2)), (0, pR a0)]) dX1_firstError_20 rfl (by decide) rfl ?_
      refine V_aload_n (i := 1) 0 dX1_firstError_21 rfl rfl ?_
      obtain ⟨y23, e24, h⟩ := bd_s h
      refine V_rdI gf_X1_167 rfl rfl rfl e24 dX1_firstError_22 ?_
      cases h
      exact V_iret rfl dX1_firstError_25
    replace h := (if_neg e22).symm.trans h
    cases h

abbrev VV_X1_meanError (l : Launch) (G : Gx) (σ0 : Hp) (o : Oc) (σe : Hp) (Se : Ms) := V l G RX1 cX1_meanError 4 (some .double) [] false 3 72 σ0 o σe Se
def f_X1_meanError_76 (σ : Hp) (s0 : UInt64) : Option (UInt64 × Hp) :=
  some (s0, σ)
set_option maxHeartbeats 4000000 in
theorem v_X1_meanError_76 {l : Launch} {G : Gx} (hst : l.stackTraces = false) {σ0 σe : Hp} {Se : Ms} {r : UInt64} {σ : Hp} {s0 : UInt64} (h : f_X1_meanError_76 σ s0 = some (r, σe)) : VV_X1_meanError l G σ0 (.inl (some (pD r))) σe Se 76 [] [pD s0] σ Se := by
  unfold f_X1_meanError_76 at h
  cases h
  exact V_dret rfl dX1_meanError_76
def f_X1_meanError_13_b (k13 : Hp → Nat → Int32 → Nat → Option (UInt64 × Hp)) (σ : Hp) (a2 : Nat) (x1 : Int32) (a0 : Nat) : Option (UInt64 × Hp) :=
  bd (gk σ 11 a2) fun e1 => bp (f_J35_hasNext σ a2) fun y3 σ4 => if y3 = (0 : Int32) then (bd (rdR σ4 1 a0 10) fun b7 => bd (rdR σ4 2 b7 20) fun b9 => bd (gk σ4 10 b9) fun e11 => bp (f_J2_isEmpty σ4 b9) fun y13 σ14 => if y13 = (0 : Int32) then (bd (rdR σ14 1 a0 10) fun b17 => bd (rdR σ14 2 b17 20) fun b19 => bd (gk σ14 10 b19) fun e21 => bp (f_J2_size σ14 b19) fun y23 σ24 => bd (ddv (FP.i2d x1) (FP.i2d y23)) fun d26 => f_X1_meanError_76 σ24 d26) else (f_X1_meanError_76 σ14 0)) else (bd (gk σ4 11 a2) fun e28 => bp (f_J35_next σ4 a2) fun b30 σ31 => bd (ckC σ31 3 b30) fun e33 => bd (gk σ31 3 b30) fun e35 => bp (f_X4_error σ31 b30) fun y37 σ38 => k13 σ38 a2 (x1 + (if 0 ≤ y37 then y37 else 0 - y37)) a0)
set_option maxHeartbeats 4000000 in
theorem v_X1_meanError_13_b {l : Launch} {G : Gx} (hst : l.stackTraces = false) {σ0 σe : Hp} {Se : Ms} {r : UInt64} {k13 : Hp → Nat → Int32 → Nat → Option (UInt64 × Hp)} (hk13 : ∀ (σ : Hp) (a2 : Nat) (x1 : Int32) (a0 : Nat), k13 σ a2 x1 a0 = some (r, σe) → VV_X1_meanError l G σ0 (.inl (some (pD r))) σe Se 13 [(2, pR a2), (1, pI x1), (0, pR a0)] [] σ Se) {σ : Hp} {a2 : Nat} {x1 : Int32} {a0 : Nat} (h : f_X1_meanError_13_b k13 σ a2 x1 a0 = some (r, σe)) : VV_X1_meanError l G σ0 (.inl (some (pD r))) σe Se 13 [(2, pR a2), (1, pI x1), (0, pR a0)] [] σ Se := by
  unfold f_X1_meanError_13_b at h
  refine V_aload_n (i := 2) 0 dX1_meanError_13 rfl rfl ?_
  obtain ⟨e1, e2, h⟩ := bd_s h
  obtain ⟨y3, σ4, e5, h⟩ := bp_s h
  refine V_callF_v (n9 := 0) (c := 10) (r := (RJ35, TJ35, 4)) (x := ⟨"java/util/Iterator", "hasNext", "()Z"⟩) [] (v_J35_hasNext l G hst _ e5) rfl rfl (lw_app (lw_F4 q806 q810 q812 q124) (lw_meth q814)) (by decide +kernel) (by decide +kernel) (by decide) (Nat.le_of_ble_eq_true rfl) (gk_k e2 rfl) rfl dX1_meanError_14 ?_
  refine V_if_eq 45 dX1_meanError_19 (by decide) (fun c6 => ?_) (fun c6 => ?_)
  · replace h := it_t c6 h
    refine V_aload_n (i := 0) 2 dX1_meanError_45 rfl rfl ?_
    obtain ⟨b7, e8, h⟩ := bd_s h
    refine V_rdR gf_X1_10 rfl rfl rfl e8 dX1_meanError_46 ?_
    obtain ⟨b9, e10, h⟩ := bd_s h
    refine V_rdR gf_X1_59 rfl rfl rfl e10 dX1_meanError_49 ?_
    obtain ⟨e11, e12, h⟩ := bd_s h
    obtain ⟨y13, σ14, e15, h⟩ := bp_s h
    refine V_callV_v (n9 := 0) (c := 9) (r := (RJ2, TJ2, 3)) [] (v_J2_isEmpty l G hst _ e15) rfl rfl (lw_V q856 q857 q858 q80 q859) (by decide +kernel) (by decide) (Nat.le_of_ble_eq_true rfl) (gk_k e12 rfl) rfl dX1_meanError_52 ?_
    refine V_if_eq 62 dX1_meanError_55 (by decide) (fun c16 => ?_) (fun c16 => ?_)
    · replace h := it_t c16 h
      refine V_iload_n (i := 1) 1 dX1_meanError_62 rfl rfl ?_
      refine V_i2d dX1_meanError_63 ?_
      refine V_aload_n (i := 0) 2 dX1_meanError_64 rfl rfl ?_
      obtain ⟨b17, e18, h⟩ := bd_s h
      refine V_rdR gf_X1_10 rfl rfl rfl e18 dX1_meanError_65 ?_
      obtain ⟨b19, e20, h⟩ := bd_s h
      refine V_rdR gf_X1_59 rfl rfl rfl e20 dX1_meanError_68 ?_
      obtain ⟨e21, e22, h⟩ := bd_s h
      obtain ⟨y23, σ24, e25, h⟩ := bp_s h
      refine V_callV_v (n9 := 0) (c := 9) (r := (RJ2, TJ2, 3)) [pD (FP.i2d x1)] (v_J2_size l G hst _ e25) rfl rfl (lw_V q860 q861 q862 q80 q863) (by decide +kernel) (by decide) (Nat.le_of_ble_eq_true rfl) (gk_k e22 rfl) rfl dX1_meanError_71 ?_
      refine V_i2d dX1_meanError_74 ?_
      obtain ⟨d26, e27, h⟩ := bd_s h
      refine V_ddv e27 dX1_meanError_75 ?_
      refine V_sub [] rfl ?_
      exact v_X1_meanError_76 hst h
    · replace h := it_f c16 h
      refine V_dconst0 dX1_meanError_58 ?_
      refine V_goto 76 dX1_meanError_59 (by decide) ?_
      refine V_sub [] rfl ?_
      exact v_X1_meanError_76 hst h
  · replace h := it_f c6 h
    refine V_aload_n (i := 2) 0 dX1_meanError_22 rfl rfl ?_
    obtain ⟨e28, e29, h⟩ := bd_s h
    obtain ⟨b30, σ31, e32, h⟩ := bp_s h
    refine V_callF_v (n9 := 0) (c := 10) (r := (RJ35, TJ35, 4)) (x := ⟨"java/util/Iterator", "next", "()Ljava/lang/Object;"⟩) [] (v_J35_next l G hst _ e32) rfl rfl (lw_app (lw_F4 q822 q825 q827 q124) (lw_meth q829)) (by decide +kernel) (by decide +kernel) (by decide) (Nat.le_of_ble_eq_true rfl) (gk_k e29 rfl) rfl dX1_meanError_23 ?_
    obtain ⟨e33, e34, h⟩ := bd_s h
    refine V_ckC (c := 2) e34 q848 rfl (Or.inl rfl) dX1_meanError_28 ?_
    refine V_astore_n (i := 3) (L' := [(3, pR b30), (2, pR a2), (1, pI x1), (0, pR a0)]) dX1_meanError_31 rfl (by decide) rfl ?_
    refine V_iload_n (i := 1) 2 dX1_meanError_32 rfl rfl ?_
    refine V_aload_n (i := 3) 0 dX1_meanError_33 rfl rfl ?_
    obtain ⟨e35, e36, h⟩ := bd_s h
    obtain ⟨y37, σ38, e39, h⟩ := bp_s h
    refine V_callV_v (n9 := 0) (c := 2) (r := (RX4, TX4, 6)) [pI x1] (v_X4_error l G hst _ e39) rfl rfl (lw_V q849 q850 q851 q98 q852) (by decide +kernel) (by decide) (Nat.le_of_ble_eq_true rfl) (gk_k e36 rfl) rfl dX1_meanError_34 ?_
    refine V_mabs q853 q854 q82 q855 (by decide) (Nat.le_of_ble_eq_true rfl) dX1_meanError_37 ?_
    refine V_iadd dX1_meanError_40 ?_
    refine V_istore_n (i := 1) (L' := [(1, pI (x1 + (if 0 ≤ y37 then y37 else 0 - y37))), (3, pR b30), (2, pR a2), (0, pR a0)]) dX1_meanError_41 rfl (by decide) rfl ?_
    refine V_goto 13 dX1_meanError_42 (by decide) ?_
    refine V_sub [2, 0, 3] rfl ?_
    exact hk13 _ _ _ _ h
def f_X1_meanError_13 : Nat → Hp → Nat → Int32 → Nat → Option (UInt64 × Hp)
  | 0, _, _, _, _ => none
  | n + 1, σ, a2, x1, a0 => f_X1_meanError_13_b (f_X1_meanError_13 n) σ a2 x1 a0
theorem v_X1_meanError_13 {l : Launch} {G : Gx} (hst : l.stackTraces = false) {σ0 σe : Hp} {Se : Ms} {r : UInt64} : ∀ (n : Nat) (σ : Hp) (a2 : Nat) (x1 : Int32) (a0 : Nat), f_X1_meanError_13 n σ a2 x1 a0 = some (r, σe) → VV_X1_meanError l G σ0 (.inl (some (pD r))) σe Se 13 [(2, pR a2), (1, pI x1), (0, pR a0)] [] σ Se
  | 0, _, _, _, _, h => by cases h
  | n + 1, _, _, _, _, h => v_X1_meanError_13_b hst (v_X1_meanError_13 hst n) h
def f_X1_meanError (σ : Hp) (a0 : Nat) : Option (UInt64 × Hp) :=
  bd (rdR σ 1 a0 10) fun b1 => bd (rdR σ 2 b1 20) fun b3 => bd (gk σ 10 b3) fun e5 => bp (f_J2_iterator σ b3) fun b7 σ8 => f_X1_meanError_13 FU σ8 b7 (0 : Int32) a0
set_option maxHeartbeats 4000000 in
theorem v_X1_meanError (l : Launch) (G : Gx) (hst : l.stackTraces = false) (S : Ms) {σ σe : Hp} {a0 : Nat} {r : UInt64} (h : f_X1_meanError σ a0 = some (r, σe)) : MT l G yX1_meanError (ws_ yX1_meanError cX1_meanError 4 (some .double)) 3 72 [pR a0] σ S (.inl (some (pD r))) σe S := by
  refine MT_of (own := RX1) (nL := 4) (ini := false) (by decide +kernel) rfl (Nat.le_of_ble_eq_true rfl) (fun h => by cases h) hst ?_
  show VV_X1_meanError l G σ (.inl (some (pD r))) σe S 0 [(0, pR a0)] [] σ S
  unfold f_X1_meanError at h
  refine V_iconst (v := 0) dX1_meanError_0 (by decide) ?_
  refine V_istore_n (i := 1) (L' := [(1, pI (0 : Int32)), (0, pR a0)]) dX1_meanError_1 rfl (by decide) rfl ?_
  refine V_aload_n (i := 0) 1 dX1_meanError_2 rfl rfl ?_
  obtain ⟨b1, e2, h⟩ := bd_s h
  refine V_rdR gf_X1_10 rfl rfl rfl e2 dX1_meanError_3 ?_
  obtain ⟨b3, e4, h⟩ := bd_s h
  refine V_rdR gf_X1_59 rfl rfl rfl e4 dX1_meanError_6 ?_
  obtain ⟨e5, e6, h⟩ := bd_s h
  obtain ⟨b7, σ8, e9, h⟩ := bp_s h
  refine V_callV_v (n9 := 0) (c := 9) (r := (RJ2, TJ2, 3)) [] (v_J2_iterator l G hst _ e9) rfl rfl (lw_V q782 q783 q784 q80 q785) (by decide +kernel) (by decide) (Nat.le_of_ble_eq_true rfl) (gk_k e6 rfl) rfl dX1_meanError_9 ?_
  refine V_astore_n (i := 2) (L' := [(2, pR b7), (1, pI (0 : Int32)), (0, pR a0)]) dX1_meanError_12 rfl (by decide) rfl ?_
  refine V_sub [0, 1, 2] rfl ?_
  exact v_X1_meanError_13 hst FU _ _ _ _ h

abbrev VV_X3_init (l : Launch) (G : Gx) (σ0 : Hp) (o : Oc) (σe : Hp) (Se : Ms) := V l G RX3 cX3_init 1 none [] true 1 30 σ0 o σe Se
def f_X3_init (σ : Hp) (a0 : Nat) : Option (Unit × Hp) :=
  bd (gz σ a0) fun e1 => bd (nwA σ 101 (149 : Int32)) fun σ3 => bd (wrR σ3 20 a0 200 (hN σ)) fun σ5 => bd (nwA σ5 101 (894 : Int32)) fun σ7 => bd (wrR σ7 20 a0 201 (hN σ5)) fun σ9 => bd (nwA σ9 101 (298 : Int32)) fun σ11 => bd (wrR σ11 20 a0 203 (hN σ9)) fun σ13 => bd (nwA σ13 102 (2 : Int32)) fun σ15 => bd (wrR σ15 20 a0 204 (hN σ13)) fun σ17 => bd (nwA σ17 101 (20 : Int32)) fun σ19 => bd (wrR σ19 20 a0 206 (hN σ17)) fun σ21 => bd (nwA σ21 101 (60 : Int32)) fun σ23 => bd (wrR σ23 20 a0 208 (hN σ21)) fun σ25 => bd (nwA σ25 101 (24 : Int32)) fun σ27 => bd (wrR σ27 20 a0 213 (hN σ25)) fun σ29 => bd (nwA σ29 101 (24 : Int32)) fun σ31 => bd (wrR σ31 20 a0 214 (hN σ29)) fun σ33 => bd (nwA σ33 101 (24 : Int32)) fun σ35 => bd (wrR σ35 20 a0 215 (hN σ33)) fun σ37 => bd (rdR σ37 20 a0 200) fun b39 => bd (stI σ37 101 b39 (0 : Int32) (10 : Int32)) fun σ41 => bd (rdR σ41 20 a0 200) fun b43 => bd (stI σ41 101 b43 (1 : Int32) (300 : Int32)) fun σ45 => bd (rdR σ45 20 a0 200) fun b47 => bd (stI σ45 101 b47 (2 : Int32) (3 : Int32)) fun σ49 => bd (rdR σ49 20 a0 200) fun b51 => bd (stI σ49 101 b51 (3 : Int32) (40 : Int32)) fun σ53 => some ((), σ53)
set_option maxHeartbeats 4000000 in
theorem v_X3_init (l : Launch) (G : Gx) (hst : l.stackTraces = false) (S : Ms) {σ σe : Hp} {a0 : Nat} {r : Unit} (h : f_X3_init σ a0 = some (r, σe)) : MT l G yX3_init (ws_ yX3_init cX3_init 1 none) 1 30 [pR a0] σ S (.inl none) σe S := by
  refine MT_of (own := RX3) (nL := 1) (ini := true) (by decide +kernel) rfl (Nat.le_of_ble_eq_true rfl) (fun h => rfl) hst ?_
  show VV_X3_init l G σ (.inl none) σe S 0 [(0, pR a0)] [] σ S
  unfold f_X3_init at h
  refine V_aload_n (i := 0) 0 dX3_init_0 rfl rfl ?_
  obtain ⟨e1, e2, h⟩ := bd_s h
  refine V_objInit (gz_n e2) q1997 q131 q132 (by decide) (Nat.le_of_ble_eq_true rfl) dX3_init_1 ?_
  refine V_aload_n (i := 0) 0 dX3_init_4 rfl rfl ?_
  refine V_sipush (v := 149) dX3_init_5 (by decide) ?_
  obtain ⟨σ3, e4, h⟩ := bd_s h
  refine V_nwA (t := 1) e4 rfl (by decide) q272 dX3_init_8 ?_
  obtain ⟨σ5, e6, h⟩ := bd_s h
  refine V_wrRF gw_X3_7 rfl (okF_arr _ rfl) rfl rfl e6 dX3_init_10 ?_
  refine V_aload_n (i := 0) 0 dX3_init_13 rfl rfl ?_
  refine V_sipush (v := 894) dX3_init_14 (by decide) ?_
  obtain ⟨σ7, e8, h⟩ := bd_s h
  refine V_nwA (t := 1) e8 rfl (by decide) q272 dX3_init_17 ?_
  obtain ⟨σ9, e10, h⟩ := bd_s h
  refine V_wrRF gw_X3_13 rfl (okF_arr _ rfl) rfl rfl e10 dX3_init_19 ?_
  refine V_aload_n (i := 0) 0 dX3_init_22 rfl rfl ?_
  refine V_sipush (v := 298) dX3_init_23 (by decide) ?_
  obtain ⟨σ11, e12, h⟩ := bd_s h
  refine V_nwA (t := 1) e12 rfl (by decide) q272 dX3_init_26 ?_
  obtain ⟨σ13, e14, h⟩ := bd_s h
  refine V_wrRF gw_X3_16 rfl (okF_arr _ rfl) rfl rfl e14 dX3_init_28 ?_
  refine V_aload_n (i := 0) 0 dX3_init_31 rfl rfl ?_
  refine V_iconst (v := 2) dX3_init_32 (by decide) ?_
  obtain ⟨σ15, e16, h⟩ := bd_s h
  refine V_nwA (t := 2) e16 rfl (by decide) q2053 dX3_init_33 ?_
  obtain ⟨σ17, e18, h⟩ := bd_s h
  refine V_wrRF gw_X3_19 rfl (okF_arr _ rfl) rfl rfl e18 dX3_init_35 ?_
  refine V_aload_n (i := 0) 0 dX3_init_38 rfl rfl ?_
  refine V_bipush (v := 20) dX3_init_39 (by decide) ?_
  obtain ⟨σ19, e20, h⟩ := bd_s h
  refine V_nwA (t := 1) e20 rfl (by decide) q272 dX3_init_41 ?_
  obtain ⟨σ21, e22, h⟩ := bd_s h
  refine V_wrRF gw_X3_23 rfl (okF_arr _ rfl) rfl rfl e22 dX3_init_43 ?_
  refine V_aload_n (i := 0) 0 dX3_init_46 rfl rfl ?_
  refine V_bipush (v := 60) dX3_init_47 (by decide) ?_
  obtain ⟨σ23, e24, h⟩ := bd_s h
  refine V_nwA (t := 1) e24 rfl (by decide) q272 dX3_init_49 ?_
  obtain ⟨σ25, e26, h⟩ := bd_s h
  refine V_wrRF gw_X3_26 rfl (okF_arr _ rfl) rfl rfl e26 dX3_init_51 ?_
  refine V_aload_n (i := 0) 0 dX3_init_54 rfl rfl ?_
  refine V_bipush (v := 24) dX3_init_55 (by decide) ?_
  obtain ⟨σ27, e28, h⟩ := bd_s h
  refine V_nwA (t := 1) e28 rfl (by decide) q272 dX3_init_57 ?_
  obtain ⟨σ29, e30, h⟩ := bd_s h
  refine V_wrRF gw_X3_29 rfl (okF_arr _ rfl) rfl rfl e30 dX3_init_59 ?_
  refine V_aload_n (i := 0) 0 dX3_init_62 rfl rfl ?_
  refine V_bipush (v := 24) dX3_init_63 (by decide) ?_
  obtain ⟨σ31, e32, h⟩ := bd_s h
  refine V_nwA (t := 1) e32 rfl (by decide) q272 dX3_init_65 ?_
  obtain ⟨σ33, e34, h⟩ := bd_s h
  refine V_wrRF gw_X3_32 rfl (okF_arr _ rfl) rfl rfl e34 dX3_init_67 ?_
  refine V_aload_n (i := 0) 0 dX3_init_70 rfl rfl ?_
  refine V_bipush (v := 24) dX3_init_71 (by decide) ?_
  obtain ⟨σ35, e36, h⟩ := bd_s h
  refine V_nwA (t := 1) e36 rfl (by decide) q272 dX3_init_73 ?_
  obtain ⟨σ37, e38, h⟩ := bd_s h
  refine V_wrRF gw_X3_35 rfl (okF_arr _ rfl) rfl rfl e38 dX3_init_75 ?_
  refine V_aload_n (i := 0) 0 dX3_init_78 rfl rfl ?_
  obtain ⟨b39, e40, h⟩ := bd_s h
  refine V_rdR gf_X3_7 rfl rfl rfl e40 dX3_init_79 ?_
  refine V_iconst (v := 0) dX3_init_82 (by decide) ?_
  refine V_bipush (v := 10) dX3_init_83 (by decide) ?_
  obtain ⟨σ41, e42, h⟩ := bd_s h
  refine V_stI1 e42 dX3_init_85 ?_
  refine V_aload_n (i := 0) 0 dX3_init_86 rfl rfl ?_
  obtain ⟨b43, e44, h⟩ := bd_s h
  refine V_rdR gf_X3_7 rfl rfl rfl e44 dX3_init_87 ?_
  refine V_iconst (v := 1) dX3_init_90 (by decide) ?_
  refine V_sipush (v := 300) dX3_init_91 (by decide) ?_
  obtain ⟨σ45, e46, h⟩ := bd_s h
  refine V_stI1 e46 dX3_init_94 ?_
  refine V_aload_n (i := 0) 0 dX3_init_95 rfl rfl ?_
  obtain ⟨b47, e48, h⟩ := bd_s h
  refine V_rdR gf_X3_7 rfl rfl rfl e48 dX3_init_96 ?_
  refine V_iconst (v := 2) dX3_init_99 (by decide) ?_
  refine V_iconst (v := 3) dX3_init_100 (by decide) ?_
  obtain ⟨σ49, e50, h⟩ := bd_s h
  refine V_stI1 e50 dX3_init_101 ?_
  refine V_aload_n (i := 0) 0 dX3_init_102 rfl rfl ?_
  obtain ⟨b51, e52, h⟩ := bd_s h
  refine V_rdR gf_X3_7 rfl rfl rfl e52 dX3_init_103 ?_
  refine V_iconst (v := 3) dX3_init_106 (by decide) ?_
  refine V_bipush (v := 40) dX3_init_107 (by decide) ?_
  obtain ⟨σ53, e54, h⟩ := bd_s h
  refine V_stI1 e54 dX3_init_109 ?_
  cases h
  exact V_vret rfl dX3_init_110
