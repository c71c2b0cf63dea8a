/-! the component and the JDK, decompiled: written by gen/dec.py -/
set_option maxRecDepth 100000
abbrev VV_X1_rest (l : Launch) (G : Gx) (σ0 : Hp) (o : Oc) (σe : Hp) (Se : Ms) := V l G RX1 cX1_rest 2 (some .int) [] false 10 275 σ0 o σe Se
def f_X1_rest (σ : Hp) (a0 : Nat) (x1 : Int32) : Option (Ex Int32 × Hp) :=
  bd (f_X1_isIn x1 (1 : Int32) (60 : Int32)) fun y1 => bp (f_X1_require σ y1) fun r3 σ4 => ex r3 (fun e6 => bd (gk σ4 1 a0) fun e10 => bp (f_X1_save σ4 a0) fun e12 σ13 => bd (rdR σ13 1 a0 10) fun b15 => bd (gk σ13 2 b15) fun e17 => bp (f_X2_rest σ13 b15 x1) fun y19 σ20 => some (.inl y19, σ20)) (fun e8 => some (.inr e8, σ4))
set_option maxHeartbeats 4000000 in
theorem v_X1_rest (l : Launch) (G : Gx) (hst : l.stackTraces = false) (S : Ms) {σ σe : Hp} {a0 : Nat} {x1 : Int32} {r : Ex Int32} (h : f_X1_rest σ a0 x1 = some (r, σe)) : MT l G yX1_rest (ws_ yX1_rest cX1_rest 2 (some .int)) 10 275 [pR a0, pI x1] σ S (tOI r) σe S := by
  refine MT_of (own := RX1) (nL := 2) (ini := false) (by decide +kernel) rfl (Nat.le_of_ble_eq_true rfl) (fun h => by cases h) hst ?_
  show VV_X1_rest l G σ (tOI r) σe S 0 [(0, pR a0), (1, pI x1)] [] σ S
  unfold f_X1_rest at h
  refine V_iload_n (i := 1) 1 dX1_rest_0 rfl rfl ?_
  refine V_iconst (v := 1) dX1_rest_1 (by decide) ?_
  refine V_bipush (v := 60) dX1_rest_2 (by decide) ?_
  obtain ⟨y1, e2, h⟩ := bd_s h
  refine V_callS_v (n9 := 3) [] (v_X1_isIn l G hst _ _ e2) rfl rfl (lw_S q874 q754 q76 q755) (by decide +kernel) (by decide) (Nat.le_of_ble_eq_true rfl) dX1_rest_4 ?_
  obtain ⟨r3, σ4, e5, h⟩ := bp_s h
  refine V_callSxV (n9 := 1) [] (v_X1_require l G hst _ e5) rfl rfl (lw_S q875 q876 q76 q877) (by decide +kernel) (by decide) (Nat.le_of_ble_eq_true rfl) dX1_rest_7 (fun e6 e7 => ?_) (fun e8 e9 => ?_)
  · subst e7
    replace h := ex_l h
    refine V_aload_n (i := 0) 0 dX1_rest_10 rfl rfl ?_
    obtain ⟨e10, e11, h⟩ := bd_s h
    obtain ⟨e12, σ13, e14, h⟩ := bp_s h
    refine V_callV_0 (n9 := 0) (c := 0) (r := (RX1, TX1, 4)) [] (v_X1_save l G hst _ e14) rfl rfl (lw_V q904 q906 qs10 q76 q907) (by decide +kernel) (by decide) (Nat.le_of_ble_eq_true rfl) (gk_k e11 rfl) rfl dX1_rest_11 ?_
    refine V_aload_n (i := 0) 0 dX1_rest_14 rfl rfl ?_
    obtain ⟨b15, e16, h⟩ := bd_s h
    refine V_rdR gf_X1_10 rfl rfl rfl e16 dX1_rest_15 ?_
    refine V_iload_n (i := 1) 1 dX1_rest_18 rfl rfl ?_
    obtain ⟨e17, e18, h⟩ := bd_s h
    obtain ⟨y19, σ20, e21, h⟩ := bp_s h
    refine V_callV_v (n9 := 1) (c := 1) (r := (RX2, TX2, 7)) [] (v_X2_rest l G hst _ e21) rfl rfl (lw_V q1105 q1106 q1107 q77 q1108) (by decide +kernel) (by decide) (Nat.le_of_ble_eq_true rfl) (gk_k e18 rfl) rfl dX1_rest_19 ?_
    cases h
    exact V_iret rfl dX1_rest_22
  · subst e9
    replace h := ex_r h
    cases h
    exact VX_out (by decide)

abbrev VV_X0_rest (l : Launch) (G : Gx) (σ0 : Hp) (o : Oc) (σe : Hp) (Se : Ms) := V l G RX0 cX0_rest 4 (some .int) (tableOf [(0, 9, 12, 13)]) false 11 296 σ0 o σe Se
def f_X0_rest (σ : Hp) (a0 : Nat) (x1 : Int32) (a2 : Nat) : Option (Int32 × Hp) :=
  bd (gk σ 1 a0) fun e1 => bp (f_X1_rest σ a0 x1) fun r3 σ4 => ex r3 (fun y6 => bd (stI σ4 103 a2 (0 : Int32) y6) fun σ10 => some ((0 : Int32), σ10)) (fun e8 => if e8.1 = "java/lang/IllegalArgumentException" then some ((1 : Int32), σ4) else none)
set_option maxHeartbeats 4000000 in
theorem v_X0_rest (l : Launch) (G : Gx) (hst : l.stackTraces = false) (S : Ms) {σ σe : Hp} {a0 : Nat} {x1 : Int32} {a2 : Nat} {r : Int32} (h : f_X0_rest σ a0 x1 a2 = some (r, σe)) : MT l G yX0_rest (wsW_ yX0_rest cX0_rest 4 (some .int) [(0, 9, 12, 13)]) 11 296 [pR a0, pI x1, pR a2] σ S (.inl (some (pI r))) σe S := by
  refine MT_ofH (own := RX0) (nL := 4) (ini := false) (by decide +kernel) rfl (Nat.le_of_ble_eq_true rfl) (fun h => by cases h) hst ?_
  show VV_X0_rest l G σ (.inl (some (pI r))) σe S 0 [(0, pR a0), (1, pI x1), (2, pR a2)] [] σ S
  unfold f_X0_rest at h
  refine V_aload_n (i := 2) 2 dX0_rest_0 rfl rfl ?_
  refine V_iconst (v := 0) dX0_rest_1 (by decide) ?_
  refine V_aload_n (i := 0) 0 dX0_rest_2 rfl rfl ?_
  refine V_iload_n (i := 1) 1 dX0_rest_3 rfl rfl ?_
  obtain ⟨e1, e2, h⟩ := bd_s h
  obtain ⟨r3, σ4, e5, h⟩ := bp_s h
  refine V_callVxI (n9 := 1) (c := 0) (r := (RX1, TX1, 4)) [pI (0 : Int32), pR a2] (v_X1_rest l G hst _ e5) rfl rfl (lw_V q1101 q1102 q1103 q76 q1104) (by decide +kernel) (by decide) (Nat.le_of_ble_eq_true rfl) (gk_k e2 rfl) rfl dX0_rest_4 (fun y6 e7 => ?_) (fun e8 e9 => ?_)
  · subst e7
    replace h := ex_l h
    refine V_i2l dX0_rest_7 ?_
    obtain ⟨σ10, e11, h⟩ := bd_s h
    refine V_stI3 e11 dX0_rest_8 ?_
    refine V_goto 15 dX0_rest_9 (by decide) ?_
    refine V_iconst (v := 0) dX0_rest_15 (by decide) ?_
    cases h
    exact V_iret rfl dX0_rest_16
  · subst e9
    replace h := ex_r h
    by_cases e12 : e8.1 = "java/lang/IllegalArgumentException"
    · replace h := (if_pos e12).symm.trans h
      rw [e12]
      refine VX_catch (E := "java/lang/IllegalArgumentException") (nm := "java/lang/IllegalArgumentException") (tableOf []) ⟨0, 9, 12, 13⟩ (tableOf []) rfl (fun y hy => by cases hy) (by decide) (by decide) q867 (by decide +kernel) ?_
      refine V_astore_n (i := 3) (L' := [(3, pR (e8.2)), (0, pR a0), (1, pI x1), (2, pR a2)]) dX0_rest_12 rfl (by decide) rfl ?_
      refine V_iconst (v := 1) dX0_rest_13 (by decide) ?_
      cases h
      exact V_iret rfl dX0_rest_14
    replace h := (if_neg e12).symm.trans h
    cases h

abbrev VV_X1_set (l : Launch) (G : Gx) (σ0 : Hp) (o : Oc) (σe : Hp) (Se : Ms) := V l G RX1 cX1_set 4 (some .int) [] false 10 275 σ0 o σe Se
def f_X1_set_44 (σ : Hp) (a0 : Nat) (x1 : Int32) (x2 : Int32) (s0 : Int32) (s1 : Int32) (s2 : Int32) : Option (Ex Int32 × Hp) :=
  bd (f_X1_isIn s2 s1 s0) fun y1 => bp (f_X1_require σ y1) fun r3 σ4 => ex r3 (fun e6 => bd (gk σ4 1 a0) fun e10 => bp (f_X1_save σ4 a0) fun e12 σ13 => bd (rdR σ13 1 a0 10) fun b15 => bd (rdR σ13 2 b15 22) fun b17 => bd (elI σ13 101 b17 x1) fun y19 => bd (rdR σ13 1 a0 10) fun b21 => bd (rdR σ13 2 b21 22) fun b23 => bd (stI σ13 101 b23 x1 x2) fun σ25 => some (.inl y19, σ25)) (fun e8 => some (.inr e8, σ4))
set_option maxHeartbeats 4000000 in
theorem v_X1_set_44 {l : Launch} {G : Gx} (hst : l.stackTraces = false) {σ0 σe : Hp} {Se : Ms} {r : Ex Int32} {σ : Hp} {a0 : Nat} {x1 : Int32} {x2 : Int32} {s0 : Int32} {s1 : Int32} {s2 : Int32} (h : f_X1_set_44 σ a0 x1 x2 s0 s1 s2 = some (r, σe)) : VV_X1_set l G σ0 (tOI r) σe Se 44 [(0, pR a0), (1, pI x1), (2, pI x2)] [pI s0, pI s1, pI s2] σ Se := by
  unfold f_X1_set_44 at h
  obtain ⟨y1, e2, h⟩ := bd_s h
  refine V_callS_v (n9 := 3) [] (v_X1_isIn l G hst _ _ e2) rfl rfl (lw_S q874 q754 q76 q755) (by decide +kernel) (by decide) (Nat.le_of_ble_eq_true rfl) dX1_set_44 ?_
  obtain ⟨r3, σ4, e5, h⟩ := bp_s h
  refine V_callSxV (n9 := 1) [] (v_X1_require l G hst _ e5) rfl rfl (lw_S q875 q876 q76 q877) (by decide +kernel) (by decide) (Nat.le_of_ble_eq_true rfl) dX1_set_47 (fun e6 e7 => ?_) (fun e8 e9 => ?_)
  · subst e7
    replace h := ex_l h
    refine V_aload_n (i := 0) 0 dX1_set_50 rfl rfl ?_
    obtain ⟨e10, e11, h⟩ := bd_s h
    obtain ⟨e12, σ13, e14, h⟩ := bp_s h
    refine V_callV_0 (n9 := 0) (c := 0) (r := (RX1, TX1, 4)) [] (v_X1_save l G hst _ e14) rfl rfl (lw_V q904 q906 qs10 q76 q907) (by decide +kernel) (by decide) (Nat.le_of_ble_eq_true rfl) (gk_k e11 rfl) rfl dX1_set_51 ?_
    refine V_aload_n (i := 0) 0 dX1_set_54 rfl rfl ?_
    obtain ⟨b15, e16, h⟩ := bd_s h
    refine V_rdR gf_X1_10 rfl rfl rfl e16 dX1_set_55 ?_
    obtain ⟨b17, e18, h⟩ := bd_s h
    refine V_rdR gf_X1_123 rfl rfl rfl e18 dX1_set_58 ?_
    refine V_iload_n (i := 1) 1 dX1_set_61 rfl rfl ?_
    obtain ⟨y19, e20, h⟩ := bd_s h
    refine V_elI1 e20 dX1_set_62 ?_
    refine V_istore_n (i := 3) (L' := [(3, pI y19), (0, pR a0), (1, pI x1), (2, pI x2)]) dX1_set_63 rfl (by decide) rfl ?_
    refine V_aload_n (i := 0) 1 dX1_set_64 rfl rfl ?_
    obtain ⟨b21, e22, h⟩ := bd_s h
    refine V_rdR gf_X1_10 rfl rfl rfl e22 dX1_set_65 ?_
    obtain ⟨b23, e24, h⟩ := bd_s h
    refine V_rdR gf_X1_123 rfl rfl rfl e24 dX1_set_68 ?_
    refine V_iload_n (i := 1) 2 dX1_set_71 rfl rfl ?_
    refine V_iload_n (i := 2) 3 dX1_set_72 rfl rfl ?_
    obtain ⟨σ25, e26, h⟩ := bd_s h
    refine V_stI1 e26 dX1_set_73 ?_
    refine V_iload_n (i := 3) 0 dX1_set_74 rfl rfl ?_
    cases h
    exact V_iret rfl dX1_set_75
  · subst e9
    replace h := ex_r h
    cases h
    exact VX_out (by decide)
def f_X1_set (σ : Hp) (a0 : Nat) (x1 : Int32) (x2 : Int32) : Option (Ex Int32 × Hp) :=
  bd (f_X1_isIn x1 (0 : Int32) (3 : Int32)) fun y1 => bp (f_X1_exists σ y1) fun r3 σ4 => ex r3 (fun e6 => if x1 = (0 : Int32) then (f_X1_set_44 σ4 a0 x1 x2 (60 : Int32) (0 : Int32) x2) else (if x1 = (1 : Int32) then (f_X1_set_44 σ4 a0 x1 x2 (1000 : Int32) (0 : Int32) x2) else (if x1 = (2 : Int32) then (f_X1_set_44 σ4 a0 x1 x2 (20 : Int32) (0 : Int32) x2) else (f_X1_set_44 σ4 a0 x1 x2 (200 : Int32) (0 : Int32) x2)))) (fun e8 => some (.inr e8, σ4))
set_option maxHeartbeats 4000000 in
theorem v_X1_set (l : Launch) (G : Gx) (hst : l.stackTraces = false) (S : Ms) {σ σe : Hp} {a0 : Nat} {x1 : Int32} {x2 : Int32} {r : Ex Int32} (h : f_X1_set σ a0 x1 x2 = some (r, σe)) : MT l G yX1_set (ws_ yX1_set cX1_set 4 (some .int)) 10 275 [pR a0, pI x1, pI x2] σ S (tOI r) σe S := by
  refine MT_of (own := RX1) (nL := 4) (ini := false) (by decide +kernel) rfl (Nat.le_of_ble_eq_true rfl) (fun h => by cases h) hst ?_
  show VV_X1_set l G σ (tOI r) σe S 0 [(0, pR a0), (1, pI x1), (2, pI x2)] [] σ S
  unfold f_X1_set at h
  refine V_iload_n (i := 1) 1 dX1_set_0 rfl rfl ?_
  refine V_iconst (v := 0) dX1_set_1 (by decide) ?_
  refine V_iconst (v := 3) dX1_set_2 (by decide) ?_
  obtain ⟨y1, e2, h⟩ := bd_s h
  refine V_callS_v (n9 := 3) [] (v_X1_isIn l G hst _ _ e2) rfl rfl (lw_S q874 q754 q76 q755) (by decide +kernel) (by decide) (Nat.le_of_ble_eq_true rfl) dX1_set_3 ?_
  obtain ⟨r3, σ4, e5, h⟩ := bp_s h
  refine V_callSxV (n9 := 1) [] (v_X1_exists l G hst _ e5) rfl rfl (lw_S q1036 q1037 q76 q1038) (by decide +kernel) (by decide) (Nat.le_of_ble_eq_true rfl) dX1_set_6 (fun e6 e7 => ?_) (fun e8 e9 => ?_)
  · subst e7
    replace h := ex_l h
    refine V_iload_n (i := 2) 2 dX1_set_9 rfl rfl ?_
    refine V_iconst (v := 0) dX1_set_10 (by decide) ?_
    refine V_iload_n (i := 1) 1 dX1_set_11 rfl rfl ?_
    refine V_if_ne 20 dX1_set_12 (by decide) (fun c10 => ?_) (fun c10 => ?_)
    · replace h := it_f c10 h
      refine V_iload_n (i := 1) 1 dX1_set_20 rfl rfl ?_
      refine V_iconst (v := 1) dX1_set_21 (by decide) ?_
      refine V_icmp_ne 31 dX1_set_22 (by decide) (fun c11 => ?_) (fun c11 => ?_)
      · replace h := it_f c11 h
        refine V_iload_n (i := 1) 1 dX1_set_31 rfl rfl ?_
        refine V_iconst (v := 2) dX1_set_32 (by decide) ?_
        refine V_icmp_ne 41 dX1_set_33 (by decide) (fun c12 => ?_) (fun c12 => ?_)
        · replace h := it_f c12 h
          refine V_sipush (v := 200) dX1_set_41 (by decide) ?_
          refine V_sub [0, 1, 2] rfl ?_
          exact v_X1_set_44 hst h
        · replace h := it_t c12 h
          refine V_bipush (v := 20) dX1_set_36 (by decide) ?_
          refine V_goto 44 dX1_set_38 (by decide) ?_
          refine V_sub [0, 1, 2] rfl ?_
          exact v_X1_set_44 hst h
      · replace h := it_t c11 h
        refine V_sipush (v := 1000) dX1_set_25 (by decide) ?_
        refine V_goto 44 dX1_set_28 (by decide) ?_
        refine V_sub [0, 1, 2] rfl ?_
        exact v_X1_set_44 hst h
    · replace h := it_t c10 h
      refine V_bipush (v := 60) dX1_set_15 (by decide) ?_
      refine V_goto 44 dX1_set_17 (by decide) ?_
      refine V_sub [0, 1, 2] rfl ?_
      exact v_X1_set_44 hst h
  · subst e9
    replace h := ex_r h
    cases h
    exact VX_out (by decide)

abbrev VV_X0_set (l : Launch) (G : Gx) (σ0 : Hp) (o : Oc) (σe : Hp) (Se : Ms) := V l G RX0 cX0_set 5 (some .int) (tableOf [(0, 10, 13, 21), (0, 10, 17, 13)]) false 11 298 σ0 o σe Se
def f_X0_set (σ : Hp) (a0 : Nat) (x1 : Int32) (x2 : Int32) (a3 : Nat) : Option (Int32 × Hp) :=
  bd (gk σ 1 a0) fun e1 => bp (f_X1_set σ a0 x1 x2) fun r3 σ4 => ex r3 (fun y6 => bd (stI σ4 103 a3 (0 : Int32) y6) fun σ10 => some ((0 : Int32), σ10)) (fun e8 => if e8.1 = "java/lang/IndexOutOfBoundsException" then some ((1 : Int32), σ4) else if e8.1 = "java/lang/IllegalArgumentException" then some ((2 : Int32), σ4) else none)
set_option maxHeartbeats 4000000 in
theorem v_X0_set (l : Launch) (G : Gx) (hst : l.stackTraces = false) (S : Ms) {σ σe : Hp} {a0 : Nat} {x1 : Int32} {x2 : Int32} {a3 : Nat} {r : Int32} (h : f_X0_set σ a0 x1 x2 a3 = some (r, σe)) : MT l G yX0_set (wsW_ yX0_set cX0_set 5 (some .int) [(0, 10, 13, 21), (0, 10, 17, 13)]) 11 298 [pR a0, pI x1, pI x2, pR a3] σ S (.inl (some (pI r))) σe S := by
  refine MT_ofH (own := RX0) (nL := 5) (ini := false) (by decide +kernel) rfl (Nat.le_of_ble_eq_true rfl) (fun h => by cases h) hst ?_
  show VV_X0_set l G σ (.inl (some (pI r))) σe S 0 [(0, pR a0), (1, pI x1), (2, pI x2), (3, pR a3)] [] σ S
  unfold f_X0_set at h
  refine V_aload_n (i := 3) 3 dX0_set_0 rfl rfl ?_
  refine V_iconst (v := 0) dX0_set_1 (by decide) ?_
  refine V_aload_n (i := 0) 0 dX0_set_2 rfl rfl ?_
  refine V_iload_n (i := 1) 1 dX0_set_3 rfl rfl ?_
  refine V_iload_n (i := 2) 2 dX0_set_4 rfl rfl ?_
  obtain ⟨e1, e2, h⟩ := bd_s h
  obtain ⟨r3, σ4, e5, h⟩ := bp_s h
  refine V_callVxI (n9 := 2) (c := 0) (r := (RX1, TX1, 4)) [pI (0 : Int32), pR a3] (v_X1_set l G hst _ e5) rfl rfl (lw_V q1120 q1121 q1122 q76 q1123) (by decide +kernel) (by decide) (Nat.le_of_ble_eq_true rfl) (gk_k e2 rfl) rfl dX0_set_5 (fun y6 e7 => ?_) (fun e8 e9 => ?_)
  · subst e7
    replace h := ex_l h
    refine V_i2l dX0_set_8 ?_
    obtain ⟨σ10, e11, h⟩ := bd_s h
    refine V_stI3 e11 dX0_set_9 ?_
    refine V_goto 21 dX0_set_10 (by decide) ?_
    refine V_iconst (v := 0) dX0_set_21 (by decide) ?_
    cases h
    exact V_iret rfl dX0_set_22
  · subst e9
    replace h := ex_r h
    by_cases e12 : e8.1 = "java/lang/IndexOutOfBoundsException"
    · replace h := (if_pos e12).symm.trans h
      rw [e12]
      refine VX_catch (E := "java/lang/IndexOutOfBoundsException") (nm := "java/lang/IndexOutOfBoundsException") (tableOf []) ⟨0, 10, 13, 21⟩ (tableOf [(0, 10, 17, 13)]) rfl (fun y hy => by cases hy) (by decide) (by decide) q1025 (by decide +kernel) ?_
      refine V_astore (i := 4) (L' := [(4, pR (e8.2)), (0, pR a0), (1, pI x1), (2, pI x2), (3, pR a3)]) dX0_set_13 (by decide) rfl ?_
      refine V_iconst (v := 1) dX0_set_15 (by decide) ?_
      cases h
      exact V_iret rfl dX0_set_16
    replace h := (if_neg e12).symm.trans h
    by_cases e13 : e8.1 = "java/lang/IllegalArgumentException"
    · replace h := (if_pos e13).symm.trans h
      rw [e13]
      refine VX_catch (E := "java/lang/IllegalArgumentException") (nm := "java/lang/IllegalArgumentException") (tableOf [(0, 10, 13, 21)]) ⟨0, 10, 17, 13⟩ (tableOf []) rfl (hp_1 (Or.inr ⟨by decide, "java/lang/IndexOutOfBoundsException", q1025, by decide +kernel⟩)) (by decide) (by decide) q867 (by decide +kernel) ?_
      refine V_astore (i := 4) (L' := [(4, pR (e8.2)), (0, pR a0), (1, pI x1), (2, pI x2), (3, pR a3)]) dX0_set_17 (by decide) rfl ?_
      refine V_iconst (v := 2) dX0_set_19 (by decide) ?_
      cases h
      exact V_iret rfl dX0_set_20
    replace h := (if_neg e13).symm.trans h
    cases h

abbrev VV_X1_checkStack (l : Launch) (G : Gx) (σ0 : Hp) (o : Oc) (σe : Hp) (Se : Ms) := V l G RX1 cX1_checkStack 1 none [] false 7 120 σ0 o σe Se
def f_X1_checkStack (σ : Hp) (x0 : Int32) : Option (Ex Unit × Hp) :=
  bd (f_X1_isIn x0 (0 : Int32) (2 : Int32)) fun y1 => bp (f_X1_exists σ y1) fun r3 σ4 => ex r3 (fun e6 => some (.inl (), σ4)) (fun e8 => some (.inr e8, σ4))
set_option maxHeartbeats 4000000 in
theorem v_X1_checkStack (l : Launch) (G : Gx) (hst : l.stackTraces = false) (S : Ms) {σ σe : Hp} {x0 : Int32} {r : Ex Unit} (h : f_X1_checkStack σ x0 = some (r, σe)) : MT l G yX1_checkStack (ws_ yX1_checkStack cX1_checkStack 1 none) 7 120 [pI x0] σ S (tOV r) σe S := by
  refine MT_of (own := RX1) (nL := 1) (ini := false) (by decide +kernel) rfl (Nat.le_of_ble_eq_true rfl) (fun h => by cases h) hst ?_
  show VV_X1_checkStack l G σ (tOV r) σe S 0 [(0, pI x0)] [] σ S
  unfold f_X1_checkStack at h
  refine V_iload_n (i := 0) 0 dX1_checkStack_0 rfl rfl ?_
  refine V_iconst (v := 0) dX1_checkStack_1 (by decide) ?_
  refine V_iconst (v := 2) dX1_checkStack_2 (by decide) ?_
  obtain ⟨y1, e2, h⟩ := bd_s h
  refine V_callS_v (n9 := 3) [] (v_X1_isIn l G hst _ _ e2) rfl rfl (lw_S q874 q754 q76 q755) (by decide +kernel) (by decide) (Nat.le_of_ble_eq_true rfl) dX1_checkStack_3 ?_
  obtain ⟨r3, σ4, e5, h⟩ := bp_s h
  refine V_callSxV (n9 := 1) [] (v_X1_exists l G hst _ e5) rfl rfl (lw_S q1036 q1037 q76 q1038) (by decide +kernel) (by decide) (Nat.le_of_ble_eq_true rfl) dX1_checkStack_6 (fun e6 e7 => ?_) (fun e8 e9 => ?_)
  · subst e7
    replace h := ex_l h
    cases h
    exact V_vret rfl dX1_checkStack_9
  · subst e9
    replace h := ex_r h
    cases h
    exact VX_out (by decide)

abbrev VV_X1_wring (l : Launch) (G : Gx) (σ0 : Hp) (o : Oc) (σe : Hp) (Se : Ms) := V l G RX1 cX1_wring 3 (some .int) [] false 10 275 σ0 o σe Se
def f_X1_wring (σ : Hp) (a0 : Nat) (x1 : Int32) (x2 : Int32) : Option (Ex Int32 × Hp) :=
  bp (f_X1_checkStack σ x1) fun r1 σ2 => ex r1 (fun e4 => bd (gk σ2 1 a0) fun e8 => bp (f_X1_blockAt σ2 a0 x2) fun r10 σ11 => ex r10 (fun b13 => bd (gk σ11 1 a0) fun e17 => bp (f_X1_save σ11 a0) fun e19 σ20 => bd (rdR σ20 1 a0 10) fun b22 => bd (gk σ20 2 b22) fun e24 => bp (f_X2_wring σ20 b22 x1 x2) fun y26 σ27 => some (.inl y26, σ27)) (fun e15 => some (.inr e15, σ11))) (fun e6 => some (.inr e6, σ2))
set_option maxHeartbeats 4000000 in
theorem v_X1_wring (l : Launch) (G : Gx) (hst : l.stackTraces = false) (S : Ms) {σ σe : Hp} {a0 : Nat} {x1 : Int32} {x2 : Int32} {r : Ex Int32} (h : f_X1_wring σ a0 x1 x2 = some (r, σe)) : MT l G yX1_wring (ws_ yX1_wring cX1_wring 3 (some .int)) 10 275 [pR a0, pI x1, pI x2] σ S (tOI r) σe S := by
  refine MT_of (own := RX1) (nL := 3) (ini := false) (by decide +kernel) rfl (Nat.le_of_ble_eq_true rfl) (fun h => by cases h) hst ?_
  show VV_X1_wring l G σ (tOI r) σe S 0 [(0, pR a0), (1, pI x1), (2, pI x2)] [] σ S
  unfold f_X1_wring at h
  refine V_iload_n (i := 1) 1 dX1_wring_0 rfl rfl ?_
  obtain ⟨r1, σ2, e3, h⟩ := bp_s h
  refine V_callSxV (n9 := 1) [] (v_X1_checkStack l G hst _ e3) rfl rfl (lw_S q1131 q1132 q76 q1133) (by decide +kernel) (by decide) (Nat.le_of_ble_eq_true rfl) dX1_wring_1 (fun e4 e5 => ?_) (fun e6 e7 => ?_)
  · subst e5
    replace h := ex_l h
    refine V_aload_n (i := 0) 0 dX1_wring_4 rfl rfl ?_
    refine V_iload_n (i := 2) 2 dX1_wring_5 rfl rfl ?_
    obtain ⟨e8, e9, h⟩ := bd_s h
    obtain ⟨r10, σ11, e12, h⟩ := bp_s h
    refine V_callVxR (n9 := 1) (c := 0) (r := (RX1, TX1, 4)) [] (v_X1_blockAt l G hst _ e12) rfl rfl (lw_V q1032 q1034 qs13 q76 q1035) (by decide +kernel) (by decide) (Nat.le_of_ble_eq_true rfl) (gk_k e9 rfl) rfl dX1_wring_6 (fun b13 e14 => ?_) (fun e15 e16 => ?_)
    · subst e14
      replace h := ex_l h
      refine V_pop dX1_wring_9 rfl ?_
      refine V_aload_n (i := 0) 0 dX1_wring_10 rfl rfl ?_
      obtain ⟨e17, e18, h⟩ := bd_s h
      obtain ⟨e19, σ20, e21, h⟩ := bp_s h
      refine V_callV_0 (n9 := 0) (c := 0) (r := (RX1, TX1, 4)) [] (v_X1_save l G hst _ e21) rfl rfl (lw_V q904 q906 qs10 q76 q907) (by decide +kernel) (by decide) (Nat.le_of_ble_eq_true rfl) (gk_k e18 rfl) rfl dX1_wring_11 ?_
      refine V_aload_n (i := 0) 0 dX1_wring_14 rfl rfl ?_
      obtain ⟨b22, e23, h⟩ := bd_s h
      refine V_rdR gf_X1_10 rfl rfl rfl e23 dX1_wring_15 ?_
      refine V_iload_n (i := 1) 1 dX1_wring_18 rfl rfl ?_
      refine V_iload_n (i := 2) 2 dX1_wring_19 rfl rfl ?_
      obtain ⟨e24, e25, h⟩ := bd_s h
      obtain ⟨y26, σ27, e28, h⟩ := bp_s h
      refine V_callV_v (n9 := 2) (c := 1) (r := (RX2, TX2, 7)) [] (v_X2_wring l G hst _ e28) rfl rfl (lw_V q1134 q1135 q1136 q77 q1137) (by decide +kernel) (by decide) (Nat.le_of_ble_eq_true rfl) (gk_k e25 rfl) rfl dX1_wring_20 ?_
      cases h
      exact V_iret rfl dX1_wring_23
    · subst e16
      replace h := ex_r h
      cases h
      exact VX_out (by decide)
  · subst e7
    replace h := ex_r h
    cases h
    exact VX_out (by decide)

abbrev VV_X0_wring (l : Launch) (G : Gx) (σ0 : Hp) (o : Oc) (σe : Hp) (Se : Ms) := V l G RX0 cX0_wring 5 (some .int) (tableOf [(0, 10, 13, 21)]) false 11 297 σ0 o σe Se
def f_X0_wring (σ : Hp) (a0 : Nat) (x1 : Int32) (x2 : Int32) (a3 : Nat) : Option (Int32 × Hp) :=
  bd (gk σ 1 a0) fun e1 => bp (f_X1_wring σ a0 x1 x2) fun r3 σ4 => ex r3 (fun y6 => bd (stI σ4 103 a3 (0 : Int32) y6) fun σ10 => some ((0 : Int32), σ10)) (fun e8 => if e8.1 = "java/lang/IndexOutOfBoundsException" then some ((1 : Int32), σ4) else none)
set_option maxHeartbeats 4000000 in
theorem v_X0_wring (l : Launch) (G : Gx) (hst : l.stackTraces = false) (S : Ms) {σ σe : Hp} {a0 : Nat} {x1 : Int32} {x2 : Int32} {a3 : Nat} {r : Int32} (h : f_X0_wring σ a0 x1 x2 a3 = some (r, σe)) : MT l G yX0_wring (wsW_ yX0_wring cX0_wring 5 (some .int) [(0, 10, 13, 21)]) 11 297 [pR a0, pI x1, pI x2, pR a3] σ S (.inl (some (pI r))) σe S := by
  refine MT_ofH (own := RX0) (nL := 5) (ini := false) (by decide +kernel) rfl (Nat.le_of_ble_eq_true rfl) (fun h => by cases h) hst ?_
  show VV_X0_wring l G σ (.inl (some (pI r))) σe S 0 [(0, pR a0), (1, pI x1), (2, pI x2), (3, pR a3)] [] σ S
  unfold f_X0_wring at h
  refine V_aload_n (i := 3) 3 dX0_wring_0 rfl rfl ?_
  refine V_iconst (v := 0) dX0_wring_1 (by decide) ?_
  refine V_aload_n (i := 0) 0 dX0_wring_2 rfl rfl ?_
  refine V_iload_n (i := 1) 1 dX0_wring_3 rfl rfl ?_
  refine V_iload_n (i := 2) 2 dX0_wring_4 rfl rfl ?_
  obtain ⟨e1, e2, h⟩ := bd_s h
  obtain ⟨r3, σ4, e5, h⟩ := bp_s h
  refine V_callVxI (n9 := 2) (c := 0) (r := (RX1, TX1, 4)) [pI (0 : Int32), pR a3] (v_X1_wring l G hst _ e5) rfl rfl (lw_V q1127 q1128 q1129 q76 q1130) (by decide +kernel) (by decide) (Nat.le_of_ble_eq_true rfl) (gk_k e2 rfl) rfl dX0_wring_5 (fun y6 e7 => ?_) (fun e8 e9 => ?_)
  · subst e7
    replace h := ex_l h
    refine V_i2l dX0_wring_8 ?_
    obtain ⟨σ10, e11, h⟩ := bd_s h
    refine V_stI3 e11 dX0_wring_9 ?_
    refine V_goto 17 dX0_wring_10 (by decide) ?_
    refine V_iconst (v := 0) dX0_wring_17 (by decide) ?_
    cases h
    exact V_iret rfl dX0_wring_18
  · subst e9
    replace h := ex_r h
    by_cases e12 : e8.1 = "java/lang/IndexOutOfBoundsException"
    · replace h := (if_pos e12).symm.trans h
      rw [e12]
      refine VX_catch (E := "java/lang/IndexOutOfBoundsException") (nm := "java/lang/IndexOutOfBoundsException") (tableOf []) ⟨0, 10, 13, 21⟩ (tableOf []) rfl (fun y hy => by cases hy) (by decide) (by decide) q1025 (by decide +kernel) ?_
      refine V_astore (i := 4) (L' := [(4, pR (e8.2)), (0, pR a0), (1, pI x1), (2, pI x2), (3, pR a3)]) dX0_wring_13 (by decide) rfl ?_
      refine V_iconst (v := 1) dX0_wring_15 (by decide) ?_
      cases h
      exact V_iret rfl dX0_wring_16
    replace h := (if_neg e12).symm.trans h
    cases h

abbrev VV_X1_takeOff (l : Launch) (G : Gx) (σ0 : Hp) (o : Oc) (σe : Hp) (Se : Ms) := V l G RX1 cX1_takeOff 2 (some .int) [] false 10 275 σ0 o σe Se
def f_X1_takeOff_29 (σ : Hp) (a0 : Nat) (x1 : Int32) (s0 : Int32) : Option (Ex Int32 × Hp) :=
  bp (f_X1_allow σ s0) fun r1 σ2 => ex r1 (fun e4 => bd (gk σ2 1 a0) fun e8 => bp (f_X1_save σ2 a0) fun e10 σ11 => bd (rdR σ11 1 a0 10) fun b13 => bd (gk σ11 2 b13) fun e15 => bp (f_X2_takeOff σ11 b13 x1) fun y17 σ18 => some (.inl y17, σ18)) (fun e6 => some (.inr e6, σ2))
set_option maxHeartbeats 4000000 in
theorem v_X1_takeOff_29 {l : Launch} {G : Gx} (hst : l.stackTraces = false) {σ0 σe : Hp} {Se : Ms} {r : Ex Int32} {σ : Hp} {a0 : Nat} {x1 : Int32} {s0 : Int32} (h : f_X1_takeOff_29 σ a0 x1 s0 = some (r, σe)) : VV_X1_takeOff l G σ0 (tOI r) σe Se 29 [(0, pR a0), (1, pI x1)] [pI s0] σ Se := by
  unfold f_X1_takeOff_29 at h
  obtain ⟨r1, σ2, e3, h⟩ := bp_s h
  refine V_callSxV (n9 := 1) [] (v_X1_allow l G hst _ e3) rfl rfl (lw_S q886 q887 q76 q888) (by decide +kernel) (by decide) (Nat.le_of_ble_eq_true rfl) dX1_takeOff_29 (fun e4 e5 => ?_) (fun e6 e7 => ?_)
  · subst e5
    replace h := ex_l h
    refine V_aload_n (i := 0) 0 dX1_takeOff_32 rfl rfl ?_
    obtain ⟨e8, e9, h⟩ := bd_s h
    obtain ⟨e10, σ11, e12, h⟩ := bp_s h
    refine V_callV_0 (n9 := 0) (c := 0) (r := (RX1, TX1, 4)) [] (v_X1_save l G hst _ e12) rfl rfl (lw_V q904 q906 qs10 q76 q907) (by decide +kernel) (by decide) (Nat.le_of_ble_eq_true rfl) (gk_k e9 rfl) rfl dX1_takeOff_33 ?_
    refine V_aload_n (i := 0) 0 dX1_takeOff_36 rfl rfl ?_
    obtain ⟨b13, e14, h⟩ := bd_s h
    refine V_rdR gf_X1_10 rfl rfl rfl e14 dX1_takeOff_37 ?_
    refine V_iload_n (i := 1) 1 dX1_takeOff_40 rfl rfl ?_
    obtain ⟨e15, e16, h⟩ := bd_s h
    obtain ⟨y17, σ18, e19, h⟩ := bp_s h
    refine V_callV_v (n9 := 1) (c := 1) (r := (RX2, TX2, 7)) [] (v_X2_takeOff l G hst _ e19) rfl rfl (lw_V q1162 q1163 q1164 q77 q1165) (by decide +kernel) (by decide) (Nat.le_of_ble_eq_true rfl) (gk_k e16 rfl) rfl dX1_takeOff_41 ?_
    cases h
    exact V_iret rfl dX1_takeOff_44
  · subst e7
    replace h := ex_r h
    cases h
    exact VX_out (by decide)
def f_X1_takeOff (σ : Hp) (a0 : Nat) (x1 : Int32) : Option (Ex Int32 × Hp) :=
  bp (f_X1_checkStack σ x1) fun r1 σ2 => ex r1 (fun e4 => bd (rdR σ2 1 a0 10) fun b8 => bd (rdR σ2 2 b8 21) fun b10 => bd (gk σ2 10 b10) fun e12 => bp (f_J2_get σ2 b10 x1) fun b14 σ15 => bd (ckC σ15 10 b14) fun e17 => bd (gk σ15 10 b14) fun e19 => bp (f_J2_isEmpty σ15 b14) fun y21 σ22 => if y21 = (0 : Int32) then (f_X1_takeOff_29 σ22 a0 x1 (1 : Int32)) else (f_X1_takeOff_29 σ22 a0 x1 (0 : Int32))) (fun e6 => some (.inr e6, σ2))
set_option maxHeartbeats 4000000 in
theorem v_X1_takeOff (l : Launch) (G : Gx) (hst : l.stackTraces = false) (S : Ms) {σ σe : Hp} {a0 : Nat} {x1 : Int32} {r : Ex Int32} (h : f_X1_takeOff σ a0 x1 = some (r, σe)) : MT l G yX1_takeOff (ws_ yX1_takeOff cX1_takeOff 2 (some .int)) 10 275 [pR a0, pI x1] σ S (tOI r) σe S := by
  refine MT_of (own := RX1) (nL := 2) (ini := false) (by decide +kernel) rfl (Nat.le_of_ble_eq_true rfl) (fun h => by cases h) hst ?_
  show VV_X1_takeOff l G σ (tOI r) σe S 0 [(0, pR a0), (1, pI x1)] [] σ S
  unfold f_X1_takeOff at h
  refine V_iload_n (i := 1) 1 dX1_takeOff_0 rfl rfl ?_
  obtain ⟨r1, σ2, e3, h⟩ := bp_s h
  refine V_callSxV (n9 := 1) [] (v_X1_checkStack l G hst _ e3) rfl rfl (lw_S q1131 q1132 q76 q1133) (by decide +kernel) (by decide) (Nat.le_of_ble_eq_true rfl) dX1_takeOff_1 (fun e4 e5 => ?_) (fun e6 e7 => ?_)
  · subst e5
    replace h := ex_l h
    refine V_aload_n (i := 0) 0 dX1_takeOff_4 rfl rfl ?_
    obtain ⟨b8, e9, h⟩ := bd_s h
    refine V_rdR gf_X1_10 rfl rfl rfl e9 dX1_takeOff_5 ?_
    obtain ⟨b10, e11, h⟩ := bd_s h
    refine V_rdR gf_X1_133 rfl rfl rfl e11 dX1_takeOff_8 ?_
    refine V_iload_n (i := 1) 1 dX1_takeOff_11 rfl rfl ?_
    obtain ⟨e12, e13, h⟩ := bd_s h
    obtain ⟨b14, σ15, e16, h⟩ := bp_s h
    refine V_callV_v (n9 := 1) (c := 9) (r := (RJ2, TJ2, 3)) [] (v_J2_get l G hst _ e16) rfl rfl (lw_V q1054 q937 q938 q80 q939) (by decide +kernel) (by decide) (Nat.le_of_ble_eq_true rfl) (gk_k e13 rfl) rfl dX1_takeOff_12 ?_
    obtain ⟨e17, e18, h⟩ := bd_s h
    refine V_ckC (c := 9) e18 q1161 rfl (Or.inl rfl) dX1_takeOff_15 ?_
    obtain ⟨e19, e20, h⟩ := bd_s h
    obtain ⟨y21, σ22, e23, h⟩ := bp_s h
    refine V_callV_v (n9 := 0) (c := 9) (r := (RJ2, TJ2, 3)) [] (v_J2_isEmpty l G hst _ e23) rfl rfl (lw_V q856 q857 q858 q80 q859) (by decide +kernel) (by decide) (Nat.le_of_ble_eq_true rfl) (gk_k e20 rfl) rfl dX1_takeOff_18 ?_
    refine V_if_ne 28 dX1_takeOff_21 (by decide) (fun c24 => ?_) (fun c24 => ?_)
    · replace h := it_f c24 h
      refine V_iconst (v := 0) dX1_takeOff_28 (by decide) ?_
      refine V_sub [0, 1] rfl ?_
      exact v_X1_takeOff_29 hst h
    · replace h := it_t c24 h
      refine V_iconst (v := 1) dX1_takeOff_24 (by decide) ?_
      refine V_goto 29 dX1_takeOff_25 (by decide) ?_
      refine V_sub [0, 1] rfl ?_
      exact v_X1_takeOff_29 hst h
  · subst e7
    replace h := ex_r h
    cases h
    exact VX_out (by decide)

abbrev VV_X0_takeOff (l : Launch) (G : Gx) (σ0 : Hp) (o : Oc) (σe : Hp) (Se : Ms) := V l G RX0 cX0_takeOff 4 (some .int) (tableOf [(0, 9, 12, 21), (0, 9, 15, 15)]) false 11 296 σ0 o σe Se
def f_X0_takeOff (σ : Hp) (a0 : Nat) (x1 : Int32) (a2 : Nat) : Option (Int32 × Hp) :=
  bd (gk σ 1 a0) fun e1 => bp (f_X1_takeOff σ a0 x1) fun r3 σ4 => ex r3 (fun y6 => bd (stI σ4 103 a2 (0 : Int32) y6) fun σ10 => some ((0 : Int32), σ10)) (fun e8 => if e8.1 = "java/lang/IndexOutOfBoundsException" then some ((1 : Int32), σ4) else if e8.1 = "java/lang/IllegalStateException" then some ((2 : Int32), σ4) else none)
set_option maxHeartbeats 4000000 in
theorem v_X0_takeOff (l : Launch) (G : Gx) (hst : l.stackTraces = false) (S : Ms) {σ σe : Hp} {a0 : Nat} {x1 : Int32} {a2 : Nat} {r : Int32} (h : f_X0_takeOff σ a0 x1 a2 = some (r, σe)) : MT l G yX0_takeOff (wsW_ yX0_takeOff cX0_takeOff 4 (some .int) [(0, 9, 12, 21), (0, 9, 15, 15)]) 11 296 [pR a0, pI x1, pR a2] σ S (.inl (some (pI r))) σe S := by
  refine MT_ofH (own := RX0) (nL := 4) (ini := false) (by decide +kernel) rfl (Nat.le_of_ble_eq_true rfl) (fun h => by cases h) hst ?_
  show VV_X0_takeOff l G σ (.inl (some (pI r))) σe S 0 [(0, pR a0), (1, pI x1), (2, pR a2)] [] σ S
  unfold f_X0_takeOff at h
  refine V_aload_n (i := 2) 2 dX0_takeOff_0 rfl rfl ?_
  refine V_iconst (v := 0) dX0_takeOff_1 (by decide) ?_
  refine V_aload_n (i := 0) 0 dX0_takeOff_2 rfl rfl ?_
  refine V_iload_n (i := 1) 1 dX0_takeOff_3 rfl rfl ?_
  obtain ⟨e1, e2, h⟩ := bd_s h
  obtain ⟨r3, σ4, e5, h⟩ := bp_s h
  refine V_callVxI (n9 := 1) (c := 0) (r := (RX1, TX1, 4)) [pI (0 : Int32), pR a2] (v_X1_takeOff l G hst _ e5) rfl rfl (lw_V q1157 q1158 q1159 q76 q1160) (by decide +kernel) (by decide) (Nat.le_of_ble_eq_true rfl) (gk_k e2 rfl) rfl dX0_takeOff_4 (fun y6 e7 => ?_) (fun e8 e9 => ?_)
  · subst e7
    replace h := ex_l h
    refine V_i2l dX0_takeOff_7 ?_
    obtain ⟨σ10, e11, h⟩ := bd_s h
    refine V_stI3 e11 dX0_takeOff_8 ?_
    refine V_goto 18 dX0_takeOff_9 (by decide) ?_
    refine V_iconst (v := 0) dX0_takeOff_18 (by decide) ?_
    cases h
    exact V_iret rfl dX0_takeOff_19
  · subst e9
    replace h := ex_r h
    by_cases e12 : e8.1 = "java/lang/IndexOutOfBoundsException"
    · replace h := (if_pos e12).symm.trans h
      rw [e12]
      refine VX_catch (E := "java/lang/IndexOutOfBoundsException") (nm := "java/lang/IndexOutOfBoundsException") (tableOf []) ⟨0, 9, 12, 21⟩ (tableOf [(0, 9, 15, 15)]) rfl (fun y hy => by cases hy) (by decide) (by decide) q1025 (by decide +kernel) ?_
      refine V_astore_n (i := 3) (L' := [(3, pR (e8.2)), (0, pR a0), (1, pI x1), (2, pR a2)]) dX0_takeOff_12 rfl (by decide) rfl ?_
      refine V_iconst (v := 1) dX0_takeOff_13 (by decide) ?_
      cases h
      exact V_iret rfl dX0_takeOff_14
    replace h := (if_neg e12).symm.trans h
    by_cases e13 : e8.1 = "java/lang/IllegalStateException"
    · replace h := (if_pos e13).symm.trans h
      rw [e13]
      refine VX_catch (E := "java/lang/IllegalStateException") (nm := "java/lang/IllegalStateException") (tableOf [(0, 9, 12, 21)]) ⟨0, 9, 15, 15⟩ (tableOf []) rfl (hp_1 (Or.inr ⟨by decide, "java/lang/IndexOutOfBoundsException", q1025, by decide +kernel⟩)) (by decide) (by decide) q868 (by decide +kernel) ?_
      refine V_astore_n (i := 3) (L' := [(3, pR (e8.2)), (0, pR a0), (1, pI x1), (2, pR a2)]) dX0_takeOff_15 rfl (by decide) rfl ?_
      refine V_iconst (v := 2) dX0_takeOff_16 (by decide) ?_
      cases h
      exact V_iret rfl dX0_takeOff_17
    replace h := (if_neg e13).symm.trans h
    cases h

abbrev VV_X1_make (l : Launch) (G : Gx) (σ0 : Hp) (o : Oc) (σe : Hp) (Se : Ms) := V l G RX1 cX1_make 3 (some .int) [] false 33 821 σ0 o σe Se
def f_X1_make (σ : Hp) (a0 : Nat) (x1 : Int32) (x2 : Int32) : Option (Ex Int32 × Hp) :=
  bp (f_X1_checkStack σ x1) fun r1 σ2 => ex r1 (fun e4 => bd (f_X1_isIn x2 (500 : Int32) (600000 : Int32)) fun y8 => bp (f_X1_require σ2 y8) fun r10 σ11 => ex r10 (fun e13 => bd (rdR σ11 1 a0 10) fun b17 => bd (rdR σ11 2 b17 21) fun b19 => bd (gk σ11 10 b19) fun e21 => bp (f_J2_get σ11 b19 x1) fun b23 σ24 => bd (ckC σ24 10 b23) fun e26 => bd (gk σ24 10 b23) fun e28 => bp (f_J2_isEmpty σ24 b23) fun y30 σ31 => bp (f_X1_allow σ31 y30) fun r33 σ34 => ex r33 (fun e36 => bd (gk σ34 1 a0) fun e40 => bp (f_X1_save σ34 a0) fun e42 σ43 => bd (rdR σ43 1 a0 10) fun b45 => bd (gk σ43 2 b45) fun e47 => bp (f_X2_make σ43 b45 x1 x2) fun y49 σ50 => some (.inl y49, σ50)) (fun e38 => some (.inr e38, σ34))) (fun e15 => some (.inr e15, σ11))) (fun e6 => some (.inr e6, σ2))
set_option maxHeartbeats 4000000 in
theorem v_X1_make (l : Launch) (G : Gx) (hst : l.stackTraces = false) (S : Ms) {σ σe : Hp} {a0 : Nat} {x1 : Int32} {x2 : Int32} {r : Ex Int32} (h : f_X1_make σ a0 x1 x2 = some (r, σe)) : MT l G yX1_make (ws_ yX1_make cX1_make 3 (some .int)) 33 821 [pR a0, pI x1, pI x2] σ S (tOI r) σe S := by
  refine MT_of (own := RX1) (nL := 3) (ini := false) (by decide +kernel) rfl (Nat.le_of_ble_eq_true rfl) (fun h => by cases h) hst ?_
  show VV_X1_make l G σ (tOI r) σe S 0 [(0, pR a0), (1, pI x1), (2, pI x2)] [] σ S
  unfold f_X1_make at h
  refine V_iload_n (i := 1) 1 dX1_make_0 rfl rfl ?_
  obtain ⟨r1, σ2, e3, h⟩ := bp_s h
  refine V_callSxV (n9 := 1) [] (v_X1_checkStack l G hst _ e3) rfl rfl (lw_S q1131 q1132 q76 q1133) (by decide +kernel) (by decide) (Nat.le_of_ble_eq_true rfl) dX1_make_1 (fun e4 e5 => ?_) (fun e6 e7 => ?_)
  · subst e5
    replace h := ex_l h
    refine V_iload_n (i := 2) 2 dX1_make_4 rfl rfl ?_
    refine V_sipush (v := 500) dX1_make_5 (by decide) ?_
    refine V_ldc dX1_make_8 q1174 ?_
    obtain ⟨y8, e9, h⟩ := bd_s h
    refine V_callS_v (n9 := 3) [] (v_X1_isIn l G hst _ _ e9) rfl rfl (lw_S q874 q754 q76 q755) (by decide +kernel) (by decide) (Nat.le_of_ble_eq_true rfl) dX1_make_10 ?_
    obtain ⟨r10, σ11, e12, h⟩ := bp_s h
    refine V_callSxV (n9 := 1) [] (v_X1_require l G hst _ e12) rfl rfl (lw_S q875 q876 q76 q877) (by decide +kernel) (by decide) (Nat.le_of_ble_eq_true rfl) dX1_make_13 (fun e13 e14 => ?_) (fun e15 e16 => ?_)
    · subst e14
      replace h := ex_l h
      refine V_aload_n (i := 0) 0 dX1_make_16 rfl rfl ?_
      obtain ⟨b17, e18, h⟩ := bd_s h
      refine V_rdR gf_X1_10 rfl rfl rfl e18 dX1_make_17 ?_
      obtain ⟨b19, e20, h⟩ := bd_s h
      refine V_rdR gf_X1_133 rfl rfl rfl e20 dX1_make_20 ?_
      refine V_iload_n (i := 1) 1 dX1_make_23 rfl rfl ?_
      obtain ⟨e21, e22, h⟩ := bd_s h
      obtain ⟨b23, σ24, e25, h⟩ := bp_s h
      refine V_callV_v (n9 := 1) (c := 9) (r := (RJ2, TJ2, 3)) [] (v_J2_get l G hst _ e25) rfl rfl (lw_V q1054 q937 q938 q80 q939) (by decide +kernel) (by decide) (Nat.le_of_ble_eq_true rfl) (gk_k e22 rfl) rfl dX1_make_24 ?_
      obtain ⟨e26, e27, h⟩ := bd_s h
      refine V_ckC (c := 9) e27 q1161 rfl (Or.inl rfl) dX1_make_27 ?_
      obtain ⟨e28, e29, h⟩ := bd_s h
      obtain ⟨y30, σ31, e32, h⟩ := bp_s h
      refine V_callV_v (n9 := 0) (c := 9) (r := (RJ2, TJ2, 3)) [] (v_J2_isEmpty l G hst _ e32) rfl rfl (lw_V q856 q857 q858 q80 q859) (by decide +kernel) (by decide) (Nat.le_of_ble_eq_true rfl) (gk_k e29 rfl) rfl dX1_make_30 ?_
      obtain ⟨r33, σ34, e35, h⟩ := bp_s h
      refine V_callSxV (n9 := 1) [] (v_X1_allow l G hst _ e35) rfl rfl (lw_S q886 q887 q76 q888) (by decide +kernel) (by decide) (Nat.le_of_ble_eq_true rfl) dX1_make_33 (fun e36 e37 => ?_) (fun e38 e39 => ?_)
      · subst e37
        replace h := ex_l h
        refine V_aload_n (i := 0) 0 dX1_make_36 rfl rfl ?_
        obtain ⟨e40, e41, h⟩ := bd_s h
        obtain ⟨e42, σ43, e44, h⟩ := bp_s h
        refine V_callV_0 (n9 := 0) (c := 0) (r := (RX1, TX1, 4)) [] (v_X1_save l G hst _ e44) rfl rfl (lw_V q904 q906 qs10 q76 q907) (by decide +kernel) (by decide) (Nat.le_of_ble_eq_true rfl) (gk_k e41 rfl) rfl dX1_make_37 ?_
        refine V_aload_n (i := 0) 0 dX1_make_40 rfl rfl ?_
        obtain ⟨b45, e46, h⟩ := bd_s h
        refine V_rdR gf_X1_10 rfl rfl rfl e46 dX1_make_41 ?_
        refine V_iload_n (i := 1) 1 dX1_make_44 rfl rfl ?_
        refine V_iload_n (i := 2) 2 dX1_make_45 rfl rfl ?_
        obtain ⟨e47, e48, h⟩ := bd_s h
        obtain ⟨y49, σ50, e51, h⟩ := bp_s h
        refine V_callV_v (n9 := 2) (c := 1) (r := (RX2, TX2, 7)) [] (v_X2_make l G hst _ e51) rfl rfl (lw_V q1175 q1176 q1177 q77 q1178) (by decide +kernel) (by decide) (Nat.le_of_ble_eq_true rfl) (gk_k e48 rfl) rfl dX1_make_46 ?_
        cases h
        exact V_iret rfl dX1_make_49
      · subst e39
        replace h := ex_r h
        cases h
        exact VX_out (by decide)
    · subst e16
      replace h := ex_r h
      cases h
      exact VX_out (by decide)
  · subst e7
    replace h := ex_r h
    cases h
    exact VX_out (by decide)

abbrev VV_X0_make (l : Launch) (G : Gx) (σ0 : Hp) (o : Oc) (σe : Hp) (Se : Ms) := V l G RX0 cX0_make 5 (some .int) (tableOf [(0, 10, 13, 21), (0, 10, 17, 13), (0, 10, 21, 15)]) false 34 843 σ0 o σe Se
def f_X0_make (σ : Hp) (a0 : Nat) (x1 : Int32) (x2 : Int32) (a3 : Nat) : Option (Int32 × Hp) :=
  bd (gk σ 1 a0) fun e1 => bp (f_X1_make σ a0 x1 x2) fun r3 σ4 => ex r3 (fun y6 => bd (stI σ4 103 a3 (0 : Int32) y6) fun σ10 => some ((0 : Int32), σ10)) (fun e8 => if e8.1 = "java/lang/IndexOutOfBoundsException" then some ((1 : Int32), σ4) else if e8.1 = "java/lang/IllegalArgumentException" then some ((2 : Int32), σ4) else if e8.1 = "java/lang/IllegalStateException" then some ((3 : Int32), σ4) else none)
set_option maxHeartbeats 4000000 in
theorem v_X0_make (l : Launch) (G : Gx) (hst : l.stackTraces = false) (S : Ms) {σ σe : Hp} {a0 : Nat} {x1 : Int32} {x2 : Int32} {a3 : Nat} {r : Int32} (h : f_X0_make σ a0 x1 x2 a3 = some (r, σe)) : MT l G yX0_make (wsW_ yX0_make cX0_make 5 (some .int) [(0, 10, 13, 21), (0, 10, 17, 13), (0, 10, 21, 15)]) 34 843 [pR a0, pI x1, pI x2, pR a3] σ S (.inl (some (pI r))) σe S := by
  refine MT_ofH (own := RX0) (nL := 5) (ini := false) (by decide +kernel) rfl (Nat.le_of_ble_eq_true rfl) (fun h => by cases h) hst ?_
  show VV_X0_make l G σ (.inl (some (pI r))) σe S 0 [(0, pR a0), (1, pI x1), (2, pI x2), (3, pR a3)] [] σ S
  unfold f_X0_make at h
  refine V_aload_n (i := 3) 3 dX0_make_0 rfl rfl ?_
  refine V_iconst (v := 0) dX0_make_1 (by decide) ?_
  refine V_aload_n (i := 0) 0 dX0_make_2 rfl rfl ?_
  refine V_iload_n (i := 1) 1 dX0_make_3 rfl rfl ?_
  refine V_iload_n (i := 2) 2 dX0_make_4 rfl rfl ?_
  obtain ⟨e1, e2, h⟩ := bd_s h
  obtain ⟨r3, σ4, e5, h⟩ := bp_s h
  refine V_callVxI (n9 := 2) (c := 0) (r := (RX1, TX1, 4)) [pI (0 : Int32), pR a3] (v_X1_make l G hst _ e5) rfl rfl (lw_V q1170 q1171 q1172 q76 q1173) (by decide +kernel) (by decide) (Nat.le_of_ble_eq_true rfl) (gk_k e2 rfl) rfl dX0_make_5 (fun y6 e7 => ?_) (fun e8 e9 => ?_)
  · subst e7
    replace h := ex_l h
    refine V_i2l dX0_make_8 ?_
    obtain ⟨σ10, e11, h⟩ := bd_s h
    refine V_stI3 e11 dX0_make_9 ?_
    refine V_goto 25 dX0_make_10 (by decide) ?_
    refine V_iconst (v := 0) dX0_make_25 (by decide) ?_
    cases h
    exact V_iret rfl dX0_make_26
  · subst e9
    replace h := ex_r h
    by_cases e12 : e8.1 = "java/lang/IndexOutOfBoundsException"
    · replace h := (if_pos e12).symm.trans h
      rw [e12]
      refine VX_catch (E := "java/lang/IndexOutOfBoundsException") (nm := "java/lang/IndexOutOfBoundsException") (tableOf []) ⟨0, 10, 13, 21⟩ (tableOf [(0, 10, 17, 13), (0, 10, 21, 15)]) rfl (fun y hy => by cases hy) (by decide) (by decide) q1025 (by decide +kernel) ?_
      refine V_astore (i := 4) (L' := [(4, pR (e8.2)), (0, pR a0), (1, pI x1), (2, pI x2), (3, pR a3)]) dX0_make_13 (by decide) rfl ?_
      refine V_iconst (v := 1) dX0_make_15 (by decide) ?_
      cases h
      exact V_iret rfl dX0_make_16
    replace h := (if_neg e12).symm.trans h
    by_cases e13 : e8.1 = "java/lang/IllegalArgumentException"
    · replace h := (if_pos e13).symm.trans h
      rw [e13]
      refine VX_catch (E := "java/lang/IllegalArgumentException") (nm := "java/lang/IllegalArgumentException") (tableOf [(0, 10, 13, 21)]) ⟨0, 10, 17, 13⟩ (tableOf [(0, 10, 21, 15)]) rfl (hp_1 (Or.inr ⟨by decide, "java/lang/IndexOutOfBoundsException", q1025, by decide +kernel⟩)) (by decide) (by decide) q867 (by decide +kernel) ?_
      refine V_astore (i := 4) (L' := [(4, pR (e8.2)), (0, pR a0), (1, pI x1), (2, pI x2), (3, pR a3)]) dX0_make_17 (by decide) rfl ?_
      refine V_iconst (v := 2) dX0_make_19 (by decide) ?_
      cases h
      exact V_iret rfl dX0_make_20
    replace h := (if_neg e13).symm.trans h
    by_cases e14 : e8.1 = "java/lang/IllegalStateException"
    · replace h := (if_pos e14).symm.trans h
      rw [e14]
      refine VX_catch (E := "java/lang/IllegalStateException") (nm := "java/lang/IllegalStateException") (tableOf [(0, 10, 13, 21), (0, 10, 17, 13)]) ⟨0, 10, 21, 15⟩ (tableOf []) rfl (hp_2 (Or.inr ⟨by decide, "java/lang/IndexOutOfBoundsException", q1025, by decide +kernel⟩) (Or.inr ⟨by decide, "java/lang/IllegalArgumentException", q867, by decide +kernel⟩)) (by decide) (by decide) q868 (by decide +kernel) ?_
      refine V_astore (i := 4) (L' := [(4, pR (e8.2)), (0, pR a0), (1, pI x1), (2, pI x2), (3, pR a3)]) dX0_make_21 (by decide) rfl ?_
      refine V_iconst (v := 3) dX0_make_23 (by decide) ?_
      cases h
      exact V_iret rfl dX0_make_24
    replace h := (if_neg e14).symm.trans h
    cases h

abbrev VV_J8_append_3 (l : Launch) (G : Gx) (σ0 : Hp) (o : Oc) (σe : Hp) (Se : Ms) := V l G RJ8 cJ8_append_3 2 (some (.object "java/lang/StringBuilder")) [] false 5 145 σ0 o σe Se
def f_J8_append_3 (σ : Hp) (a0 : Nat) (x1 : Int32) : Option (Nat × Hp) :=
  bd (gk σ 13 a0) fun e1 => bp (f_J7_append_3 σ a0 x1) fun b3 σ4 => some (a0, σ4)
set_option maxHeartbeats 4000000 in
theorem v_J8_append_3 (l : Launch) (G : Gx) (hst : l.stackTraces = false) (S : Ms) {σ σe : Hp} {a0 : Nat} {x1 : Int32} {r : Nat} (h : f_J8_append_3 σ a0 x1 = some (r, σe)) : MT l G yJ8_append_3 (ws_ yJ8_append_3 cJ8_append_3 2 (some (.object "java/lang/StringBuilder"))) 5 145 [pR a0, pI x1] σ S (.inl (some (pR r))) σe S := by
  refine MT_of (own := RJ8) (nL := 2) (ini := false) (by decide +kernel) rfl (Nat.le_of_ble_eq_true rfl) (fun h => by cases h) hst ?_
  show VV_J8_append_3 l G σ (.inl (some (pR r))) σe S 0 [(0, pR a0), (1, pI x1)] [] σ S
  unfold f_J8_append_3 at h
  refine V_aload_n (i := 0) 0 dJ8_append_3_0 rfl rfl ?_
  refine V_iload_n (i := 1) 1 dJ8_append_3_1 rfl rfl ?_
  obtain ⟨e1, e2, h⟩ := bd_s h
  obtain ⟨b3, σ4, e5, h⟩ := bp_s h
  refine V_callSU_v (n9 := 1) (c := 12) (r := (RJ8, TJ8, 4)) [] (v_J7_append_3 l G hst _ e5) rfl rfl (lw_app (lw_SU q1228 q2405 q322 q1229 q86) (lw_meth q1230)) (by decide +kernel) (by decide) (Nat.le_of_ble_eq_true rfl) (gk_k e2 rfl) rfl dJ8_append_3_2 ?_
  refine V_pop dJ8_append_3_5 rfl ?_
  refine V_aload_n (i := 0) 0 dJ8_append_3_6 rfl rfl ?_
  cases h
  exact V_aret rfl (Or.inl ⟨_, rfl⟩) dJ8_append_3_7

abbrev VV_X1_append (l : Launch) (G : Gx) (σ0 : Hp) (o : Oc) (σe : Hp) (Se : Ms) := V l G RX1 cX1_append 2 (some .int) [] false 7 166 σ0 o σe Se
def f_X1_append_28 (σ : Hp) (a0 : Nat) (x1 : Int32) (s0 : Int32) : Option (Ex Int32 × Hp) :=
  bp (f_X1_allow σ s0) fun r1 σ2 => ex r1 (fun e4 => bd (rdR σ2 1 a0 13) fun b8 => bd (gk σ2 13 b8) fun e10 => bp (f_J8_append_3 σ2 b8 ((x1.toUInt32 % 65536).toInt32)) fun b12 σ13 => bd (rdR σ13 1 a0 13) fun b15 => bd (gk σ13 13 b15) fun e17 => bp (f_J8_length σ13 b15) fun y19 σ20 => some (.inl y19, σ20)) (fun e6 => some (.inr e6, σ2))
set_option maxHeartbeats 4000000 in
theorem v_X1_append_28 {l : Launch} {G : Gx} (hst : l.stackTraces = false) {σ0 σe : Hp} {Se : Ms} {r : Ex Int32} {σ : Hp} {a0 : Nat} {x1 : Int32} {s0 : Int32} (h : f_X1_append_28 σ a0 x1 s0 = some (r, σe)) : VV_X1_append l G σ0 (tOI r) σe Se 28 [(0, pR a0), (1, pI x1)] [pI s0] σ Se := by
  unfold f_X1_append_28 at h
  obtain ⟨r1, σ2, e3, h⟩ := bp_s h
  refine V_callSxV (n9 := 1) [] (v_X1_allow l G hst _ e3) rfl rfl (lw_S q886 q887 q76 q888) (by decide +kernel) (by decide) (Nat.le_of_ble_eq_true rfl) dX1_append_28 (fun e4 e5 => ?_) (fun e6 e7 => ?_)
  · subst e5
    replace h := ex_l h
    refine V_aload_n (i := 0) 0 dX1_append_31 rfl rfl ?_
    obtain ⟨b8, e9, h⟩ := bd_s h
    refine V_rdR gf_X1_30 rfl rfl rfl e9 dX1_append_32 ?_
    refine V_iload_n (i := 1) 1 dX1_append_35 rfl rfl ?_
    refine V_i2c dX1_append_36 ?_
    obtain ⟨e10, e11, h⟩ := bd_s h
    obtain ⟨b12, σ13, e14, h⟩ := bp_s h
    refine V_callV_v (n9 := 1) (c := 12) (r := (RJ8, TJ8, 4)) [] (v_J8_append_3 l G hst _ e14) rfl rfl (lw_V q1224 q1225 q1226 q87 q1227) (by decide +kernel) (by decide) (Nat.le_of_ble_eq_true rfl) (gk_k e11 rfl) rfl dX1_append_37 ?_
    refine V_pop dX1_append_40 rfl ?_
    refine V_aload_n (i := 0) 0 dX1_append_41 rfl rfl ?_
    obtain ⟨b15, e16, h⟩ := bd_s h
    refine V_rdR gf_X1_30 rfl rfl rfl e16 dX1_append_42 ?_
    obtain ⟨e17, e18, h⟩ := bd_s h
    obtain ⟨y19, σ20, e21, h⟩ := bp_s h
    refine V_callV_v (n9 := 0) (c := 12) (r := (RJ8, TJ8, 4)) [] (v_J8_length l G hst _ e21) rfl rfl (lw_V q342 q343 q344 q87 q345) (by decide +kernel) (by decide) (Nat.le_of_ble_eq_true rfl) (gk_k e18 rfl) rfl dX1_append_45 ?_
    cases h
    exact V_iret rfl dX1_append_48
  · subst e7
    replace h := ex_r h
    cases h
    exact VX_out (by decide)
def f_X1_append (σ : Hp) (a0 : Nat) (x1 : Int32) : Option (Ex Int32 × Hp) :=
  bd (f_X1_isIn x1 (33 : Int32) (126 : Int32)) fun y1 => bp (f_X1_require σ y1) fun r3 σ4 => ex r3 (fun e6 => bd (rdR σ4 1 a0 13) fun b10 => bd (gk σ4 13 b10) fun e12 => bp (f_J8_length σ4 b10) fun y14 σ15 => if (60 : Int32) ≤ y14 then (f_X1_append_28 σ15 a0 x1 (0 : Int32)) else (f_X1_append_28 σ15 a0 x1 (1 : Int32))) (fun e8 => some (.inr e8, σ4))
set_option maxHeartbeats 4000000 in
theorem v_X1_append (l : Launch) (G : Gx) (hst : l.stackTraces = false) (S : Ms) {σ σe : Hp} {a0 : Nat} {x1 : Int32} {r : Ex Int32} (h : f_X1_append σ a0 x1 = some (r, σe)) : MT l G yX1_append (ws_ yX1_append cX1_append 2 (some .int)) 7 166 [pR a0, pI x1] σ S (tOI r) σe S := by
  refine MT_of (own := RX1) (nL := 2) (ini := false) (by decide +kernel) rfl (Nat.le_of_ble_eq_true rfl) (fun h => by cases h) hst ?_
  show VV_X1_append l G σ (tOI r) σe S 0 [(0, pR a0), (1, pI x1)] [] σ S
  unfold f_X1_append at h
  refine V_iload_n (i := 1) 1 dX1_append_0 rfl rfl ?_
  refine V_bipush (v := 33) dX1_append_1 (by decide) ?_
  refine V_bipush (v := 126) dX1_append_3 (by decide) ?_
  obtain ⟨y1, e2, h⟩ := bd_s h
  refine V_callS_v (n9 := 3) [] (v_X1_isIn l G hst _ _ e2) rfl rfl (lw_S q874 q754 q76 q755) (by decide +kernel) (by decide) (Nat.le_of_ble_eq_true rfl) dX1_append_5 ?_
  obtain ⟨r3, σ4, e5, h⟩ := bp_s h
  refine V_callSxV (n9 := 1) [] (v_X1_require l G hst _ e5) rfl rfl (lw_S q875 q876 q76 q877) (by decide +kernel) (by decide) (Nat.le_of_ble_eq_true rfl) dX1_append_8 (fun e6 e7 => ?_) (fun e8 e9 => ?_)
  · subst e7
    replace h := ex_l h
    refine V_aload_n (i := 0) 0 dX1_append_11 rfl rfl ?_
    obtain ⟨b10, e11, h⟩ := bd_s h
    refine V_rdR gf_X1_30 rfl rfl rfl e11 dX1_append_12 ?_
    obtain ⟨e12, e13, h⟩ := bd_s h
    obtain ⟨y14, σ15, e16, h⟩ := bp_s h
    refine V_callV_v (n9 := 0) (c := 12) (r := (RJ8, TJ8, 4)) [] (v_J8_length l G hst _ e16) rfl rfl (lw_V q342 q343 q344 q87 q345) (by decide +kernel) (by decide) (Nat.le_of_ble_eq_true rfl) (gk_k e13 rfl) rfl dX1_append_15 ?_
    refine V_bipush (v := 60) dX1_append_18 (by decide) ?_
    refine V_icmp_ge 27 dX1_append_20 (by decide) (fun c17 => ?_) (fun c17 => ?_)
    · replace h := it_t c17 h
      refine V_iconst (v := 0) dX1_append_27 (by decide) ?_
      refine V_sub [0, 1] rfl ?_
      exact v_X1_append_28 hst h
    · replace h := it_f c17 h
      refine V_iconst (v := 1) dX1_append_23 (by decide) ?_
      refine V_goto 28 dX1_append_24 (by decide) ?_
      refine V_sub [0, 1] rfl ?_
      exact v_X1_append_28 hst h
  · subst e9
    replace h := ex_r h
    cases h
    exact VX_out (by decide)

abbrev VV_X0_append (l : Launch) (G : Gx) (σ0 : Hp) (o : Oc) (σe : Hp) (Se : Ms) := V l G RX0 cX0_append 4 (some .int) (tableOf [(0, 9, 12, 13), (0, 9, 15, 15)]) false 8 187 σ0 o σe Se
def f_X0_append (σ : Hp) (a0 : Nat) (x1 : Int32) (a2 : Nat) : Option (Int32 × Hp) :=
  bd (gk σ 1 a0) fun e1 => bp (f_X1_append σ a0 x1) fun r3 σ4 => ex r3 (fun y6 => bd (stI σ4 103 a2 (0 : Int32) y6) fun σ10 => some ((0 : Int32), σ10)) (fun e8 => if e8.1 = "java/lang/IllegalArgumentException" then some ((1 : Int32), σ4) else if e8.1 = "java/lang/IllegalStateException" then some ((2 : Int32), σ4) else none)
set_option maxHeartbeats 4000000 in
theorem v_X0_append (l : Launch) (G : Gx) (hst : l.stackTraces = false) (S : Ms) {σ σe : Hp} {a0 : Nat} {x1 : Int32} {a2 : Nat} {r : Int32} (h : f_X0_append σ a0 x1 a2 = some (r, σe)) : MT l G yX0_append (wsW_ yX0_append cX0_append 4 (some .int) [(0, 9, 12, 13), (0, 9, 15, 15)]) 8 187 [pR a0, pI x1, pR a2] σ S (.inl (some (pI r))) σe S := by
  refine MT_ofH (own := RX0) (nL := 4) (ini := false) (by decide +kernel) rfl (Nat.le_of_ble_eq_true rfl) (fun h => by cases h) hst ?_
  show VV_X0_append l G σ (.inl (some (pI r))) σe S 0 [(0, pR a0), (1, pI x1), (2, pR a2)] [] σ S
  unfold f_X0_append at h
  refine V_aload_n (i := 2) 2 dX0_append_0 rfl rfl ?_
  refine V_iconst (v := 0) dX0_append_1 (by decide) ?_
  refine V_aload_n (i := 0) 0 dX0_append_2 rfl rfl ?_
  refine V_iload_n (i := 1) 1 dX0_append_3 rfl rfl ?_
  obtain ⟨e1, e2, h⟩ := bd_s h
  obtain ⟨r3, σ4, e5, h⟩ := bp_s h
  refine V_callVxI (n9 := 1) (c := 0) (r := (RX1, TX1, 4)) [pI (0 : Int32), pR a2] (v_X1_append l G hst _ e5) rfl rfl (lw_V q1220 q1221 q1222 q76 q1223) (by decide +kernel) (by decide) (Nat.le_of_ble_eq_true rfl) (gk_k e2 rfl) rfl dX0_append_4 (fun y6 e7 => ?_) (fun e8 e9 => ?_)
  · subst e7
    replace h := ex_l h
    refine V_i2l dX0_append_7 ?_
    obtain ⟨σ10, e11, h⟩ := bd_s h
    refine V_stI3 e11 dX0_append_8 ?_
    refine V_goto 18 dX0_append_9 (by decide) ?_
    refine V_iconst (v := 0) dX0_append_18 (by decide) ?_
    cases h
    exact V_iret rfl dX0_append_19
  · subst e9
    replace h := ex_r h
    by_cases e12 : e8.1 = "java/lang/IllegalArgumentException"
    · replace h := (if_pos e12).symm.trans h
      rw [e12]
      refine VX_catch (E := "java/lang/IllegalArgumentException") (nm := "java/lang/IllegalArgumentException") (tableOf []) ⟨0, 9, 12, 13⟩ (tableOf [(0, 9, 15, 15)]) rfl (fun y hy => by cases hy) (by decide) (by decide) q867 (by decide +kernel) ?_
      refine V_astore_n (i := 3) (L' := [(3, pR (e8.2)), (0, pR a0), (1, pI x1), (2, pR a2)]) dX0_append_12 rfl (by decide) rfl ?_
      refine V_iconst (v := 1) dX0_append_13 (by decide) ?_
      cases h
      exact V_iret rfl dX0_append_14
    replace h := (if_neg e12).symm.trans h
    by_cases e13 : e8.1 = "java/lang/IllegalStateException"
    · replace h := (if_pos e13).symm.trans h
      rw [e13]
      refine VX_catch (E := "java/lang/IllegalStateException") (nm := "java/lang/IllegalStateException") (tableOf [(0, 9, 12, 13)]) ⟨0, 9, 15, 15⟩ (tableOf []) rfl (hp_1 (Or.inr ⟨by decide, "java/lang/IllegalArgumentException", q867, by decide +kernel⟩)) (by decide) (by decide) q868 (by decide +kernel) ?_
      refine V_astore_n (i := 3) (L' := [(3, pR (e8.2)), (0, pR a0), (1, pI x1), (2, pR a2)]) dX0_append_15 rfl (by decide) rfl ?_
      refine V_iconst (v := 2) dX0_append_16 (by decide) ?_
      cases h
      exact V_iret rfl dX0_append_17
    replace h := (if_neg e13).symm.trans h
    cases h

abbrev VV_J8_setLength (l : Launch) (G : Gx) (σ0 : Hp) (o : Oc) (σe : Hp) (Se : Ms) := V l G RJ8 cJ8_setLength 2 none [] false 5 145 σ0 o σe Se
def f_J8_setLength (σ : Hp) (a0 : Nat) (x1 : Int32) : Option (Unit × Hp) :=
  bd (gk σ 13 a0) fun e1 => bp (f_J7_setLength σ a0 x1) fun e3 σ4 => some ((), σ4)
set_option maxHeartbeats 4000000 in
theorem v_J8_setLength (l : Launch) (G : Gx) (hst : l.stackTraces = false) (S : Ms) {σ σe : Hp} {a0 : Nat} {x1 : Int32} {r : Unit} (h : f_J8_setLength σ a0 x1 = some (r, σe)) : MT l G yJ8_setLength (ws_ yJ8_setLength cJ8_setLength 2 none) 5 145 [pR a0, pI x1] σ S (.inl none) σe S := by
  refine MT_of (own := RJ8) (nL := 2) (ini := false) (by decide +kernel) rfl (Nat.le_of_ble_eq_true rfl) (fun h => by cases h) hst ?_
  show VV_J8_setLength l G σ (.inl none) σe S 0 [(0, pR a0), (1, pI x1)] [] σ S
  unfold f_J8_setLength at h
  refine V_aload_n (i := 0) 0 dJ8_setLength_0 rfl rfl ?_
  refine V_iload_n (i := 1) 1 dJ8_setLength_1 rfl rfl ?_
  obtain ⟨e1, e2, h⟩ := bd_s h
  obtain ⟨e3, σ4, e5, h⟩ := bp_s h
  refine V_callSU_0 (n9 := 1) (c := 12) (r := (RJ8, TJ8, 4)) [] (v_J7_setLength l G hst _ e5) rfl rfl (lw_app (lw_SU q353 q2393 q322 q354 q86) (lw_meth q355)) (by decide +kernel) (by decide) (Nat.le_of_ble_eq_true rfl) (gk_k e2 rfl) rfl dJ8_setLength_2 ?_
  cases h
  exact V_vret rfl dJ8_setLength_5

abbrev VV_X1_run (l : Launch) (G : Gx) (σ0 : Hp) (o : Oc) (σe : Hp) (Se : Ms) := V l G RX1 cX1_run 3 (some .boolean) [] false 8 235 σ0 o σe Se
def f_X1_run_84 (σ : Hp) (s0 : Int32) : Option (Int32 × Hp) :=
  bd (okZ s0) fun e1 => some (s0, σ)
set_option maxHeartbeats 4000000 in
theorem v_X1_run_84 {l : Launch} {G : Gx} (hst : l.stackTraces = false) {σ0 σe : Hp} {Se : Ms} {r : Int32} {σ : Hp} {s0 : Int32} (h : f_X1_run_84 σ s0 = some (r, σe)) : VV_X1_run l G σ0 (.inl (some (pI r))) σe Se 84 [] [pI s0] σ Se := by
  unfold f_X1_run_84 at h
  obtain ⟨e1, e2, h⟩ := bd_s h
  cases h
  exact V_retZ e2 rfl dX1_run_84
def f_X1_run_83 (σ : Hp) : Option (Int32 × Hp) :=
  f_X1_run_84 σ (0 : Int32)
set_option maxHeartbeats 4000000 in
theorem v_X1_run_83 {l : Launch} {G : Gx} (hst : l.stackTraces = false) {σ0 σe : Hp} {Se : Ms} {r : Int32} {σ : Hp} (h : f_X1_run_83 σ  = some (r, σe)) : VV_X1_run l G σ0 (.inl (some (pI r))) σe Se 83 [] [] σ Se := by
  unfold f_X1_run_83 at h
  refine V_iconst (v := 0) dX1_run_83 (by decide) ?_
  refine V_sub [] rfl ?_
  exact v_X1_run_84 hst h
def f_X1_run_163 (σ : Hp) (s0 : Int32) : Option (Int32 × Hp) :=
  bd (okZ s0) fun e1 => some (s0, σ)
set_option maxHeartbeats 4000000 in
theorem v_X1_run_163 {l : Launch} {G : Gx} (hst : l.stackTraces = false) {σ0 σe : Hp} {Se : Ms} {r : Int32} {σ : Hp} {s0 : Int32} (h : f_X1_run_163 σ s0 = some (r, σe)) : VV_X1_run l G σ0 (.inl (some (pI r))) σe Se 163 [] [pI s0] σ Se := by
  unfold f_X1_run_163 at h
  obtain ⟨e1, e2, h⟩ := bd_s h
  cases h
  exact V_retZ e2 rfl dX1_run_163
def f_X1_run_162 (σ : Hp) : Option (Int32 × Hp) :=
  f_X1_run_163 σ (0 : Int32)
set_option maxHeartbeats 4000000 in
theorem v_X1_run_162 {l : Launch} {G : Gx} (hst : l.stackTraces = false) {σ0 σe : Hp} {Se : Ms} {r : Int32} {σ : Hp} (h : f_X1_run_162 σ  = some (r, σe)) : VV_X1_run l G σ0 (.inl (some (pI r))) σe Se 162 [] [] σ Se := by
  unfold f_X1_run_162 at h
  refine V_iconst (v := 0) dX1_run_162 (by decide) ?_
  refine V_sub [] rfl ?_
  exact v_X1_run_163 hst h
def f_X1_run_126 (σ : Hp) (s0 : Int32) : Option (Int32 × Hp) :=
  bd (okZ s0) fun e1 => some (s0, σ)
set_option maxHeartbeats 4000000 in
theorem v_X1_run_126 {l : Launch} {G : Gx} (hst : l.stackTraces = false) {σ0 σe : Hp} {Se : Ms} {r : Int32} {σ : Hp} {s0 : Int32} (h : f_X1_run_126 σ s0 = some (r, σe)) : VV_X1_run l G σ0 (.inl (some (pI r))) σe Se 126 [] [pI s0] σ Se := by
  unfold f_X1_run_126 at h
  obtain ⟨e1, e2, h⟩ := bd_s h
  cases h
  exact V_retZ e2 rfl dX1_run_126
def f_X1_run_125 (σ : Hp) : Option (Int32 × Hp) :=
  f_X1_run_126 σ (0 : Int32)
set_option maxHeartbeats 4000000 in
theorem v_X1_run_125 {l : Launch} {G : Gx} (hst : l.stackTraces = false) {σ0 σe : Hp} {Se : Ms} {r : Int32} {σ : Hp} (h : f_X1_run_125 σ  = some (r, σe)) : VV_X1_run l G σ0 (.inl (some (pI r))) σe Se 125 [] [] σ Se := by
  unfold f_X1_run_125 at h
  refine V_iconst (v := 0) dX1_run_125 (by decide) ?_
  refine V_sub [] rfl ?_
  exact v_X1_run_126 hst h
def f_X1_run_223 (σ : Hp) (s0 : Int32) : Option (Int32 × Hp) :=
  bd (okZ s0) fun e1 => some (s0, σ)
set_option maxHeartbeats 4000000 in
theorem v_X1_run_223 {l : Launch} {G : Gx} (hst : l.stackTraces = false) {σ0 σe : Hp} {Se : Ms} {r : Int32} {σ : Hp} {s0 : Int32} (h : f_X1_run_223 σ s0 = some (r, σe)) : VV_X1_run l G σ0 (.inl (some (pI r))) σe Se 223 [] [pI s0] σ Se := by
  unfold f_X1_run_223 at h
  obtain ⟨e1, e2, h⟩ := bd_s h
  cases h
  exact V_retZ e2 rfl dX1_run_223
def f_X1_run (σ : Hp) (a0 : Nat) (a1 : Nat) : Option (Int32 × Hp) :=
  bd (rdR σ 7 a1 71) fun b1 => bd (elI σ 101 b1 (0 : Int32)) fun y3 => bd (rdI σ 7 a1 70) fun y5 => if y5 = (98 : Int32) then (bd (rdR σ 1 a0 10) fun b8 => bd (rdR σ 2 b8 20) fun b10 => bd (gk σ 10 b10) fun e12 => bp (f_J2_size σ b10) fun y14 σ15 => if (20 : Int32) ≤ y14 then (f_X1_run_83 σ15 ) else (bd (rdR σ15 1 a0 10) fun b18 => bd (gk σ15 2 b18) fun e20 => bp (f_X2_add σ15 b18 y3 (0 : Int32)) fun y22 σ23 => if y22 < (0 : Int32) then (f_X1_run_83 σ23 ) else (f_X1_run_84 σ23 (1 : Int32)))) else (if y5 = (104 : Int32) then (bd (rdR σ 1 a0 10) fun b27 => bd (rdR σ 2 b27 20) fun b29 => bd (gk σ 10 b29) fun e31 => bp (f_J2_size σ b29) fun y33 σ34 => if y3 < y33 then (bd (rdR σ34 1 a0 10) fun b37 => bd (rdR σ34 2 b37 20) fun b39 => bd (gk σ34 10 b39) fun e41 => bp (f_J2_get σ34 b39 y3) fun b43 σ44 => bd (ckC σ44 3 b43) fun e46 => bd (rdR σ44 7 a1 71) fun b48 => bd (elI σ44 101 b48 (1 : Int32)) fun y50 => bd (gk σ44 3 b43) fun e52 => bp (f_X4_warm σ44 b43 ((5 : Int32) * y50)) fun e54 σ55 => bd (okZ (1 : Int32)) fun e57 => some ((1 : Int32), σ55)) else (bd (okZ (0 : Int32)) fun e59 => some ((0 : Int32), σ34))) else (if y5 = (117 : Int32) then (bd (rdR σ 1 a0 10) fun b62 => bd (rdR σ 2 b62 21) fun b64 => bd (gk σ 10 b64) fun e66 => bp (f_J2_get σ b64 y3) fun b68 σ69 => bd (ckC σ69 10 b68) fun e71 => bd (gk σ69 10 b68) fun e73 => bp (f_J2_isEmpty σ69 b68) fun y75 σ76 => if y75 = (0 : Int32) then (bd (rdR σ76 1 a0 10) fun b79 => bd (gk σ76 2 b79) fun e81 => bp (f_X2_takeOff σ76 b79 y3) fun y83 σ84 => if y83 < (0 : Int32) then (f_X1_run_162 σ84 ) else (f_X1_run_163 σ84 (1 : Int32))) else (f_X1_run_162 σ76 )) else (if y5 = (119 : Int32) then (bd (rdR σ 7 a1 71) fun b88 => bd (elI σ 101 b88 (1 : Int32)) fun y90 => bd (rdR σ 1 a0 10) fun b92 => bd (rdR σ 2 b92 20) fun b94 => bd (gk σ 10 b94) fun e96 => bp (f_J2_size σ b94) fun y98 σ99 => if y98 ≤ y90 then (f_X1_run_125 σ99 ) else (bd (rdR σ99 1 a0 10) fun b102 => bd (rdR σ99 7 a1 71) fun b104 => bd (elI σ99 101 b104 (1 : Int32)) fun y106 => bd (gk σ99 2 b102) fun e108 => bp (f_X2_wring σ99 b102 y3 y106) fun y110 σ111 => if y110 = (0 : Int32) then (f_X1_run_126 σ111 (1 : Int32)) else (f_X1_run_125 σ111 ))) else (bd (rdR σ 1 a0 10) fun b114 => bd (gk σ 2 b114) fun e116 => bp (f_X2_rest σ b114 y3) fun y118 σ119 => if y118 < (0 : Int32) then (f_X1_run_223 σ119 (0 : Int32)) else (f_X1_run_223 σ119 (1 : Int32))))))
set_option maxHeartbeats 4000000 in
theorem v_X1_run (l : Launch) (G : Gx) (hst : l.stackTraces = false) (S : Ms) {σ σe : Hp} {a0 : Nat} {a1 : Nat} {r : Int32} (h : f_X1_run σ a0 a1 = some (r, σe)) : MT l G yX1_run (ws_ yX1_run cX1_run 3 (some .boolean)) 8 235 [pR a0, pR a1] σ S (.inl (some (pI r))) σe S := by
  refine MT_of (own := RX1) (nL := 3) (ini := false) (by decide +kernel) rfl (Nat.le_of_ble_eq_true rfl) (fun h => by cases h) hst ?_
  show VV_X1_run l G σ (.inl (some (pI r))) σe S 0 [(0, pR a0), (1, pR a1)] [] σ S
  unfold f_X1_run at h
  refine V_aload_n (i := 1) 1 dX1_run_0 rfl rfl ?_
  obtain ⟨b1, e2, h⟩ := bd_s h
  refine V_rdR gf_X1_176 rfl rfl rfl e2 dX1_run_1 ?_
  refine V_iconst (v := 0) dX1_run_4 (by decide) ?_
  obtain ⟨y3, e4, h⟩ := bd_s h
  refine V_elI1 e4 dX1_run_5 ?_
  refine V_istore_n (i := 2) (L' := [(2, pI y3), (0, pR a0), (1, pR a1)]) dX1_run_6 rfl (by decide) rfl ?_
  refine V_aload_n (i := 1) 2 dX1_run_7 rfl rfl ?_
  obtain ⟨y5, e6, h⟩ := bd_s h
  refine V_rdI gf_X1_179 rfl rfl rfl e6 dX1_run_8 ?_
  by_cases c7 : y5 = (98 : Int32)
  · replace h := it_t c7 h
    refine V_lookup 52 dX1_run_11 (by decide) (by rw [c7]; first | done | rfl) (by decide) ?_
    refine V_aload_n (i := 0) 1 dX1_run_52 rfl rfl ?_
    obtain ⟨b8, e9, h⟩ := bd_s h
    refine V_rdR gf_X1_10 rfl rfl rfl e9 dX1_run_53 ?_
    obtain ⟨b10, e11, h⟩ := bd_s h
    refine V_rdR gf_X1_59 rfl rfl rfl e11 dX1_run_56 ?_
    obtain ⟨e12, e13, h⟩ := bd_s h
    obtain ⟨y14, σ15, e16, h⟩ := bp_s h
    refine V_callV_v (n9 := 0) (c := 9) (r := (RJ2, TJ2, 3)) [] (v_J2_size l G hst _ e16) rfl rfl (lw_V q860 q861 q862 q80 q863) (by decide +kernel) (by decide) (Nat.le_of_ble_eq_true rfl) (gk_k e13 rfl) rfl dX1_run_59 ?_
    refine V_bipush (v := 20) dX1_run_62 (by decide) ?_
    refine V_icmp_ge 83 dX1_run_64 (by decide) (fun c17 => ?_) (fun c17 => ?_)
    · replace h := it_t c17 h
      refine V_sub [] rfl ?_
      exact v_X1_run_83 hst h
    · replace h := it_f c17 h
      refine V_aload_n (i := 0) 1 dX1_run_67 rfl rfl ?_
      obtain ⟨b18, e19, h⟩ := bd_s h
      refine V_rdR gf_X1_10 rfl rfl rfl e19 dX1_run_68 ?_
      refine V_iload_n (i := 2) 0 dX1_run_71 rfl rfl ?_
      refine V_iconst (v := 0) dX1_run_72 (by decide) ?_
      obtain ⟨e20, e21, h⟩ := bd_s h
      obtain ⟨y22, σ23, e24, h⟩ := bp_s h
      refine V_callV_v (n9 := 2) (c := 1) (r := (RX2, TX2, 7)) [] (v_X2_add l G hst _ e24) rfl rfl (lw_V q1017 q1018 q1019 q77 q1020) (by decide +kernel) (by decide) (Nat.le_of_ble_eq_true rfl) (gk_k e21 rfl) rfl dX1_run_73 ?_
      refine V_if_lt 83 dX1_run_76 (by decide) (fun c25 => ?_) (fun c25 => ?_)
      · replace h := it_t c25 h
        refine V_sub [] rfl ?_
        exact v_X1_run_83 hst h
      · replace h := it_f c25 h
        refine V_iconst (v := 1) dX1_run_79 (by decide) ?_
        refine V_goto 84 dX1_run_80 (by decide) ?_
        refine V_sub [] rfl ?_
        exact v_X1_run_84 hst h
  · replace h := it_f c7 h
    by_cases c26 : y5 = (104 : Int32)
    · replace h := it_t c26 h
      refine V_lookup 164 dX1_run_11 (by decide) (by rw [c26]; first | done | rfl) (by decide) ?_
      refine V_iload_n (i := 2) 0 dX1_run_164 rfl rfl ?_
      refine V_aload_n (i := 0) 1 dX1_run_165 rfl rfl ?_
      obtain ⟨b27, e28, h⟩ := bd_s h
      refine V_rdR gf_X1_10 rfl rfl rfl e28 dX1_run_166 ?_
      obtain ⟨b29, e30, h⟩ := bd_s h
      refine V_rdR gf_X1_59 rfl rfl rfl e30 dX1_run_169 ?_
      obtain ⟨e31, e32, h⟩ := bd_s h
      obtain ⟨y33, σ34, e35, h⟩ := bp_s h
      refine V_callV_v (n9 := 0) (c := 9) (r := (RJ2, TJ2, 3)) [pI y3] (v_J2_size l G hst _ e35) rfl rfl (lw_V q860 q861 q862 q80 q863) (by decide +kernel) (by decide) (Nat.le_of_ble_eq_true rfl) (gk_k e32 rfl) rfl dX1_run_172 ?_
      refine V_icmp_lt 180 dX1_run_175 (by decide) (fun c36 => ?_) (fun c36 => ?_)
      · replace h := it_t c36 h
        refine V_aload_n (i := 0) 1 dX1_run_180 rfl rfl ?_
        obtain ⟨b37, e38, h⟩ := bd_s h
        refine V_rdR gf_X1_10 rfl rfl rfl e38 dX1_run_181 ?_
        obtain ⟨b39, e40, h⟩ := bd_s h
        refine V_rdR gf_X1_59 rfl rfl rfl e40 dX1_run_184 ?_
        refine V_iload_n (i := 2) 0 dX1_run_187 rfl rfl ?_
        obtain ⟨e41, e42, h⟩ := bd_s h
        obtain ⟨b43, σ44, e45, h⟩ := bp_s h
        refine V_callV_v (n9 := 1) (c := 9) (r := (RJ2, TJ2, 3)) [] (v_J2_get l G hst _ e45) rfl rfl (lw_V q1054 q937 q938 q80 q939) (by decide +kernel) (by decide) (Nat.le_of_ble_eq_true rfl) (gk_k e42 rfl) rfl dX1_run_188 ?_
        obtain ⟨e46, e47, h⟩ := bd_s h
        refine V_ckC (c := 2) e47 q848 rfl (Or.inl rfl) dX1_run_191 ?_
        refine V_iconst (v := 5) dX1_run_194 (by decide) ?_
        refine V_aload_n (i := 1) 2 dX1_run_195 rfl rfl ?_
        obtain ⟨b48, e49, h⟩ := bd_s h
        refine V_rdR gf_X1_176 rfl rfl rfl e49 dX1_run_196 ?_
        refine V_iconst (v := 1) dX1_run_199 (by decide) ?_
        obtain ⟨y50, e51, h⟩ := bd_s h
        refine V_elI1 e51 dX1_run_200 ?_
        refine V_imul dX1_run_201 ?_
        obtain ⟨e52, e53, h⟩ := bd_s h
        obtain ⟨e54, σ55, e56, h⟩ := bp_s h
        refine V_callV_0 (n9 := 1) (c := 2) (r := (RX4, TX4, 6)) [] (v_X4_warm l G hst _ e56) rfl rfl (lw_V q1093 q1094 q1095 q98 q1096) (by decide +kernel) (by decide) (Nat.le_of_ble_eq_true rfl) (gk_k e53 rfl) rfl dX1_run_202 ?_
        refine V_iconst (v := 1) dX1_run_205 (by decide) ?_
        obtain ⟨e57, e58, h⟩ := bd_s h
        cases h
        exact V_retZ e58 rfl dX1_run_206
      · replace h := it_f c36 h
        refine V_iconst (v := 0) dX1_run_178 (by decide) ?_
        obtain ⟨e59, e60, h⟩ := bd_s h
        cases h
        exact V_retZ e60 rfl dX1_run_179
    · replace h := it_f c26 h
      by_cases c61 : y5 = (117 : Int32)
      · replace h := it_t c61 h
        refine V_lookup 127 dX1_run_11 (by decide) (by rw [c61]; first | done | rfl) (by decide) ?_
        refine V_aload_n (i := 0) 1 dX1_run_127 rfl rfl ?_
        obtain ⟨b62, e63, h⟩ := bd_s h
        refine V_rdR gf_X1_10 rfl rfl rfl e63 dX1_run_128 ?_
        obtain ⟨b64, e65, h⟩ := bd_s h
        refine V_rdR gf_X1_133 rfl rfl rfl e65 dX1_run_131 ?_
        refine V_iload_n (i := 2) 0 dX1_run_134 rfl rfl ?_
        obtain ⟨e66, e67, h⟩ := bd_s h
        obtain ⟨b68, σ69, e70, h⟩ := bp_s h
        refine V_callV_v (n9 := 1) (c := 9) (r := (RJ2, TJ2, 3)) [] (v_J2_get l G hst _ e70) rfl rfl (lw_V q1054 q937 q938 q80 q939) (by decide +kernel) (by decide) (Nat.le_of_ble_eq_true rfl) (gk_k e67 rfl) rfl dX1_run_135 ?_
        obtain ⟨e71, e72, h⟩ := bd_s h
        refine V_ckC (c := 9) e72 q1161 rfl (Or.inl rfl) dX1_run_138 ?_
        obtain ⟨e73, e74, h⟩ := bd_s h
        obtain ⟨y75, σ76, e77, h⟩ := bp_s h
        refine V_callV_v (n9 := 0) (c := 9) (r := (RJ2, TJ2, 3)) [] (v_J2_isEmpty l G hst _ e77) rfl rfl (lw_V q856 q857 q858 q80 q859) (by decide +kernel) (by decide) (Nat.le_of_ble_eq_true rfl) (gk_k e74 rfl) rfl dX1_run_141 ?_
        refine V_if_ne 162 dX1_run_144 (by decide) (fun c78 => ?_) (fun c78 => ?_)
        · replace h := it_f c78 h
          refine V_sub [] rfl ?_
          exact v_X1_run_162 hst h
        · replace h := it_t c78 h
          refine V_aload_n (i := 0) 1 dX1_run_147 rfl rfl ?_
          obtain ⟨b79, e80, h⟩ := bd_s h
          refine V_rdR gf_X1_10 rfl rfl rfl e80 dX1_run_148 ?_
          refine V_iload_n (i := 2) 0 dX1_run_151 rfl rfl ?_
          obtain ⟨e81, e82, h⟩ := bd_s h
          obtain ⟨y83, σ84, e85, h⟩ := bp_s h
          refine V_callV_v (n9 := 1) (c := 1) (r := (RX2, TX2, 7)) [] (v_X2_takeOff l G hst _ e85) rfl rfl (lw_V q1162 q1163 q1164 q77 q1165) (by decide +kernel) (by decide) (Nat.le_of_ble_eq_true rfl) (gk_k e82 rfl) rfl dX1_run_152 ?_
          refine V_if_lt 162 dX1_run_155 (by decide) (fun c86 => ?_) (fun c86 => ?_)
          · replace h := it_t c86 h
            refine V_sub [] rfl ?_
            exact v_X1_run_162 hst h
          · replace h := it_f c86 h
            refine V_iconst (v := 1) dX1_run_158 (by decide) ?_
            refine V_goto 163 dX1_run_159 (by decide) ?_
            refine V_sub [] rfl ?_
            exact v_X1_run_163 hst h
      · replace h := it_f c61 h
        by_cases c87 : y5 = (119 : Int32)
        · replace h := it_t c87 h
          refine V_lookup 85 dX1_run_11 (by decide) (by rw [c87]; first | done | rfl) (by decide) ?_
          refine V_aload_n (i := 1) 2 dX1_run_85 rfl rfl ?_
          obtain ⟨b88, e89, h⟩ := bd_s h
          refine V_rdR gf_X1_176 rfl rfl rfl e89 dX1_run_86 ?_
          refine V_iconst (v := 1) dX1_run_89 (by decide) ?_
          obtain ⟨y90, e91, h⟩ := bd_s h
          refine V_elI1 e91 dX1_run_90 ?_
          refine V_aload_n (i := 0) 1 dX1_run_91 rfl rfl ?_
          obtain ⟨b92, e93, h⟩ := bd_s h
          refine V_rdR gf_X1_10 rfl rfl rfl e93 dX1_run_92 ?_
          obtain ⟨b94, e95, h⟩ := bd_s h
          refine V_rdR gf_X1_59 rfl rfl rfl e95 dX1_run_95 ?_
          obtain ⟨e96, e97, h⟩ := bd_s h
          obtain ⟨y98, σ99, e100, h⟩ := bp_s h
          refine V_callV_v (n9 := 0) (c := 9) (r := (RJ2, TJ2, 3)) [pI y90] (v_J2_size l G hst _ e100) rfl rfl (lw_V q860 q861 q862 q80 q863) (by decide +kernel) (by decide) (Nat.le_of_ble_eq_true rfl) (gk_k e97 rfl) rfl dX1_run_98 ?_
          refine V_icmp_ge 125 dX1_run_101 (by decide) (fun c101 => ?_) (fun c101 => ?_)
          · replace h := it_t c101 h
            refine V_sub [] rfl ?_
            exact v_X1_run_125 hst h
          · replace h := it_f c101 h
            refine V_aload_n (i := 0) 1 dX1_run_104 rfl rfl ?_
            obtain ⟨b102, e103, h⟩ := bd_s h
            refine V_rdR gf_X1_10 rfl rfl rfl e103 dX1_run_105 ?_
            refine V_iload_n (i := 2) 0 dX1_run_108 rfl rfl ?_
            refine V_aload_n (i := 1) 2 dX1_run_109 rfl rfl ?_
            obtain ⟨b104, e105, h⟩ := bd_s h
            refine V_rdR gf_X1_176 rfl rfl rfl e105 dX1_run_110 ?_
            refine V_iconst (v := 1) dX1_run_113 (by decide) ?_
            obtain ⟨y106, e107, h⟩ := bd_s h
            refine V_elI1 e107 dX1_run_114 ?_
            obtain ⟨e108, e109, h⟩ := bd_s h
            obtain ⟨y110, σ111, e112, h⟩ := bp_s h
            refine V_callV_v (n9 := 2) (c := 1) (r := (RX2, TX2, 7)) [] (v_X2_wring l G hst _ e112) rfl rfl (lw_V q1134 q1135 q1136 q77 q1137) (by decide +kernel) (by decide) (Nat.le_of_ble_eq_true rfl) (gk_k e109 rfl) rfl dX1_run_115 ?_
            refine V_if_ne 125 dX1_run_118 (by decide) (fun c113 => ?_) (fun c113 => ?_)
            · replace h := it_f c113 h
              refine V_sub [] rfl ?_
              exact v_X1_run_125 hst h
            · replace h := it_t c113 h
              refine V_iconst (v := 1) dX1_run_121 (by decide) ?_
              refine V_goto 126 dX1_run_122 (by decide) ?_
              refine V_sub [] rfl ?_
              exact v_X1_run_126 hst h
        · replace h := it_f c87 h
          refine V_lookup (off := 196) 207 dX1_run_11 (by decide) ((lv_osw c7 rfl).trans ((lv_osw c26 rfl).trans ((lv_osw c61 rfl).trans ((lv_osw c87 rfl).trans rfl)))) (by decide) ?_
          refine V_aload_n (i := 0) 1 dX1_run_207 rfl rfl ?_
          obtain ⟨b114, e115, h⟩ := bd_s h
          refine V_rdR gf_X1_10 rfl rfl rfl e115 dX1_run_208 ?_
          refine V_iload_n (i := 2) 0 dX1_run_211 rfl rfl ?_
          obtain ⟨e116, e117, h⟩ := bd_s h
          obtain ⟨y118, σ119, e120, h⟩ := bp_s h
          refine V_callV_v (n9 := 1) (c := 1) (r := (RX2, TX2, 7)) [] (v_X2_rest l G hst _ e120) rfl rfl (lw_V q1105 q1106 q1107 q77 q1108) (by decide +kernel) (by decide) (Nat.le_of_ble_eq_true rfl) (gk_k e117 rfl) rfl dX1_run_212 ?_
          refine V_if_lt 222 dX1_run_215 (by decide) (fun c121 => ?_) (fun c121 => ?_)
          · replace h := it_t c121 h
            refine V_iconst (v := 0) dX1_run_222 (by decide) ?_
            refine V_sub [] rfl ?_
            exact v_X1_run_223 hst h
          · replace h := it_f c121 h
            refine V_iconst (v := 1) dX1_run_218 (by decide) ?_
            refine V_goto 223 dX1_run_219 (by decide) ?_
            refine V_sub [] rfl ?_
            exact v_X1_run_223 hst h

abbrev VV_X1_execute (l : Launch) (G : Gx) (σ0 : Hp) (o : Oc) (σe : Hp) (Se : Ms) := V l G RX1 cX1_execute 3 (some .int) (tableOf [(0, 12, 15, 165)]) false 10 275 σ0 o σe Se
def f_X1_execute_67 (σ : Hp) (x2 : Int32) : Option (Ex Int32 × Hp) :=
  some (.inl x2, σ)
set_option maxHeartbeats 4000000 in
theorem v_X1_execute_67 {l : Launch} {G : Gx} (hst : l.stackTraces = false) {σ0 σe : Hp} {Se : Ms} {r : Ex Int32} {σ : Hp} {x2 : Int32} (h : f_X1_execute_67 σ x2 = some (r, σe)) : VV_X1_execute l G σ0 (tOI r) σe Se 67 [(2, pI x2)] [] σ Se := by
  unfold f_X1_execute_67 at h
  refine V_iload_n (i := 2) 0 dX1_execute_67 rfl rfl ?_
  cases h
  exact V_iret rfl dX1_execute_68
def f_X1_execute_38_b (k38 : Hp → Int32 → Nat → Nat → Option (Ex Int32 × Hp)) (σ : Hp) (x2 : Int32) (a1 : Nat) (a0 : Nat) : Option (Ex Int32 × Hp) :=
  bd (gk σ 10 a1) fun e1 => bp (f_J2_size σ a1) fun y3 σ4 => if y3 ≤ x2 then (f_X1_execute_67 σ4 x2) else (bd (gk σ4 10 a1) fun e7 => bp (f_J2_get σ4 a1 x2) fun b9 σ10 => bd (ckC σ10 7 b9) fun e12 => bd (gk σ10 1 a0) fun e14 => bp (f_X1_run σ10 a0 b9) fun y16 σ17 => if y16 = (0 : Int32) then (f_X1_execute_67 σ17 x2) else (k38 σ17 (x2 + (1 : Int32)) a1 a0))
set_option maxHeartbeats 4000000 in
theorem v_X1_execute_38_b {l : Launch} {G : Gx} (hst : l.stackTraces = false) {σ0 σe : Hp} {Se : Ms} {r : Ex Int32} {k38 : Hp → Int32 → Nat → Nat → Option (Ex Int32 × Hp)} (hk38 : ∀ (σ : Hp) (x2 : Int32) (a1 : Nat) (a0 : Nat), k38 σ x2 a1 a0 = some (r, σe) → VV_X1_execute l G σ0 (tOI r) σe Se 38 [(2, pI x2), (1, pR a1), (0, pR a0)] [] σ Se) {σ : Hp} {x2 : Int32} {a1 : Nat} {a0 : Nat} (h : f_X1_execute_38_b k38 σ x2 a1 a0 = some (r, σe)) : VV_X1_execute l G σ0 (tOI r) σe Se 38 [(2, pI x2), (1, pR a1), (0, pR a0)] [] σ Se := by
  unfold f_X1_execute_38_b at h
  refine V_iload_n (i := 2) 0 dX1_execute_38 rfl rfl ?_
  refine V_aload_n (i := 1) 1 dX1_execute_39 rfl rfl ?_
  obtain ⟨e1, e2, h⟩ := bd_s h
  obtain ⟨y3, σ4, e5, h⟩ := bp_s h
  refine V_callV_v (n9 := 0) (c := 9) (r := (RJ2, TJ2, 3)) [pI x2] (v_J2_size l G hst _ e5) rfl rfl (lw_V q860 q861 q862 q80 q863) (by decide +kernel) (by decide) (Nat.le_of_ble_eq_true rfl) (gk_k e2 rfl) rfl dX1_execute_40 ?_
  refine V_icmp_ge 67 dX1_execute_43 (by decide) (fun c6 => ?_) (fun c6 => ?_)
  · replace h := it_t c6 h
    refine V_sub [0] rfl ?_
    exact v_X1_execute_67 hst h
  · replace h := it_f c6 h
    refine V_aload_n (i := 0) 2 dX1_execute_46 rfl rfl ?_
    refine V_aload_n (i := 1) 1 dX1_execute_47 rfl rfl ?_
    refine V_iload_n (i := 2) 0 dX1_execute_48 rfl rfl ?_
    obtain ⟨e7, e8, h⟩ := bd_s h
    obtain ⟨b9, σ10, e11, h⟩ := bp_s h
    refine V_callV_v (n9 := 1) (c := 9) (r := (RJ2, TJ2, 3)) [pR a0] (v_J2_get l G hst _ e11) rfl rfl (lw_V q1054 q937 q938 q80 q939) (by decide +kernel) (by decide) (Nat.le_of_ble_eq_true rfl) (gk_k e8 rfl) rfl dX1_execute_49 ?_
    obtain ⟨e12, e13, h⟩ := bd_s h
    refine V_ckC (c := 6) e13 q1248 rfl (Or.inl rfl) dX1_execute_52 ?_
    obtain ⟨e14, e15, h⟩ := bd_s h
    obtain ⟨y16, σ17, e18, h⟩ := bp_s h
    refine V_callV_v (n9 := 1) (c := 0) (r := (RX1, TX1, 4)) [] (v_X1_run l G hst _ e18) rfl rfl (lw_V q1249 q1251 qs17 q76 q1252) (by decide +kernel) (by decide) (Nat.le_of_ble_eq_true rfl) (gk_k e15 rfl) rfl dX1_execute_55 ?_
    refine V_if_eq 67 dX1_execute_58 (by decide) (fun c19 => ?_) (fun c19 => ?_)
    · replace h := it_t c19 h
      refine V_sub [0] rfl ?_
      exact v_X1_execute_67 hst h
    · replace h := it_f c19 h
      refine V_iinc (v := (x2 + (1 : Int32))) (L' := [(2, pI (x2 + (1 : Int32))), (1, pR a1), (0, pR a0)]) 0 dX1_execute_61 rfl rfl (by decide) rfl ?_
      refine V_goto 38 dX1_execute_64 (by decide) ?_
      refine V_sub [0, 1, 2] rfl ?_
      exact hk38 _ _ _ _ h
def f_X1_execute_38 : Nat → Hp → Int32 → Nat → Nat → Option (Ex Int32 × Hp)
  | 0, _, _, _, _ => none
  | n + 1, σ, x2, a1, a0 => f_X1_execute_38_b (f_X1_execute_38 n) σ x2 a1 a0
theorem v_X1_execute_38 {l : Launch} {G : Gx} (hst : l.stackTraces = false) {σ0 σe : Hp} {Se : Ms} {r : Ex Int32} : ∀ (n : Nat) (σ : Hp) (x2 : Int32) (a1 : Nat) (a0 : Nat), f_X1_execute_38 n σ x2 a1 a0 = some (r, σe) → VV_X1_execute l G σ0 (tOI r) σe Se 38 [(2, pI x2), (1, pR a1), (0, pR a0)] [] σ Se
  | 0, _, _, _, _, h => by cases h
  | n + 1, _, _, _, _, h => v_X1_execute_38_b hst (v_X1_execute_38 hst n) h
def f_X1_execute (σ : Hp) (a0 : Nat) : Option (Ex Int32 × Hp) :=
  bd (gz (nC σ 5 2) (hN σ)) fun e1 => bp (f_X6_init (nC σ 5 2) (hN σ) a0) fun e3 σ4 => bd (gk σ4 5 (hN σ)) fun e6 => bp (f_X6_commands σ4 (hN σ)) fun r8 σ9 => ex r8 (fun b11 => bd (gk σ9 1 a0) fun e15 => bp (f_X1_save σ9 a0) fun e17 σ18 => bd (rdR σ18 1 a0 13) fun b20 => bd (gk σ18 13 b20) fun e22 => bp (f_J8_setLength σ18 b20 (0 : Int32)) fun e24 σ25 => f_X1_execute_38 FU σ25 (0 : Int32) b11 a0) (fun e13 => if e13.1 = "GaugeBlocks$SyntaxFault" then some (.inr ("java/lang/IllegalArgumentException", hN σ9), nX σ9 6) else none)
set_option maxHeartbeats 4000000 in
theorem v_X1_execute (l : Launch) (G : Gx) (hst : l.stackTraces = false) (S : Ms) {σ σe : Hp} {a0 : Nat} {r : Ex Int32} (h : f_X1_execute σ a0 = some (r, σe)) : MT l G yX1_execute (wsW_ yX1_execute cX1_execute 3 (some .int) [(0, 12, 15, 165)]) 10 275 [pR a0] σ S (tOI r) σe S := by
  refine MT_ofH (own := RX1) (nL := 3) (ini := false) (by decide +kernel) rfl (Nat.le_of_ble_eq_true rfl) (fun h => by cases h) hst ?_
  show VV_X1_execute l G σ (tOI r) σe S 0 [(0, pR a0)] [] σ S
  unfold f_X1_execute at h
  refine V_new (n := 2) ci_4 (by decide +kernel) q677 q678 q106 dX1_execute_0 ?_
  refine V_dup dX1_execute_3 rfl ?_
  refine V_aload_n (i := 0) 0 dX1_execute_4 rfl rfl ?_
  obtain ⟨e1, e2, h⟩ := bd_s h
  obtain ⟨e3, σ4, e5, h⟩ := bp_s h
  refine V_callIN_0 (n9 := 1) (host := "GaugeBlocks") [pR (hN σ)] (v_X6_init l G hst _ e5) rfl rfl q681 q106 (by decide +kernel) q680 rfl (by decide +kernel) (by decide) (Nat.le_of_ble_eq_true rfl) (gz_n e2) dX1_execute_5 ?_
  obtain ⟨e6, e7, h⟩ := bd_s h
  obtain ⟨r8, σ9, e10, h⟩ := bp_s h
  refine V_callVxR (n9 := 0) (c := 4) (r := (RX6, TX6, 2)) [] (v_X6_commands l G hst _ e10) rfl rfl (lw_V q690 q691 q692 q106 q693) (by decide +kernel) (by decide) (Nat.le_of_ble_eq_true rfl) (gk_k e7 rfl) rfl dX1_execute_8 (fun b11 e12 => ?_) (fun e13 e14 => ?_)
  · subst e12
    replace h := ex_l h
    refine V_astore_n (i := 1) (L' := [(1, pR b11), (0, pR a0)]) dX1_execute_11 rfl (by decide) rfl ?_
    refine V_goto 24 dX1_execute_12 (by decide) ?_
    refine V_aload_n (i := 0) 1 dX1_execute_24 rfl rfl ?_
    obtain ⟨e15, e16, h⟩ := bd_s h
    obtain ⟨e17, σ18, e19, h⟩ := bp_s h
    refine V_callV_0 (n9 := 0) (c := 0) (r := (RX1, TX1, 4)) [] (v_X1_save l G hst _ e19) rfl rfl (lw_V q904 q906 qs10 q76 q907) (by decide +kernel) (by decide) (Nat.le_of_ble_eq_true rfl) (gk_k e16 rfl) rfl dX1_execute_25 ?_
    refine V_aload_n (i := 0) 1 dX1_execute_28 rfl rfl ?_
    obtain ⟨b20, e21, h⟩ := bd_s h
    refine V_rdR gf_X1_30 rfl rfl rfl e21 dX1_execute_29 ?_
    refine V_iconst (v := 0) dX1_execute_32 (by decide) ?_
    obtain ⟨e22, e23, h⟩ := bd_s h
    obtain ⟨e24, σ25, e26, h⟩ := bp_s h
    refine V_callV_0 (n9 := 1) (c := 12) (r := (RJ8, TJ8, 4)) [] (v_J8_setLength l G hst _ e26) rfl rfl (lw_V q349 q350 q351 q87 q352) (by decide +kernel) (by decide) (Nat.le_of_ble_eq_true rfl) (gk_k e23 rfl) rfl dX1_execute_33 ?_
    refine V_iconst (v := 0) dX1_execute_36 (by decide) ?_
    refine V_istore_n (i := 2) (L' := [(2, pI (0 : Int32)), (1, pR b11), (0, pR a0)]) dX1_execute_37 rfl (by decide) rfl ?_
    refine V_sub [0, 1, 2] rfl ?_
    exact v_X1_execute_38 hst FU _ _ _ _ h
  · subst e14
    replace h := ex_r h
    by_cases e27 : e13.1 = "GaugeBlocks$SyntaxFault"
    · replace h := (if_pos e27).symm.trans h
      rw [e27]
      refine VX_catch (E := "GaugeBlocks$SyntaxFault") (nm := "GaugeBlocks$SyntaxFault") (tableOf []) ⟨0, 12, 15, 165⟩ (tableOf []) rfl (fun y hy => by cases hy) (by decide) (by decide) q676 (by decide +kernel) ?_
      refine V_astore_n (i := 2) (L' := [(2, pR (e13.2)), (0, pR a0)]) dX1_execute_15 rfl (by decide) rfl ?_
      cases h
      exact V_throw0 (E := "java/lang/IllegalArgumentException") (names := ["java/lang/RuntimeException", "java/lang/Exception"]) (by decide +kernel) (by decide +kernel) q878 q94 hat_IllegalArgumentException hgo_IllegalArgumentException (by decide) dX1_execute_16 dX1_execute_19 dX1_execute_20 dX1_execute_23 (by decide) (Nat.le_of_ble_eq_true rfl)
    replace h := (if_neg e27).symm.trans h
    cases h

abbrev VV_X0_execute (l : Launch) (G : Gx) (σ0 : Hp) (o : Oc) (σe : Hp) (Se : Ms) := V l G RX0 cX0_execute 3 (some .int) (tableOf [(0, 8, 11, 13)]) false 11 297 σ0 o σe Se
def f_X0_execute (σ : Hp) (a0 : Nat) (a1 : Nat) : Option (Int32 × Hp) :=
  bd (gk σ 1 a0) fun e1 => bp (f_X1_execute σ a0) fun r3 σ4 => ex r3 (fun y6 => bd (stI σ4 103 a1 (0 : Int32) y6) fun σ10 => some ((0 : Int32), σ10)) (fun e8 => if e8.1 = "java/lang/IllegalArgumentException" then some ((1 : Int32), σ4) else none)
set_option maxHeartbeats 4000000 in
theorem v_X0_execute (l : Launch) (G : Gx) (hst : l.stackTraces = false) (S : Ms) {σ σe : Hp} {a0 : Nat} {a1 : Nat} {r : Int32} (h : f_X0_execute σ a0 a1 = some (r, σe)) : MT l G yX0_execute (wsW_ yX0_execute cX0_execute 3 (some .int) [(0, 8, 11, 13)]) 11 297 [pR a0, pR a1] σ S (.inl (some (pI r))) σe S := by
  refine MT_ofH (own := RX0) (nL := 3) (ini := false) (by decide +kernel) rfl (Nat.le_of_ble_eq_true rfl) (fun h => by cases h) hst ?_
  show VV_X0_execute l G σ (.inl (some (pI r))) σe S 0 [(0, pR a0), (1, pR a1)] [] σ S
  unfold f_X0_execute at h
  refine V_aload_n (i := 1) 1 dX0_execute_0 rfl rfl ?_
  refine V_iconst (v := 0) dX0_execute_1 (by decide) ?_
  refine V_aload_n (i := 0) 0 dX0_execute_2 rfl rfl ?_
  obtain ⟨e1, e2, h⟩ := bd_s h
  obtain ⟨r3, σ4, e5, h⟩ := bp_s h
  refine V_callVHxI (n9 := 0) (c := 0) (r := (RX1, TX1, 4)) [pI (0 : Int32), pR a1] (v_X1_execute l G hst _ e5) rfl rfl (lw_VW q1244 q1245 q1246 q76 q1247) (by decide +kernel) (by decide) (Nat.le_of_ble_eq_true rfl) (gk_k e2 rfl) rfl dX0_execute_3 (fun y6 e7 => ?_) (fun e8 e9 => ?_)
  · subst e7
    replace h := ex_l h
    refine V_i2l dX0_execute_6 ?_
    obtain ⟨σ10, e11, h⟩ := bd_s h
    refine V_stI3 e11 dX0_execute_7 ?_
    refine V_goto 14 dX0_execute_8 (by decide) ?_
    refine V_iconst (v := 0) dX0_execute_14 (by decide) ?_
    cases h
    exact V_iret rfl dX0_execute_15
  · subst e9
    replace h := ex_r h
    by_cases e12 : e8.1 = "java/lang/IllegalArgumentException"
    · replace h := (if_pos e12).symm.trans h
      rw [e12]
      refine VX_catch (E := "java/lang/IllegalArgumentException") (nm := "java/lang/IllegalArgumentException") (tableOf []) ⟨0, 8, 11, 13⟩ (tableOf []) rfl (fun y hy => by cases hy) (by decide) (by decide) q867 (by decide +kernel) ?_
      refine V_astore_n (i := 2) (L' := [(2, pR (e8.2)), (0, pR a0), (1, pR a1)]) dX0_execute_11 rfl (by decide) rfl ?_
      refine V_iconst (v := 1) dX0_execute_12 (by decide) ?_
      cases h
      exact V_iret rfl dX0_execute_13
    replace h := (if_neg e12).symm.trans h
    cases h

abbrev VV_X1_undo (l : Launch) (G : Gx) (σ0 : Hp) (o : Oc) (σe : Hp) (Se : Ms) := V l G RX1 cX1_undo 1 (some .int) [] false 7 120 σ0 o σe Se
def f_X1_undo_15 (σ : Hp) (a0 : Nat) (s0 : Int32) : Option (Ex Int32 × Hp) :=
  bp (f_X1_allow σ s0) fun r1 σ2 => ex r1 (fun e4 => bd (rdR σ2 1 a0 11) fun b8 => bd (gk σ2 12 b8) fun e10 => bp (f_J6_removeLast σ2 b8) fun b12 σ13 => bd (ckC σ13 2 b12) fun e15 => bd (wrR σ13 1 a0 10 b12) fun σ17 => bd (rdR σ17 1 a0 11) fun b19 => bd (gk σ17 12 b19) fun e21 => bp (f_J6_size σ17 b19) fun y23 σ24 => some (.inl y23, σ24)) (fun e6 => some (.inr e6, σ2))
set_option maxHeartbeats 4000000 in
theorem v_X1_undo_15 {l : Launch} {G : Gx} (hst : l.stackTraces = false) {σ0 σe : Hp} {Se : Ms} {r : Ex Int32} {σ : Hp} {a0 : Nat} {s0 : Int32} (h : f_X1_undo_15 σ a0 s0 = some (r, σe)) : VV_X1_undo l G σ0 (tOI r) σe Se 15 [(0, pR a0)] [pI s0] σ Se := by
  unfold f_X1_undo_15 at h
  obtain ⟨r1, σ2, e3, h⟩ := bp_s h
  refine V_callSxV (n9 := 1) [] (v_X1_allow l G hst _ e3) rfl rfl (lw_S q886 q887 q76 q888) (by decide +kernel) (by decide) (Nat.le_of_ble_eq_true rfl) dX1_undo_15 (fun e4 e5 => ?_) (fun e6 e7 => ?_)
  · subst e5
    replace h := ex_l h
    refine V_aload_n (i := 0) 0 dX1_undo_18 rfl rfl ?_
    refine V_aload_n (i := 0) 0 dX1_undo_19 rfl rfl ?_
    obtain ⟨b8, e9, h⟩ := bd_s h
    refine V_rdR gf_X1_19 rfl rfl rfl e9 dX1_undo_20 ?_
    obtain ⟨e10, e11, h⟩ := bd_s h
    obtain ⟨b12, σ13, e14, h⟩ := bp_s h
    refine V_callV_v (n9 := 0) (c := 11) (r := (RJ6, TJ6, 3)) [pR a0] (v_J6_removeLast l G hst _ e14) rfl rfl (lw_V q1264 q1265 q1266 q85 q1267) (by decide +kernel) (by decide) (Nat.le_of_ble_eq_true rfl) (gk_k e11 rfl) rfl dX1_undo_23 ?_
    obtain ⟨e15, e16, h⟩ := bd_s h
    refine V_ckC (c := 1) e16 q133 rfl (Or.inl rfl) dX1_undo_26 ?_
    obtain ⟨σ17, e18, h⟩ := bd_s h
    refine V_wrR gw_X1_10 (okF_obj _ rfl) rfl rfl e18 dX1_undo_29 ?_
    refine V_aload_n (i := 0) 0 dX1_undo_32 rfl rfl ?_
    obtain ⟨b19, e20, h⟩ := bd_s h
    refine V_rdR gf_X1_19 rfl rfl rfl e20 dX1_undo_33 ?_
    obtain ⟨e21, e22, h⟩ := bd_s h
    obtain ⟨y23, σ24, e25, h⟩ := bp_s h
    refine V_callV_v (n9 := 0) (c := 11) (r := (RJ6, TJ6, 3)) [] (v_J6_size l G hst _ e25) rfl rfl (lw_V q908 q909 q910 q85 q911) (by decide +kernel) (by decide) (Nat.le_of_ble_eq_true rfl) (gk_k e22 rfl) rfl dX1_undo_36 ?_
    cases h
    exact V_iret rfl dX1_undo_39
  · subst e7
    replace h := ex_r h
    cases h
    exact VX_out (by decide)
def f_X1_undo (σ : Hp) (a0 : Nat) : Option (Ex Int32 × Hp) :=
  bd (rdR σ 1 a0 11) fun b1 => bd (gk σ 12 b1) fun e3 => bp (f_J6_isEmpty σ b1) fun y5 σ6 => if y5 = (0 : Int32) then (f_X1_undo_15 σ6 a0 (1 : Int32)) else (f_X1_undo_15 σ6 a0 (0 : Int32))
set_option maxHeartbeats 4000000 in
theorem v_X1_undo (l : Launch) (G : Gx) (hst : l.stackTraces = false) (S : Ms) {σ σe : Hp} {a0 : Nat} {r : Ex Int32} (h : f_X1_undo σ a0 = some (r, σe)) : MT l G yX1_undo (ws_ yX1_undo cX1_undo 1 (some .int)) 7 120 [pR a0] σ S (tOI r) σe S := by
  refine MT_of (own := RX1) (nL := 1) (ini := false) (by decide +kernel) rfl (Nat.le_of_ble_eq_true rfl) (fun h => by cases h) hst ?_
  show VV_X1_undo l G σ (tOI r) σe S 0 [(0, pR a0)] [] σ S
  unfold f_X1_undo at h
  refine V_aload_n (i := 0) 0 dX1_undo_0 rfl rfl ?_
  obtain ⟨b1, e2, h⟩ := bd_s h
  refine V_rdR gf_X1_19 rfl rfl rfl e2 dX1_undo_1 ?_
  obtain ⟨e3, e4, h⟩ := bd_s h
  obtain ⟨y5, σ6, e7, h⟩ := bp_s h
  refine V_callV_v (n9 := 0) (c := 11) (r := (RJ6, TJ6, 3)) [] (v_J6_isEmpty l G hst _ e7) rfl rfl (lw_V q1260 q1261 q1262 q85 q1263) (by decide +kernel) (by decide) (Nat.le_of_ble_eq_true rfl) (gk_k e4 rfl) rfl dX1_undo_4 ?_
  refine V_if_ne 14 dX1_undo_7 (by decide) (fun c8 => ?_) (fun c8 => ?_)
  · replace h := it_f c8 h
    refine V_iconst (v := 0) dX1_undo_14 (by decide) ?_
    refine V_sub [0] rfl ?_
    exact v_X1_undo_15 hst h
  · replace h := it_t c8 h
    refine V_iconst (v := 1) dX1_undo_10 (by decide) ?_
    refine V_goto 15 dX1_undo_11 (by decide) ?_
    refine V_sub [0] rfl ?_
    exact v_X1_undo_15 hst h

abbrev VV_X0_undo (l : Launch) (G : Gx) (σ0 : Hp) (o : Oc) (σe : Hp) (Se : Ms) := V l G RX0 cX0_undo 3 (some .int) (tableOf [(0, 8, 11, 15)]) false 8 140 σ0 o σe Se
def f_X0_undo (σ : Hp) (a0 : Nat) (a1 : Nat) : Option (Int32 × Hp) :=
  bd (gk σ 1 a0) fun e1 => bp (f_X1_undo σ a0) fun r3 σ4 => ex r3 (fun y6 => bd (stI σ4 103 a1 (0 : Int32) y6) fun σ10 => some ((0 : Int32), σ10)) (fun e8 => if e8.1 = "java/lang/IllegalStateException" then some ((1 : Int32), σ4) else none)
set_option maxHeartbeats 4000000 in
theorem v_X0_undo (l : Launch) (G : Gx) (hst : l.stackTraces = false) (S : Ms) {σ σe : Hp} {a0 : Nat} {a1 : Nat} {r : Int32} (h : f_X0_undo σ a0 a1 = some (r, σe)) : MT l G yX0_undo (wsW_ yX0_undo cX0_undo 3 (some .int) [(0, 8, 11, 15)]) 8 140 [pR a0, pR a1] σ S (.inl (some (pI r))) σe S := by
  refine MT_ofH (own := RX0) (nL := 3) (ini := false) (by decide +kernel) rfl (Nat.le_of_ble_eq_true rfl) (fun h => by cases h) hst ?_
  show VV_X0_undo l G σ (.inl (some (pI r))) σe S 0 [(0, pR a0), (1, pR a1)] [] σ S
  unfold f_X0_undo at h
  refine V_aload_n (i := 1) 1 dX0_undo_0 rfl rfl ?_
  refine V_iconst (v := 0) dX0_undo_1 (by decide) ?_
  refine V_aload_n (i := 0) 0 dX0_undo_2 rfl rfl ?_
  obtain ⟨e1, e2, h⟩ := bd_s h
  obtain ⟨r3, σ4, e5, h⟩ := bp_s h
  refine V_callVxI (n9 := 0) (c := 0) (r := (RX1, TX1, 4)) [pI (0 : Int32), pR a1] (v_X1_undo l G hst _ e5) rfl rfl (lw_V q1256 q1257 q1258 q76 q1259) (by decide +kernel) (by decide) (Nat.le_of_ble_eq_true rfl) (gk_k e2 rfl) rfl dX0_undo_3 (fun y6 e7 => ?_) (fun e8 e9 => ?_)
  · subst e7
    replace h := ex_l h
    refine V_i2l dX0_undo_6 ?_
    obtain ⟨σ10, e11, h⟩ := bd_s h
    refine V_stI3 e11 dX0_undo_7 ?_
    refine V_goto 14 dX0_undo_8 (by decide) ?_
    refine V_iconst (v := 0) dX0_undo_14 (by decide) ?_
    cases h
    exact V_iret rfl dX0_undo_15
  · subst e9
    replace h := ex_r h
    by_cases e12 : e8.1 = "java/lang/IllegalStateException"
    · replace h := (if_pos e12).symm.trans h
      rw [e12]
      refine VX_catch (E := "java/lang/IllegalStateException") (nm := "java/lang/IllegalStateException") (tableOf []) ⟨0, 8, 11, 15⟩ (tableOf []) rfl (fun y hy => by cases hy) (by decide) (by decide) q868 (by decide +kernel) ?_
      refine V_astore_n (i := 2) (L' := [(2, pR (e8.2)), (0, pR a0), (1, pR a1)]) dX0_undo_11 rfl (by decide) rfl ?_
      refine V_iconst (v := 1) dX0_undo_12 (by decide) ?_
      cases h
      exact V_iret rfl dX0_undo_13
    replace h := (if_neg e12).symm.trans h
    cases h

abbrev VV_X1_keep (l : Launch) (G : Gx) (σ0 : Hp) (o : Oc) (σe : Hp) (Se : Ms) := V l G RX1 cX1_keep 2 (some .int) [] false 9 255 σ0 o σe Se
def f_X1_keep (σ : Hp) (a0 : Nat) (x1 : Int32) : Option (Ex Int32 × Hp) :=
  bd (f_X1_isIn x1 (0 : Int32) (1 : Int32)) fun y1 => bp (f_X1_require σ y1) fun r3 σ4 => ex r3 (fun e6 => bd (rdR σ4 1 a0 12) fun b10 => bd (rdR σ4 1 a0 10) fun b12 => bd (gk σ4 2 b12) fun e14 => bp (f_X2_copy σ4 b12) fun b16 σ17 => bd (stR σ17 106 b10 x1 b16) fun σ19 => bd (rdR σ19 1 a0 10) fun b21 => bd (rdR σ19 2 b21 20) fun b23 => bd (gk σ19 10 b23) fun e25 => bp (f_J2_size σ19 b23) fun y27 σ28 => some (.inl y27, σ28)) (fun e8 => some (.inr e8, σ4))
set_option maxHeartbeats 4000000 in
theorem v_X1_keep (l : Launch) (G : Gx) (hst : l.stackTraces = false) (S : Ms) {σ σe : Hp} {a0 : Nat} {x1 : Int32} {r : Ex Int32} (h : f_X1_keep σ a0 x1 = some (r, σe)) : MT l G yX1_keep (ws_ yX1_keep cX1_keep 2 (some .int)) 9 255 [pR a0, pI x1] σ S (tOI r) σe S := by
  refine MT_of (own := RX1) (nL := 2) (ini := false) (by decide +kernel) rfl (Nat.le_of_ble_eq_true rfl) (fun h => by cases h) hst ?_
  show VV_X1_keep l G σ (tOI r) σe S 0 [(0, pR a0), (1, pI x1)] [] σ S
  unfold f_X1_keep at h
  refine V_iload_n (i := 1) 1 dX1_keep_0 rfl rfl ?_
  refine V_iconst (v := 0) dX1_keep_1 (by decide) ?_
  refine V_iconst (v := 1) dX1_keep_2 (by decide) ?_
  obtain ⟨y1, e2, h⟩ := bd_s h
  refine V_callS_v (n9 := 3) [] (v_X1_isIn l G hst _ _ e2) rfl rfl (lw_S q874 q754 q76 q755) (by decide +kernel) (by decide) (Nat.le_of_ble_eq_true rfl) dX1_keep_3 ?_
  obtain ⟨r3, σ4, e5, h⟩ := bp_s h
  refine V_callSxV (n9 := 1) [] (v_X1_require l G hst _ e5) rfl rfl (lw_S q875 q876 q76 q877) (by decide +kernel) (by decide) (Nat.le_of_ble_eq_true rfl) dX1_keep_6 (fun e6 e7 => ?_) (fun e8 e9 => ?_)
  · subst e7
    replace h := ex_l h
    refine V_aload_n (i := 0) 0 dX1_keep_9 rfl rfl ?_
    obtain ⟨b10, e11, h⟩ := bd_s h
    refine V_rdR gf_X1_23 rfl rfl rfl e11 dX1_keep_10 ?_
    refine V_iload_n (i := 1) 1 dX1_keep_13 rfl rfl ?_
    refine V_aload_n (i := 0) 0 dX1_keep_14 rfl rfl ?_
    obtain ⟨b12, e13, h⟩ := bd_s h
    refine V_rdR gf_X1_10 rfl rfl rfl e13 dX1_keep_15 ?_
    obtain ⟨e14, e15, h⟩ := bd_s h
    obtain ⟨b16, σ17, e18, h⟩ := bp_s h
    refine V_callV_v (n9 := 0) (c := 1) (r := (RX2, TX2, 7)) [pI x1, pR b10] (v_X2_copy l G hst _ e18) rfl rfl (lw_V q929 q930 q931 q77 q932) (by decide +kernel) (by decide) (Nat.le_of_ble_eq_true rfl) (gk_k e15 rfl) rfl dX1_keep_18 ?_
    obtain ⟨σ19, e20, h⟩ := bd_s h
    refine V_stR6 e20 dX1_keep_21 ?_
    refine V_aload_n (i := 0) 0 dX1_keep_22 rfl rfl ?_
    obtain ⟨b21, e22, h⟩ := bd_s h
    refine V_rdR gf_X1_10 rfl rfl rfl e22 dX1_keep_23 ?_
    obtain ⟨b23, e24, h⟩ := bd_s h
    refine V_rdR gf_X1_59 rfl rfl rfl e24 dX1_keep_26 ?_
    obtain ⟨e25, e26, h⟩ := bd_s h
    obtain ⟨y27, σ28, e29, h⟩ := bp_s h
    refine V_callV_v (n9 := 0) (c := 9) (r := (RJ2, TJ2, 3)) [] (v_J2_size l G hst _ e29) rfl rfl (lw_V q860 q861 q862 q80 q863) (by decide +kernel) (by decide) (Nat.le_of_ble_eq_true rfl) (gk_k e26 rfl) rfl dX1_keep_29 ?_
    cases h
    exact V_iret rfl dX1_keep_32
  · subst e9
    replace h := ex_r h
    cases h
    exact VX_out (by decide)

abbrev VV_X0_keep (l : Launch) (G : Gx) (σ0 : Hp) (o : Oc) (σe : Hp) (Se : Ms) := V l G RX0 cX0_keep 4 (some .int) (tableOf [(0, 9, 12, 13)]) false 10 276 σ0 o σe Se
def f_X0_keep (σ : Hp) (a0 : Nat) (x1 : Int32) (a2 : Nat) : Option (Int32 × Hp) :=
  bd (gk σ 1 a0) fun e1 => bp (f_X1_keep σ a0 x1) fun r3 σ4 => ex r3 (fun y6 => bd (stI σ4 103 a2 (0 : Int32) y6) fun σ10 => some ((0 : Int32), σ10)) (fun e8 => if e8.1 = "java/lang/IllegalArgumentException" then some ((1 : Int32), σ4) else none)
set_option maxHeartbeats 4000000 in
theorem v_X0_keep (l : Launch) (G : Gx) (hst : l.stackTraces = false) (S : Ms) {σ σe : Hp} {a0 : Nat} {x1 : Int32} {a2 : Nat} {r : Int32} (h : f_X0_keep σ a0 x1 a2 = some (r, σe)) : MT l G yX0_keep (wsW_ yX0_keep cX0_keep 4 (some .int) [(0, 9, 12, 13)]) 10 276 [pR a0, pI x1, pR a2] σ S (.inl (some (pI r))) σe S := by
  refine MT_ofH (own := RX0) (nL := 4) (ini := false) (by decide +kernel) rfl (Nat.le_of_ble_eq_true rfl) (fun h => by cases h) hst ?_
  show VV_X0_keep l G σ (.inl (some (pI r))) σe S 0 [(0, pR a0), (1, pI x1), (2, pR a2)] [] σ S
  unfold f_X0_keep at h
  refine V_aload_n (i := 2) 2 dX0_keep_0 rfl rfl ?_
  refine V_iconst (v := 0) dX0_keep_1 (by decide) ?_
  refine V_aload_n (i := 0) 0 dX0_keep_2 rfl rfl ?_
  refine V_iload_n (i := 1) 1 dX0_keep_3 rfl rfl ?_
  obtain ⟨e1, e2, h⟩ := bd_s h
  obtain ⟨r3, σ4, e5, h⟩ := bp_s h
  refine V_callVxI (n9 := 1) (c := 0) (r := (RX1, TX1, 4)) [pI (0 : Int32), pR a2] (v_X1_keep l G hst _ e5) rfl rfl (lw_V q1278 q1279 q1280 q76 q1281) (by decide +kernel) (by decide) (Nat.le_of_ble_eq_true rfl) (gk_k e2 rfl) rfl dX0_keep_4 (fun y6 e7 => ?_) (fun e8 e9 => ?_)
  · subst e7
    replace h := ex_l h
    refine V_i2l dX0_keep_7 ?_
    obtain ⟨σ10, e11, h⟩ := bd_s h
    refine V_stI3 e11 dX0_keep_8 ?_
    refine V_goto 15 dX0_keep_9 (by decide) ?_
    refine V_iconst (v := 0) dX0_keep_15 (by decide) ?_
    cases h
    exact V_iret rfl dX0_keep_16
  · subst e9
    replace h := ex_r h
    by_cases e12 : e8.1 = "java/lang/IllegalArgumentException"
    · replace h := (if_pos e12).symm.trans h
      rw [e12]
      refine VX_catch (E := "java/lang/IllegalArgumentException") (nm := "java/lang/IllegalArgumentException") (tableOf []) ⟨0, 9, 12, 13⟩ (tableOf []) rfl (fun y hy => by cases hy) (by decide) (by decide) q867 (by decide +kernel) ?_
      refine V_astore_n (i := 3) (L' := [(3, pR (e8.2)), (0, pR a0), (1, pI x1), (2, pR a2)]) dX0_keep_12 rfl (by decide) rfl ?_
      refine V_iconst (v := 1) dX0_keep_13 (by decide) ?_
      cases h
      exact V_iret rfl dX0_keep_14
    replace h := (if_neg e12).symm.trans h
    cases h

abbrev VV_X1_goBack (l : Launch) (G : Gx) (σ0 : Hp) (o : Oc) (σe : Hp) (Se : Ms) := V l G RX1 cX1_goBack 2 (some .int) [] false 10 275 σ0 o σe Se
def f_X1_goBack_23 (σ : Hp) (a0 : Nat) (x1 : Int32) (s0 : Int32) : Option (Ex Int32 × Hp) :=
  bp (f_X1_allow σ s0) fun r1 σ2 => ex r1 (fun e4 => bd (gk σ2 1 a0) fun e8 => bp (f_X1_save σ2 a0) fun e10 σ11 => bd (rdR σ11 1 a0 12) fun b13 => bd (elR σ11 106 b13 x1) fun b15 => bd (gk σ11 2 b15) fun e17 => bp (f_X2_copy σ11 b15) fun b19 σ20 => bd (wrR σ20 1 a0 10 b19) fun σ22 => bd (rdR σ22 1 a0 10) fun b24 => bd (rdR σ22 2 b24 20) fun b26 => bd (gk σ22 10 b26) fun e28 => bp (f_J2_size σ22 b26) fun y30 σ31 => some (.inl y30, σ31)) (fun e6 => some (.inr e6, σ2))
set_option maxHeartbeats 4000000 in
theorem v_X1_goBack_23 {l : Launch} {G : Gx} (hst : l.stackTraces = false) {σ0 σe : Hp} {Se : Ms} {r : Ex Int32} {σ : Hp} {a0 : Nat} {x1 : Int32} {s0 : Int32} (h : f_X1_goBack_23 σ a0 x1 s0 = some (r, σe)) : VV_X1_goBack l G σ0 (tOI r) σe Se 23 [(0, pR a0), (1, pI x1)] [pI s0] σ Se := by
  unfold f_X1_goBack_23 at h
  obtain ⟨r1, σ2, e3, h⟩ := bp_s h
  refine V_callSxV (n9 := 1) [] (v_X1_allow l G hst _ e3) rfl rfl (lw_S q886 q887 q76 q888) (by decide +kernel) (by decide) (Nat.le_of_ble_eq_true rfl) dX1_goBack_23 (fun e4 e5 => ?_) (fun e6 e7 => ?_)
  · subst e5
    replace h := ex_l h
    refine V_aload_n (i := 0) 0 dX1_goBack_26 rfl rfl ?_
    obtain ⟨e8, e9, h⟩ := bd_s h
    obtain ⟨e10, σ11, e12, h⟩ := bp_s h
    refine V_callV_0 (n9 := 0) (c := 0) (r := (RX1, TX1, 4)) [] (v_X1_save l G hst _ e12) rfl rfl (lw_V q904 q906 qs10 q76 q907) (by decide +kernel) (by decide) (Nat.le_of_ble_eq_true rfl) (gk_k e9 rfl) rfl dX1_goBack_27 ?_
    refine V_aload_n (i := 0) 0 dX1_goBack_30 rfl rfl ?_
    refine V_aload_n (i := 0) 0 dX1_goBack_31 rfl rfl ?_
    obtain ⟨b13, e14, h⟩ := bd_s h
    refine V_rdR gf_X1_23 rfl rfl rfl e14 dX1_goBack_32 ?_
    refine V_iload_n (i := 1) 1 dX1_goBack_35 rfl rfl ?_
    obtain ⟨b15, e16, h⟩ := bd_s h
    refine V_elR6 e16 dX1_goBack_36 ?_
    obtain ⟨e17, e18, h⟩ := bd_s h
    obtain ⟨b19, σ20, e21, h⟩ := bp_s h
    refine V_callV_v (n9 := 0) (c := 1) (r := (RX2, TX2, 7)) [pR a0] (v_X2_copy l G hst _ e21) rfl rfl (lw_V q929 q930 q931 q77 q932) (by decide +kernel) (by decide) (Nat.le_of_ble_eq_true rfl) (gk_k e18 rfl) rfl dX1_goBack_37 ?_
    obtain ⟨σ22, e23, h⟩ := bd_s h
    refine V_wrR gw_X1_10 (okF_obj _ rfl) rfl rfl e23 dX1_goBack_40 ?_
    refine V_aload_n (i := 0) 0 dX1_goBack_43 rfl rfl ?_
    obtain ⟨b24, e25, h⟩ := bd_s h
    refine V_rdR gf_X1_10 rfl rfl rfl e25 dX1_goBack_44 ?_
    obtain ⟨b26, e27, h⟩ := bd_s h
    refine V_rdR gf_X1_59 rfl rfl rfl e27 dX1_goBack_47 ?_
    obtain ⟨e28, e29, h⟩ := bd_s h
    obtain ⟨y30, σ31, e32, h⟩ := bp_s h
    refine V_callV_v (n9 := 0) (c := 9) (r := (RJ2, TJ2, 3)) [] (v_J2_size l G hst _ e32) rfl rfl (lw_V q860 q861 q862 q80 q863) (by decide +kernel) (by decide) (Nat.le_of_ble_eq_true rfl) (gk_k e29 rfl) rfl dX1_goBack_50 ?_
    cases h
    exact V_iret rfl dX1_goBack_53
  · subst e7
    replace h := ex_r h
    cases h
    exact VX_out (by decide)
def f_X1_goBack (σ : Hp) (a0 : Nat) (x1 : Int32) : Option (Ex Int32 × Hp) :=
  bd (f_X1_isIn x1 (0 : Int32) (1 : Int32)) fun y1 => bp (f_X1_require σ y1) fun r3 σ4 => ex r3 (fun e6 => bd (rdR σ4 1 a0 12) fun b10 => bd (elR σ4 106 b10 x1) fun b12 => if b12 = 0 then (f_X1_goBack_23 σ4 a0 x1 (0 : Int32)) else (f_X1_goBack_23 σ4 a0 x1 (1 : Int32))) (fun e8 => some (.inr e8, σ4))
set_option maxHeartbeats 4000000 in
theorem v_X1_goBack (l : Launch) (G : Gx) (hst : l.stackTraces = false) (S : Ms) {σ σe : Hp} {a0 : Nat} {x1 : Int32} {r : Ex Int32} (h : f_X1_goBack σ a0 x1 = some (r, σe)) : MT l G yX1_goBack (ws_ yX1_goBack cX1_goBack 2 (some .int)) 10 275 [pR a0, pI x1] σ S (tOI r) σe S := by
  refine MT_of (own := RX1) (nL := 2) (ini := false) (by decide +kernel) rfl (Nat.le_of_ble_eq_true rfl) (fun h => by cases h) hst ?_
  show VV_X1_goBack l G σ (tOI r) σe S 0 [(0, pR a0), (1, pI x1)] [] σ S
  unfold f_X1_goBack at h
  refine V_iload_n (i := 1) 1 dX1_goBack_0 rfl rfl ?_
  refine V_iconst (v := 0) dX1_goBack_1 (by decide) ?_
  refine V_iconst (v := 1) dX1_goBack_2 (by decide) ?_
  obtain ⟨y1, e2, h⟩ := bd_s h
  refine V_callS_v (n9 := 3) [] (v_X1_isIn l G hst _ _ e2) rfl rfl (lw_S q874 q754 q76 q755) (by decide +kernel) (by decide) (Nat.le_of_ble_eq_true rfl) dX1_goBack_3 ?_
  obtain ⟨r3, σ4, e5, h⟩ := bp_s h
  refine V_callSxV (n9 := 1) [] (v_X1_require l G hst _ e5) rfl rfl (lw_S q875 q876 q76 q877) (by decide +kernel) (by decide) (Nat.le_of_ble_eq_true rfl) dX1_goBack_6 (fun e6 e7 => ?_) (fun e8 e9 => ?_)
  · subst e7
    replace h := ex_l h
    refine V_aload_n (i := 0) 0 dX1_goBack_9 rfl rfl ?_
    obtain ⟨b10, e11, h⟩ := bd_s h
    refine V_rdR gf_X1_23 rfl rfl rfl e11 dX1_goBack_10 ?_
    refine V_iload_n (i := 1) 1 dX1_goBack_13 rfl rfl ?_
    obtain ⟨b12, e13, h⟩ := bd_s h
    refine V_elR6 e13 dX1_goBack_14 ?_
    refine V_ifnull 22 dX1_goBack_15 (by decide) (fun c14 => ?_) (fun c14 => ?_)
    · replace h := it_t c14 h
      refine V_iconst (v := 0) dX1_goBack_22 (by decide) ?_
      refine V_sub [0, 1] rfl ?_
      exact v_X1_goBack_23 hst h
    · replace h := it_f c14 h
      refine V_iconst (v := 1) dX1_goBack_18 (by decide) ?_
      refine V_goto 23 dX1_goBack_19 (by decide) ?_
      refine V_sub [0, 1] rfl ?_
      exact v_X1_goBack_23 hst h
  · subst e9
    replace h := ex_r h
    cases h
    exact VX_out (by decide)

abbrev VV_X0_goBack (l : Launch) (G : Gx) (σ0 : Hp) (o : Oc) (σe : Hp) (Se : Ms) := V l G RX0 cX0_goBack 4 (some .int) (tableOf [(0, 9, 12, 13), (0, 9, 15, 15)]) false 11 296 σ0 o σe Se
def f_X0_goBack (σ : Hp) (a0 : Nat) (x1 : Int32) (a2 : Nat) : Option (Int32 × Hp) :=
  bd (gk σ 1 a0) fun e1 => bp (f_X1_goBack σ a0 x1) fun r3 σ4 => ex r3 (fun y6 => bd (stI σ4 103 a2 (0 : Int32) y6) fun σ10 => some ((0 : Int32), σ10)) (fun e8 => if e8.1 = "java/lang/IllegalArgumentException" then some ((1 : Int32), σ4) else if e8.1 = "java/lang/IllegalStateException" then some ((2 : Int32), σ4) else none)
set_option maxHeartbeats 4000000 in
theorem v_X0_goBack (l : Launch) (G : Gx) (hst : l.stackTraces = false) (S : Ms) {σ σe : Hp} {a0 : Nat} {x1 : Int32} {a2 : Nat} {r : Int32} (h : f_X0_goBack σ a0 x1 a2 = some (r, σe)) : MT l G yX0_goBack (wsW_ yX0_goBack cX0_goBack 4 (some .int) [(0, 9, 12, 13), (0, 9, 15, 15)]) 11 296 [pR a0, pI x1, pR a2] σ S (.inl (some (pI r))) σe S := by
  refine MT_ofH (own := RX0) (nL := 4) (ini := false) (by decide +kernel) rfl (Nat.le_of_ble_eq_true rfl) (fun h => by cases h) hst ?_
  show VV_X0_goBack l G σ (.inl (some (pI r))) σe S 0 [(0, pR a0), (1, pI x1), (2, pR a2)] [] σ S
  unfold f_X0_goBack at h
  refine V_aload_n (i := 2) 2 dX0_goBack_0 rfl rfl ?_
  refine V_iconst (v := 0) dX0_goBack_1 (by decide) ?_
  refine V_aload_n (i := 0) 0 dX0_goBack_2 rfl rfl ?_
  refine V_iload_n (i := 1) 1 dX0_goBack_3 rfl rfl ?_
  obtain ⟨e1, e2, h⟩ := bd_s h
  obtain ⟨r3, σ4, e5, h⟩ := bp_s h
  refine V_callVxI (n9 := 1) (c := 0) (r := (RX1, TX1, 4)) [pI (0 : Int32), pR a2] (v_X1_goBack l G hst _ e5) rfl rfl (lw_V q1285 q1286 q1287 q76 q1288) (by decide +kernel) (by decide) (Nat.le_of_ble_eq_true rfl) (gk_k e2 rfl) rfl dX0_goBack_4 (fun y6 e7 => ?_) (fun e8 e9 => ?_)
  · subst e7
    replace h := ex_l h
    refine V_i2l dX0_goBack_7 ?_
    obtain ⟨σ10, e11, h⟩ := bd_s h
    refine V_stI3 e11 dX0_goBack_8 ?_
    refine V_goto 18 dX0_goBack_9 (by decide) ?_
    refine V_iconst (v := 0) dX0_goBack_18 (by decide) ?_
    cases h
    exact V_iret rfl dX0_goBack_19
  · subst e9
    replace h := ex_r h
    by_cases e12 : e8.1 = "java/lang/IllegalArgumentException"
    · replace h := (if_pos e12).symm.trans h
      rw [e12]
      refine VX_catch (E := "java/lang/IllegalArgumentException") (nm := "java/lang/IllegalArgumentException") (tableOf []) ⟨0, 9, 12, 13⟩ (tableOf [(0, 9, 15, 15)]) rfl (fun y hy => by cases hy) (by decide) (by decide) q867 (by decide +kernel) ?_
      refine V_astore_n (i := 3) (L' := [(3, pR (e8.2)), (0, pR a0), (1, pI x1), (2, pR a2)]) dX0_goBack_12 rfl (by decide) rfl ?_
      refine V_iconst (v := 1) dX0_goBack_13 (by decide) ?_
      cases h
      exact V_iret rfl dX0_goBack_14
    replace h := (if_neg e12).symm.trans h
    by_cases e13 : e8.1 = "java/lang/IllegalStateException"
    · replace h := (if_pos e13).symm.trans h
      rw [e13]
      refine VX_catch (E := "java/lang/IllegalStateException") (nm := "java/lang/IllegalStateException") (tableOf [(0, 9, 12, 13)]) ⟨0, 9, 15, 15⟩ (tableOf []) rfl (hp_1 (Or.inr ⟨by decide, "java/lang/IllegalArgumentException", q867, by decide +kernel⟩)) (by decide) (by decide) q868 (by decide +kernel) ?_
      refine V_astore_n (i := 3) (L' := [(3, pR (e8.2)), (0, pR a0), (1, pI x1), (2, pR a2)]) dX0_goBack_15 rfl (by decide) rfl ?_
      refine V_iconst (v := 2) dX0_goBack_16 (by decide) ?_
      cases h
      exact V_iret rfl dX0_goBack_17
    replace h := (if_neg e13).symm.trans h
    cases h

abbrev VV_X1_blockOf (l : Launch) (G : Gx) (σ0 : Hp) (o : Oc) (σe : Hp) (Se : Ms) := V l G RX1 cX1_blockOf 6 (some .int) [] false 8 141 σ0 o σe Se
def f_X1_blockOf_178 (σ : Hp) (x4 : Int32) : Option (Ex Int32 × Hp) :=
  some (.inl x4, σ)
set_option maxHeartbeats 4000000 in
theorem v_X1_blockOf_178 {l : Launch} {G : Gx} (hst : l.stackTraces = false) {σ0 σe : Hp} {Se : Ms} {r : Ex Int32} {σ : Hp} {x4 : Int32} (h : f_X1_blockOf_178 σ x4 = some (r, σe)) : VV_X1_blockOf l G σ0 (tOI r) σe Se 178 [(4, pI x4)] [] σ Se := by
  unfold f_X1_blockOf_178 at h
  refine V_iload (i := 4) 0 dX1_blockOf_178 rfl ?_
  cases h
  exact V_iret rfl dX1_blockOf_180
def f_X1_blockOf_170 (k105 : Hp → Int32 → Int32 → Nat → Nat → Option (Ex Int32 × Hp)) (σ : Hp) (x5 : Int32) (a3 : Nat) (a0 : Nat) (s0 : Int32) : Option (Ex Int32 × Hp) :=
  k105 σ (x5 + (1 : Int32)) s0 a3 a0
set_option maxHeartbeats 4000000 in
theorem v_X1_blockOf_170 {l : Launch} {G : Gx} (hst : l.stackTraces = false) {σ0 σe : Hp} {Se : Ms} {r : Ex Int32} {k105 : Hp → Int32 → Int32 → Nat → Nat → Option (Ex Int32 × Hp)} (hk105 : ∀ (σ : Hp) (x5 : Int32) (x4 : Int32) (a3 : Nat) (a0 : Nat), k105 σ x5 x4 a3 a0 = some (r, σe) → VV_X1_blockOf l G σ0 (tOI r) σe Se 105 [(5, pI x5), (4, pI x4), (3, pR a3), (0, pR a0)] [] σ Se) {σ : Hp} {x5 : Int32} {a3 : Nat} {a0 : Nat} {s0 : Int32} (h : f_X1_blockOf_170 k105 σ x5 a3 a0 s0 = some (r, σe)) : VV_X1_blockOf l G σ0 (tOI r) σe Se 170 [(5, pI x5), (3, pR a3), (0, pR a0)] [pI s0] σ Se := by
  unfold f_X1_blockOf_170 at h
  refine V_istore (i := 4) (L' := [(4, pI s0), (5, pI x5), (3, pR a3), (0, pR a0)]) dX1_blockOf_170 (by decide) rfl ?_
  refine V_iinc (v := (x5 + (1 : Int32))) (L' := [(5, pI (x5 + (1 : Int32))), (4, pI s0), (3, pR a3), (0, pR a0)]) 1 dX1_blockOf_172 rfl rfl (by decide) rfl ?_
  refine V_goto 105 dX1_blockOf_175 (by decide) ?_
  refine V_sub [0, 1, 2, 3] rfl ?_
  exact hk105 _ _ _ _ _ h
def f_X1_blockOf_105_b (k105 : Hp → Int32 → Int32 → Nat → Nat → Option (Ex Int32 × Hp)) (σ : Hp) (x5 : Int32) (x4 : Int32) (a3 : Nat) (a0 : Nat) : Option (Ex Int32 × Hp) :=
  bd (gk σ 3 a3) fun e1 => bp (f_X4_isFree σ a3) fun y3 σ4 => if y3 = (0 : Int32) then (bd (rdR σ4 1 a0 10) fun b7 => bd (rdR σ4 2 b7 21) fun b9 => bd (rdI σ4 3 a3 35) fun y11 => bd (gk σ4 10 b9) fun e13 => bp (f_J2_get σ4 b9 y11) fun b15 σ16 => bd (ckC σ16 10 b15) fun e18 => bd (gk σ16 10 b15) fun e20 => bp (f_J2_size σ16 b15) fun y22 σ23 => if y22 ≤ x5 then (f_X1_blockOf_178 σ23 x4) else (bd (rdR σ23 1 a0 10) fun b26 => bd (rdR σ23 2 b26 21) fun b28 => bd (rdI σ23 3 a3 35) fun y30 => bd (gk σ23 10 b28) fun e32 => bp (f_J2_get σ23 b28 y30) fun b34 σ35 => bd (ckC σ35 10 b34) fun e37 => bd (gk σ35 10 b34) fun e39 => bp (f_J2_get σ35 b34 x5) fun b41 σ42 => if b41 = a3 then (f_X1_blockOf_170 k105 σ42 x5 a3 a0 x5) else (f_X1_blockOf_170 k105 σ42 x5 a3 a0 x4))) else (f_X1_blockOf_178 σ4 x4)
set_option maxHeartbeats 4000000 in
theorem v_X1_blockOf_105_b {l : Launch} {G : Gx} (hst : l.stackTraces = false) {σ0 σe : Hp} {Se : Ms} {r : Ex Int32} {k105 : Hp → Int32 → Int32 → Nat → Nat → Option (Ex Int32 × Hp)} (hk105 : ∀ (σ : Hp) (x5 : Int32) (x4 : Int32) (a3 : Nat) (a0 : Nat), k105 σ x5 x4 a3 a0 = some (r, σe) → VV_X1_blockOf l G σ0 (tOI r) σe Se 105 [(5, pI x5), (4, pI x4), (3, pR a3), (0, pR a0)] [] σ Se) {σ : Hp} {x5 : Int32} {x4 : Int32} {a3 : Nat} {a0 : Nat} (h : f_X1_blockOf_105_b k105 σ x5 x4 a3 a0 = some (r, σe)) : VV_X1_blockOf l G σ0 (tOI r) σe Se 105 [(5, pI x5), (4, pI x4), (3, pR a3), (0, pR a0)] [] σ Se := by
  unfold f_X1_blockOf_105_b at h
  refine V_aload_n (i := 3) 2 dX1_blockOf_105 rfl rfl ?_
  obtain ⟨e1, e2, h⟩ := bd_s h
  obtain ⟨y3, σ4, e5, h⟩ := bp_s h
  refine V_callV_v (n9 := 0) (c := 2) (r := (RX4, TX4, 6)) [] (v_X4_isFree l G hst _ e5) rfl rfl (lw_V q1055 q1056 q1057 q98 q1058) (by decide +kernel) (by decide) (Nat.le_of_ble_eq_true rfl) (gk_k e2 rfl) rfl dX1_blockOf_106 ?_
  refine V_if_ne 178 dX1_blockOf_109 (by decide) (fun c6 => ?_) (fun c6 => ?_)
  · replace h := it_f c6 h
    refine V_sub [1] rfl ?_
    exact v_X1_blockOf_178 hst h
  · replace h := it_t c6 h
    refine V_iload (i := 5) 0 dX1_blockOf_112 rfl ?_
    refine V_aload_n (i := 0) 3 dX1_blockOf_114 rfl rfl ?_
    obtain ⟨b7, e8, h⟩ := bd_s h
    refine V_rdR gf_X1_10 rfl rfl rfl e8 dX1_blockOf_115 ?_
    obtain ⟨b9, e10, h⟩ := bd_s h
    refine V_rdR gf_X1_133 rfl rfl rfl e10 dX1_blockOf_118 ?_
    refine V_aload_n (i := 3) 2 dX1_blockOf_121 rfl rfl ?_
    obtain ⟨y11, e12, h⟩ := bd_s h
    refine V_rdI gf_X1_199 rfl rfl rfl e12 dX1_blockOf_122 ?_
    obtain ⟨e13, e14, h⟩ := bd_s h
    obtain ⟨b15, σ16, e17, h⟩ := bp_s h
    refine V_callV_v (n9 := 1) (c := 9) (r := (RJ2, TJ2, 3)) [pI x5] (v_J2_get l G hst _ e17) rfl rfl (lw_V q1054 q937 q938 q80 q939) (by decide +kernel) (by decide) (Nat.le_of_ble_eq_true rfl) (gk_k e14 rfl) rfl dX1_blockOf_125 ?_
    obtain ⟨e18, e19, h⟩ := bd_s h
    refine V_ckC (c := 9) e19 q1161 rfl (Or.inl rfl) dX1_blockOf_128 ?_
    obtain ⟨e20, e21, h⟩ := bd_s h
    obtain ⟨y22, σ23, e24, h⟩ := bp_s h
    refine V_callV_v (n9 := 0) (c := 9) (r := (RJ2, TJ2, 3)) [pI x5] (v_J2_size l G hst _ e24) rfl rfl (lw_V q860 q861 q862 q80 q863) (by decide +kernel) (by decide) (Nat.le_of_ble_eq_true rfl) (gk_k e21 rfl) rfl dX1_blockOf_131 ?_
    refine V_icmp_ge 178 dX1_blockOf_134 (by decide) (fun c25 => ?_) (fun c25 => ?_)
    · replace h := it_t c25 h
      refine V_sub [1] rfl ?_
      exact v_X1_blockOf_178 hst h
    · replace h := it_f c25 h
      refine V_aload_n (i := 0) 3 dX1_blockOf_137 rfl rfl ?_
      obtain ⟨b26, e27, h⟩ := bd_s h
      refine V_rdR gf_X1_10 rfl rfl rfl e27 dX1_blockOf_138 ?_
      obtain ⟨b28, e29, h⟩ := bd_s h
      refine V_rdR gf_X1_133 rfl rfl rfl e29 dX1_blockOf_141 ?_
      refine V_aload_n (i := 3) 2 dX1_blockOf_144 rfl rfl ?_
      obtain ⟨y30, e31, h⟩ := bd_s h
      refine V_rdI gf_X1_199 rfl rfl rfl e31 dX1_blockOf_145 ?_
      obtain ⟨e32, e33, h⟩ := bd_s h
      obtain ⟨b34, σ35, e36, h⟩ := bp_s h
      refine V_callV_v (n9 := 1) (c := 9) (r := (RJ2, TJ2, 3)) [] (v_J2_get l G hst _ e36) rfl rfl (lw_V q1054 q937 q938 q80 q939) (by decide +kernel) (by decide) (Nat.le_of_ble_eq_true rfl) (gk_k e33 rfl) rfl dX1_blockOf_148 ?_
      obtain ⟨e37, e38, h⟩ := bd_s h
      refine V_ckC (c := 9) e38 q1161 rfl (Or.inl rfl) dX1_blockOf_151 ?_
      refine V_iload (i := 5) 0 dX1_blockOf_154 rfl ?_
      obtain ⟨e39, e40, h⟩ := bd_s h
      obtain ⟨b41, σ42, e43, h⟩ := bp_s h
      refine V_callV_v (n9 := 1) (c := 9) (r := (RJ2, TJ2, 3)) [] (v_J2_get l G hst _ e43) rfl rfl (lw_V q1054 q937 q938 q80 q939) (by decide +kernel) (by decide) (Nat.le_of_ble_eq_true rfl) (gk_k e40 rfl) rfl dX1_blockOf_156 ?_
      refine V_aload_n (i := 3) 2 dX1_blockOf_159 rfl rfl ?_
      refine V_acmp_ne 168 dX1_blockOf_160 (by decide) (fun c44 => ?_) (fun c44 => ?_)
      · replace h := it_f c44 h
        refine V_iload (i := 4) 1 dX1_blockOf_168 rfl ?_
        refine V_sub [0, 2, 3] rfl ?_
        exact v_X1_blockOf_170 hst hk105 h
      · replace h := it_t c44 h
        refine V_iload (i := 5) 0 dX1_blockOf_163 rfl ?_
        refine V_goto 170 dX1_blockOf_165 (by decide) ?_
        refine V_sub [0, 2, 3] rfl ?_
        exact v_X1_blockOf_170 hst hk105 h
def f_X1_blockOf_105 : Nat → Hp → Int32 → Int32 → Nat → Nat → Option (Ex Int32 × Hp)
  | 0, _, _, _, _, _ => none
  | n + 1, σ, x5, x4, a3, a0 => f_X1_blockOf_105_b (f_X1_blockOf_105 n) σ x5 x4 a3 a0
theorem v_X1_blockOf_105 {l : Launch} {G : Gx} (hst : l.stackTraces = false) {σ0 σe : Hp} {Se : Ms} {r : Ex Int32} : ∀ (n : Nat) (σ : Hp) (x5 : Int32) (x4 : Int32) (a3 : Nat) (a0 : Nat), f_X1_blockOf_105 n σ x5 x4 a3 a0 = some (r, σe) → VV_X1_blockOf l G σ0 (tOI r) σe Se 105 [(5, pI x5), (4, pI x4), (3, pR a3), (0, pR a0)] [] σ Se
  | 0, _, _, _, _, _, h => by cases h
  | n + 1, _, _, _, _, _, h => v_X1_blockOf_105_b hst (v_X1_blockOf_105 hst n) h
def f_X1_blockOf (σ : Hp) (a0 : Nat) (x1 : Int32) (x2 : Int32) : Option (Ex Int32 × Hp) :=
  bd (gk σ 1 a0) fun e1 => bp (f_X1_blockAt σ a0 x1) fun r3 σ4 => ex r3 (fun b6 => if x2 = (0 : Int32) then (bd (rdI σ4 3 b6 30) fun y11 => some (.inl y11, σ4)) else (if x2 = (1 : Int32) then (bd (gk σ4 3 b6) fun e14 => bp (f_X4_error σ4 b6) fun y16 σ17 => some (.inl (y16 + (10000 : Int32)), σ17)) else (if x2 = (2 : Int32) then (bd (rdI σ4 3 b6 32) fun y20 => some (.inl y20, σ4)) else (if x2 = (3 : Int32) then (bd (rdI σ4 3 b6 33) fun y23 => some (.inl y23, σ4)) else (if x2 = (4 : Int32) then (bd (gk σ4 3 b6) fun e26 => bp (f_X4_grade σ4 b6) fun y28 σ29 => some (.inl y28, σ29)) else (if x2 = (5 : Int32) then (bd (rdI σ4 3 b6 33) fun y32 => bd (gk σ4 3 b6) fun e34 => bp (f_X4_lengthAt σ4 b6 y32) fun y36 σ37 => some (.inl y36, σ37)) else (if x2 = (6 : Int32) then (bd (rdI σ4 3 b6 35) fun y40 => some (.inl y40, σ4)) else (if x2 = (7 : Int32) then (f_X1_blockOf_105 FU σ4 (0 : Int32) (-1 : Int32) b6 a0) else (if x2 = (8 : Int32) then (bd (rdI σ4 3 b6 34) fun y44 => some (.inl y44, σ4)) else (some (.inr ("java/lang/IllegalArgumentException", hN σ4), nX σ4 6))))))))))) (fun e8 => some (.inr e8, σ4))
set_option maxHeartbeats 4000000 in
theorem v_X1_blockOf (l : Launch) (G : Gx) (hst : l.stackTraces = false) (S : Ms) {σ σe : Hp} {a0 : Nat} {x1 : Int32} {x2 : Int32} {r : Ex Int32} (h : f_X1_blockOf σ a0 x1 x2 = some (r, σe)) : MT l G yX1_blockOf (ws_ yX1_blockOf cX1_blockOf 6 (some .int)) 8 141 [pR a0, pI x1, pI x2] σ S (tOI r) σe S := by
  refine MT_of (own := RX1) (nL := 6) (ini := false) (by decide +kernel) rfl (Nat.le_of_ble_eq_true rfl) (fun h => by cases h) hst ?_
  show VV_X1_blockOf l G σ (tOI r) σe S 0 [(0, pR a0), (1, pI x1), (2, pI x2)] [] σ S
  unfold f_X1_blockOf at h
  refine V_aload_n (i := 0) 0 dX1_blockOf_0 rfl rfl ?_
  refine V_iload_n (i := 1) 1 dX1_blockOf_1 rfl rfl ?_
  obtain ⟨e1, e2, h⟩ := bd_s h
  obtain ⟨r3, σ4, e5, h⟩ := bp_s h
  refine V_callVxR (n9 := 1) (c := 0) (r := (RX1, TX1, 4)) [] (v_X1_blockAt l G hst _ e5) rfl rfl (lw_V q1032 q1034 qs13 q76 q1035) (by decide +kernel) (by decide) (Nat.le_of_ble_eq_true rfl) (gk_k e2 rfl) rfl dX1_blockOf_2 (fun b6 e7 => ?_) (fun e8 e9 => ?_)
  · subst e7
    replace h := ex_l h
    refine V_astore_n (i := 3) (L' := [(3, pR b6), (0, pR a0), (1, pI x1), (2, pI x2)]) dX1_blockOf_5 rfl (by decide) rfl ?_
    refine V_iload_n (i := 2) 3 dX1_blockOf_6 rfl rfl ?_
    by_cases c10 : x2 = (0 : Int32)
    · replace h := it_t c10 h
      refine V_tableIn 56 dX1_blockOf_7 (by rw [c10]; decide) (by rw [c10]; decide) (by rw [c10]; first | done | rfl) (by decide) ?_
      refine V_aload_n (i := 3) 0 dX1_blockOf_56 rfl rfl ?_
      obtain ⟨y11, e12, h⟩ := bd_s h
      refine V_rdI gf_X1_187 rfl rfl rfl e12 dX1_blockOf_57 ?_
      cases h
      exact V_iret rfl dX1_blockOf_60
    · replace h := it_f c10 h
      by_cases c13 : x2 = (1 : Int32)
      · replace h := it_t c13 h
        refine V_tableIn 61 dX1_blockOf_7 (by rw [c13]; decide) (by rw [c13]; decide) (by rw [c13]; first | done | rfl) (by decide) ?_
        refine V_aload_n (i := 3) 0 dX1_blockOf_61 rfl rfl ?_
        obtain ⟨e14, e15, h⟩ := bd_s h
        obtain ⟨y16, σ17, e18, h⟩ := bp_s h
        refine V_callV_v (n9 := 0) (c := 2) (r := (RX4, TX4, 6)) [] (v_X4_error l G hst _ e18) rfl rfl (lw_V q849 q850 q851 q98 q852) (by decide +kernel) (by decide) (Nat.le_of_ble_eq_true rfl) (gk_k e15 rfl) rfl dX1_blockOf_62 ?_
        refine V_sipush (v := 10000) dX1_blockOf_65 (by decide) ?_
        refine V_iadd dX1_blockOf_68 ?_
        cases h
        exact V_iret rfl dX1_blockOf_69
      · replace h := it_f c13 h
        by_cases c19 : x2 = (2 : Int32)
        · replace h := it_t c19 h
          refine V_tableIn 70 dX1_blockOf_7 (by rw [c19]; decide) (by rw [c19]; decide) (by rw [c19]; first | done | rfl) (by decide) ?_
          refine V_aload_n (i := 3) 0 dX1_blockOf_70 rfl rfl ?_
          obtain ⟨y20, e21, h⟩ := bd_s h
          refine V_rdI gf_X1_193 rfl rfl rfl e21 dX1_blockOf_71 ?_
          cases h
          exact V_iret rfl dX1_blockOf_74
        · replace h := it_f c19 h
          by_cases c22 : x2 = (3 : Int32)
          · replace h := it_t c22 h
            refine V_tableIn 75 dX1_blockOf_7 (by rw [c22]; decide) (by rw [c22]; decide) (by rw [c22]; first | done | rfl) (by decide) ?_
            refine V_aload_n (i := 3) 0 dX1_blockOf_75 rfl rfl ?_
            obtain ⟨y23, e24, h⟩ := bd_s h
            refine V_rdI gf_X1_115 rfl rfl rfl e24 dX1_blockOf_76 ?_
            cases h
            exact V_iret rfl dX1_blockOf_79
          · replace h := it_f c22 h
            by_cases c25 : x2 = (4 : Int32)
            · replace h := it_t c25 h
              refine V_tableIn 80 dX1_blockOf_7 (by rw [c25]; decide) (by rw [c25]; decide) (by rw [c25]; first | done | rfl) (by decide) ?_
              refine V_aload_n (i := 3) 0 dX1_blockOf_80 rfl rfl ?_
              obtain ⟨e26, e27, h⟩ := bd_s h
              obtain ⟨y28, σ29, e30, h⟩ := bp_s h
              refine V_callV_v (n9 := 0) (c := 2) (r := (RX4, TX4, 6)) [] (v_X4_grade l G hst _ e30) rfl rfl (lw_V q1081 q1082 q1083 q98 q1084) (by decide +kernel) (by decide) (Nat.le_of_ble_eq_true rfl) (gk_k e27 rfl) rfl dX1_blockOf_81 ?_
              cases h
              exact V_iret rfl dX1_blockOf_84
            · replace h := it_f c25 h
              by_cases c31 : x2 = (5 : Int32)
              · replace h := it_t c31 h
                refine V_tableIn 85 dX1_blockOf_7 (by rw [c31]; decide) (by rw [c31]; decide) (by rw [c31]; first | done | rfl) (by decide) ?_
                refine V_aload_n (i := 3) 0 dX1_blockOf_85 rfl rfl ?_
                refine V_aload_n (i := 3) 0 dX1_blockOf_86 rfl rfl ?_
                obtain ⟨y32, e33, h⟩ := bd_s h
                refine V_rdI gf_X1_115 rfl rfl rfl e33 dX1_blockOf_87 ?_
                obtain ⟨e34, e35, h⟩ := bd_s h
                obtain ⟨y36, σ37, e38, h⟩ := bp_s h
                refine V_callV_v (n9 := 1) (c := 2) (r := (RX4, TX4, 6)) [] (v_X4_lengthAt l G hst _ e38) rfl rfl (lw_V q1296 q1297 q1298 q98 q1299) (by decide +kernel) (by decide) (Nat.le_of_ble_eq_true rfl) (gk_k e35 rfl) rfl dX1_blockOf_90 ?_
                cases h
                exact V_iret rfl dX1_blockOf_93
              · replace h := it_f c31 h
                by_cases c39 : x2 = (6 : Int32)
                · replace h := it_t c39 h
                  refine V_tableIn 94 dX1_blockOf_7 (by rw [c39]; decide) (by rw [c39]; decide) (by rw [c39]; first | done | rfl) (by decide) ?_
                  refine V_aload_n (i := 3) 0 dX1_blockOf_94 rfl rfl ?_
                  obtain ⟨y40, e41, h⟩ := bd_s h
                  refine V_rdI gf_X1_199 rfl rfl rfl e41 dX1_blockOf_95 ?_
                  cases h
                  exact V_iret rfl dX1_blockOf_98
                · replace h := it_f c39 h
                  by_cases c42 : x2 = (7 : Int32)
                  · replace h := it_t c42 h
                    refine V_tableIn 99 dX1_blockOf_7 (by rw [c42]; decide) (by rw [c42]; decide) (by rw [c42]; first | done | rfl) (by decide) ?_
                    refine V_iconst (v := (-1)) dX1_blockOf_99 (by decide) ?_
                    refine V_istore (i := 4) (L' := [(4, pI (-1 : Int32)), (3, pR b6), (0, pR a0), (1, pI x1), (2, pI x2)]) dX1_blockOf_100 (by decide) rfl ?_
                    refine V_iconst (v := 0) dX1_blockOf_102 (by decide) ?_
                    refine V_istore (i := 5) (L' := [(5, pI (0 : Int32)), (4, pI (-1 : Int32)), (3, pR b6), (0, pR a0), (1, pI x1), (2, pI x2)]) dX1_blockOf_103 (by decide) rfl ?_
                    refine V_sub [0, 1, 2, 3] rfl ?_
                    exact v_X1_blockOf_105 hst FU _ _ _ _ _ h
                  · replace h := it_f c42 h
                    by_cases c43 : x2 = (8 : Int32)
                    · replace h := it_t c43 h
                      refine V_tableIn 181 dX1_blockOf_7 (by rw [c43]; decide) (by rw [c43]; decide) (by rw [c43]; first | done | rfl) (by decide) ?_
                      refine V_aload_n (i := 3) 0 dX1_blockOf_181 rfl rfl ?_
                      obtain ⟨y44, e45, h⟩ := bd_s h
                      refine V_rdI gf_X1_202 rfl rfl rfl e45 dX1_blockOf_182 ?_
                      cases h
                      exact V_iret rfl dX1_blockOf_185
                    · replace h := it_f c43 h
                      refine V_tableOut 186 dX1_blockOf_7 (by have z0 := ne_int (a := 0) c10 (by decide); have z1 := ne_int (a := 1) c13 (by decide); have z2 := ne_int (a := 2) c19 (by decide); have z3 := ne_int (a := 3) c22 (by decide); have z4 := ne_int (a := 4) c25 (by decide); have z5 := ne_int (a := 5) c31 (by decide); have z6 := ne_int (a := 6) c39 (by decide); have z7 := ne_int (a := 7) c42 (by decide); have z8 := ne_int (a := 8) c43 (by decide); omega) (by decide) ?_
                      cases h
                      exact V_throw0 (E := "java/lang/IllegalArgumentException") (names := ["java/lang/RuntimeException", "java/lang/Exception"]) (by decide +kernel) (by decide +kernel) q878 q94 hat_IllegalArgumentException hgo_IllegalArgumentException (by decide) dX1_blockOf_186 dX1_blockOf_189 dX1_blockOf_190 dX1_blockOf_193 (by decide) (Nat.le_of_ble_eq_true rfl)
  · subst e9
    replace h := ex_r h
    cases h
    exact VX_out (by decide)

abbrev VV_X0_blockOf (l : Launch) (G : Gx) (σ0 : Hp) (o : Oc) (σe : Hp) (Se : Ms) := V l G RX0 cX0_blockOf 5 (some .int) (tableOf [(0, 10, 13, 21), (0, 10, 17, 13)]) false 9 166 σ0 o σe Se
def f_X0_blockOf (σ : Hp) (a0 : Nat) (x1 : Int32) (x2 : Int32) (a3 : Nat) : Option (Int32 × Hp) :=
  bd (gk σ 1 a0) fun e1 => bp (f_X1_blockOf σ a0 x1 x2) fun r3 σ4 => ex r3 (fun y6 => bd (stI σ4 103 a3 (0 : Int32) y6) fun σ10 => some ((0 : Int32), σ10)) (fun e8 => if e8.1 = "java/lang/IndexOutOfBoundsException" then some ((1 : Int32), σ4) else if e8.1 = "java/lang/IllegalArgumentException" then some ((2 : Int32), σ4) else none)
set_option maxHeartbeats 4000000 in
theorem v_X0_blockOf (l : Launch) (G : Gx) (hst : l.stackTraces = false) (S : Ms) {σ σe : Hp} {a0 : Nat} {x1 : Int32} {x2 : Int32} {a3 : Nat} {r : Int32} (h : f_X0_blockOf σ a0 x1 x2 a3 = some (r, σe)) : MT l G yX0_blockOf (wsW_ yX0_blockOf cX0_blockOf 5 (some .int) [(0, 10, 13, 21), (0, 10, 17, 13)]) 9 166 [pR a0, pI x1, pI x2, pR a3] σ S (.inl (some (pI r))) σe S := by
  refine MT_ofH (own := RX0) (nL := 5) (ini := false) (by decide +kernel) rfl (Nat.le_of_ble_eq_true rfl) (fun h => by cases h) hst ?_
  show VV_X0_blockOf l G σ (.inl (some (pI r))) σe S 0 [(0, pR a0), (1, pI x1), (2, pI x2), (3, pR a3)] [] σ S
  unfold f_X0_blockOf at h
  refine V_aload_n (i := 3) 3 dX0_blockOf_0 rfl rfl ?_
  refine V_iconst (v := 0) dX0_blockOf_1 (by decide) ?_
  refine V_aload_n (i := 0) 0 dX0_blockOf_2 rfl rfl ?_
  refine V_iload_n (i := 1) 1 dX0_blockOf_3 rfl rfl ?_
  refine V_iload_n (i := 2) 2 dX0_blockOf_4 rfl rfl ?_
  obtain ⟨e1, e2, h⟩ := bd_s h
  obtain ⟨r3, σ4, e5, h⟩ := bp_s h
  refine V_callVxI (n9 := 2) (c := 0) (r := (RX1, TX1, 4)) [pI (0 : Int32), pR a3] (v_X1_blockOf l G hst _ e5) rfl rfl (lw_V q1292 q1293 q1294 q76 q1295) (by decide +kernel) (by decide) (Nat.le_of_ble_eq_true rfl) (gk_k e2 rfl) rfl dX0_blockOf_5 (fun y6 e7 => ?_) (fun e8 e9 => ?_)
  · subst e7
    replace h := ex_l h
    refine V_i2l dX0_blockOf_8 ?_
    obtain ⟨σ10, e11, h⟩ := bd_s h
    refine V_stI3 e11 dX0_blockOf_9 ?_
    refine V_goto 21 dX0_blockOf_10 (by decide) ?_
    refine V_iconst (v := 0) dX0_blockOf_21 (by decide) ?_
    cases h
    exact V_iret rfl dX0_blockOf_22
  · subst e9
    replace h := ex_r h
    by_cases e12 : e8.1 = "java/lang/IndexOutOfBoundsException"
    · replace h := (if_pos e12).symm.trans h
      rw [e12]
      refine VX_catch (E := "java/lang/IndexOutOfBoundsException") (nm := "java/lang/IndexOutOfBoundsException") (tableOf []) ⟨0, 10, 13, 21⟩ (tableOf [(0, 10, 17, 13)]) rfl (fun y hy => by cases hy) (by decide) (by decide) q1025 (by decide +kernel) ?_
      refine V_astore (i := 4) (L' := [(4, pR (e8.2)), (0, pR a0), (1, pI x1), (2, pI x2), (3, pR a3)]) dX0_blockOf_13 (by decide) rfl ?_
      refine V_iconst (v := 1) dX0_blockOf_15 (by decide) ?_
      cases h
      exact V_iret rfl dX0_blockOf_16
    replace h := (if_neg e12).symm.trans h
    by_cases e13 : e8.1 = "java/lang/IllegalArgumentException"
    · replace h := (if_pos e13).symm.trans h
      rw [e13]
      refine VX_catch (E := "java/lang/IllegalArgumentException") (nm := "java/lang/IllegalArgumentException") (tableOf [(0, 10, 13, 21)]) ⟨0, 10, 17, 13⟩ (tableOf []) rfl (hp_1 (Or.inr ⟨by decide, "java/lang/IndexOutOfBoundsException", q1025, by decide +kernel⟩)) (by decide) (by decide) q867 (by decide +kernel) ?_
      refine V_astore (i := 4) (L' := [(4, pR (e8.2)), (0, pR a0), (1, pI x1), (2, pI x2), (3, pR a3)]) dX0_blockOf_17 (by decide) rfl ?_
      refine V_iconst (v := 2) dX0_blockOf_19 (by decide) ?_
      cases h
      exact V_iret rfl dX0_blockOf_20
    replace h := (if_neg e13).symm.trans h
    cases h

abbrev VV_X1_stackOf (l : Launch) (G : Gx) (σ0 : Hp) (o : Oc) (σe : Hp) (Se : Ms) := V l G RX1 cX1_stackOf 3 (some .int) [] false 8 140 σ0 o σe Se
def f_X1_stackOf (σ : Hp) (a0 : Nat) (x1 : Int32) (x2 : Int32) : Option (Ex Int32 × Hp) :=
  bp (f_X1_checkStack σ x1) fun r1 σ2 => ex r1 (fun e4 => if x2 = (0 : Int32) then (bd (rdR σ2 1 a0 10) fun b9 => bd (rdR σ2 2 b9 21) fun b11 => bd (gk σ2 10 b11) fun e13 => bp (f_J2_get σ2 b11 x1) fun b15 σ16 => bd (ckC σ16 10 b15) fun e18 => bd (gk σ16 10 b15) fun e20 => bp (f_J2_size σ16 b15) fun y22 σ23 => some (.inl y22, σ23)) else (if x2 = (1 : Int32) then (bd (rdR σ2 1 a0 10) fun b26 => bd (gk σ2 2 b26) fun e28 => bp (f_X2_nominal σ2 b26 x1) fun y30 σ31 => some (.inl y30, σ31)) else (if x2 = (2 : Int32) then (bd (rdR σ2 1 a0 10) fun b34 => bd (gk σ2 2 b34) fun e36 => bp (f_X2_lengthIn σ2 b34 x1 (0 : Int32)) fun y38 σ39 => some (.inl y38, σ39)) else (if x2 = (3 : Int32) then (bd (rdR σ2 1 a0 10) fun b42 => bd (gk σ2 2 b42) fun e44 => bp (f_X2_blocksIn σ2 b42 x1) fun y46 σ47 => some (.inl y46, σ47)) else (if x2 = (4 : Int32) then (bd (rdR σ2 1 a0 10) fun b50 => bd (rdR σ2 1 a0 10) fun b52 => bd (gk σ2 2 b52) fun e54 => bp (f_X2_top σ2 b52 x1) fun b56 σ57 => bd (gk σ57 2 b50) fun e59 => bp (f_X2_numberOf σ57 b50 b56) fun y61 σ62 => some (.inl y61, σ62)) else (if x2 = (5 : Int32) then (bd (rdR σ2 1 a0 10) fun b65 => bd (gk σ2 2 b65) fun e67 => bp (f_X2_gradeOf σ2 b65 x1) fun y69 σ70 => some (.inl y69, σ70)) else (if x2 = (6 : Int32) then (bd (rdR σ2 1 a0 10) fun b73 => bd (gk σ2 2 b73) fun e75 => bp (f_X2_lengthIn σ2 b73 x1 (0 : Int32)) fun y77 σ78 => bd (rdR σ78 1 a0 10) fun b80 => bd (gk σ78 2 b80) fun e82 => bp (f_X2_nominal σ78 b80 x1) fun y84 σ85 => some (.inl (if 0 ≤ (y77 - ((1000 : Int32) * y84)) then (y77 - ((1000 : Int32) * y84)) else 0 - (y77 - ((1000 : Int32) * y84))), σ85)) else (some (.inr ("java/lang/IllegalArgumentException", hN σ2), nX σ2 6))))))))) (fun e6 => some (.inr e6, σ2))
set_option maxHeartbeats 4000000 in
theorem v_X1_stackOf (l : Launch) (G : Gx) (hst : l.stackTraces = false) (S : Ms) {σ σe : Hp} {a0 : Nat} {x1 : Int32} {x2 : Int32} {r : Ex Int32} (h : f_X1_stackOf σ a0 x1 x2 = some (r, σe)) : MT l G yX1_stackOf (ws_ yX1_stackOf cX1_stackOf 3 (some .int)) 8 140 [pR a0, pI x1, pI x2] σ S (tOI r) σe S := by
  refine MT_of (own := RX1) (nL := 3) (ini := false) (by decide +kernel) rfl (Nat.le_of_ble_eq_true rfl) (fun h => by cases h) hst ?_
  show VV_X1_stackOf l G σ (tOI r) σe S 0 [(0, pR a0), (1, pI x1), (2, pI x2)] [] σ S
  unfold f_X1_stackOf at h
  refine V_iload_n (i := 1) 1 dX1_stackOf_0 rfl rfl ?_
  obtain ⟨r1, σ2, e3, h⟩ := bp_s h
  refine V_callSxV (n9 := 1) [] (v_X1_checkStack l G hst _ e3) rfl rfl (lw_S q1131 q1132 q76 q1133) (by decide +kernel) (by decide) (Nat.le_of_ble_eq_true rfl) dX1_stackOf_1 (fun e4 e5 => ?_) (fun e6 e7 => ?_)
  · subst e5
    replace h := ex_l h
    refine V_iload_n (i := 2) 2 dX1_stackOf_4 rfl rfl ?_
    by_cases c8 : x2 = (0 : Int32)
    · replace h := it_t c8 h
      refine V_tableIn 48 dX1_stackOf_5 (by rw [c8]; decide) (by rw [c8]; decide) (by rw [c8]; first | done | rfl) (by decide) ?_
      refine V_aload_n (i := 0) 0 dX1_stackOf_48 rfl rfl ?_
      obtain ⟨b9, e10, h⟩ := bd_s h
      refine V_rdR gf_X1_10 rfl rfl rfl e10 dX1_stackOf_49 ?_
      obtain ⟨b11, e12, h⟩ := bd_s h
      refine V_rdR gf_X1_133 rfl rfl rfl e12 dX1_stackOf_52 ?_
      refine V_iload_n (i := 1) 1 dX1_stackOf_55 rfl rfl ?_
      obtain ⟨e13, e14, h⟩ := bd_s h
      obtain ⟨b15, σ16, e17, h⟩ := bp_s h
      refine V_callV_v (n9 := 1) (c := 9) (r := (RJ2, TJ2, 3)) [] (v_J2_get l G hst _ e17) rfl rfl (lw_V q1054 q937 q938 q80 q939) (by decide +kernel) (by decide) (Nat.le_of_ble_eq_true rfl) (gk_k e14 rfl) rfl dX1_stackOf_56 ?_
      obtain ⟨e18, e19, h⟩ := bd_s h
      refine V_ckC (c := 9) e19 q1161 rfl (Or.inl rfl) dX1_stackOf_59 ?_
      obtain ⟨e20, e21, h⟩ := bd_s h
      obtain ⟨y22, σ23, e24, h⟩ := bp_s h
      refine V_callV_v (n9 := 0) (c := 9) (r := (RJ2, TJ2, 3)) [] (v_J2_size l G hst _ e24) rfl rfl (lw_V q860 q861 q862 q80 q863) (by decide +kernel) (by decide) (Nat.le_of_ble_eq_true rfl) (gk_k e21 rfl) rfl dX1_stackOf_62 ?_
      cases h
      exact V_iret rfl dX1_stackOf_65
    · replace h := it_f c8 h
      by_cases c25 : x2 = (1 : Int32)
      · replace h := it_t c25 h
        refine V_tableIn 66 dX1_stackOf_5 (by rw [c25]; decide) (by rw [c25]; decide) (by rw [c25]; first | done | rfl) (by decide) ?_
        refine V_aload_n (i := 0) 0 dX1_stackOf_66 rfl rfl ?_
        obtain ⟨b26, e27, h⟩ := bd_s h
        refine V_rdR gf_X1_10 rfl rfl rfl e27 dX1_stackOf_67 ?_
        refine V_iload_n (i := 1) 1 dX1_stackOf_70 rfl rfl ?_
        obtain ⟨e28, e29, h⟩ := bd_s h
        obtain ⟨y30, σ31, e32, h⟩ := bp_s h
        refine V_callV_v (n9 := 1) (c := 1) (r := (RX2, TX2, 7)) [] (v_X2_nominal l G hst _ e32) rfl rfl (lw_V q1307 q1308 q1309 q77 q1310) (by decide +kernel) (by decide) (Nat.le_of_ble_eq_true rfl) (gk_k e29 rfl) rfl dX1_stackOf_71 ?_
        cases h
        exact V_iret rfl dX1_stackOf_74
      · replace h := it_f c25 h
        by_cases c33 : x2 = (2 : Int32)
        · replace h := it_t c33 h
          refine V_tableIn 75 dX1_stackOf_5 (by rw [c33]; decide) (by rw [c33]; decide) (by rw [c33]; first | done | rfl) (by decide) ?_
          refine V_aload_n (i := 0) 0 dX1_stackOf_75 rfl rfl ?_
          obtain ⟨b34, e35, h⟩ := bd_s h
          refine V_rdR gf_X1_10 rfl rfl rfl e35 dX1_stackOf_76 ?_
          refine V_iload_n (i := 1) 1 dX1_stackOf_79 rfl rfl ?_
          refine V_iconst (v := 0) dX1_stackOf_80 (by decide) ?_
          obtain ⟨e36, e37, h⟩ := bd_s h
          obtain ⟨y38, σ39, e40, h⟩ := bp_s h
          refine V_callV_v (n9 := 2) (c := 1) (r := (RX2, TX2, 7)) [] (v_X2_lengthIn l G hst _ e40) rfl rfl (lw_V q1311 q1312 q1313 q77 q1314) (by decide +kernel) (by decide) (Nat.le_of_ble_eq_true rfl) (gk_k e37 rfl) rfl dX1_stackOf_81 ?_
          cases h
          exact V_iret rfl dX1_stackOf_84
        · replace h := it_f c33 h
          by_cases c41 : x2 = (3 : Int32)
          · replace h := it_t c41 h
            refine V_tableIn 85 dX1_stackOf_5 (by rw [c41]; decide) (by rw [c41]; decide) (by rw [c41]; first | done | rfl) (by decide) ?_
            refine V_aload_n (i := 0) 0 dX1_stackOf_85 rfl rfl ?_
            obtain ⟨b42, e43, h⟩ := bd_s h
            refine V_rdR gf_X1_10 rfl rfl rfl e43 dX1_stackOf_86 ?_
            refine V_iload_n (i := 1) 1 dX1_stackOf_89 rfl rfl ?_
            obtain ⟨e44, e45, h⟩ := bd_s h
            obtain ⟨y46, σ47, e48, h⟩ := bp_s h
            refine V_callV_v (n9 := 1) (c := 1) (r := (RX2, TX2, 7)) [] (v_X2_blocksIn l G hst _ e48) rfl rfl (lw_V q1316 q1317 q1318 q77 q1319) (by decide +kernel) (by decide) (Nat.le_of_ble_eq_true rfl) (gk_k e45 rfl) rfl dX1_stackOf_90 ?_
            cases h
            exact V_iret rfl dX1_stackOf_93
          · replace h := it_f c41 h
            by_cases c49 : x2 = (4 : Int32)
            · replace h := it_t c49 h
              refine V_tableIn 94 dX1_stackOf_5 (by rw [c49]; decide) (by rw [c49]; decide) (by rw [c49]; first | done | rfl) (by decide) ?_
              refine V_aload_n (i := 0) 0 dX1_stackOf_94 rfl rfl ?_
              obtain ⟨b50, e51, h⟩ := bd_s h
              refine V_rdR gf_X1_10 rfl rfl rfl e51 dX1_stackOf_95 ?_
              refine V_aload_n (i := 0) 0 dX1_stackOf_98 rfl rfl ?_
              obtain ⟨b52, e53, h⟩ := bd_s h
              refine V_rdR gf_X1_10 rfl rfl rfl e53 dX1_stackOf_99 ?_
              refine V_iload_n (i := 1) 1 dX1_stackOf_102 rfl rfl ?_
              obtain ⟨e54, e55, h⟩ := bd_s h
              obtain ⟨b56, σ57, e58, h⟩ := bp_s h
              refine V_callV_v (n9 := 1) (c := 1) (r := (RX2, TX2, 7)) [pR b50] (v_X2_top l G hst _ e58) rfl rfl (lw_V q1320 q1145 q1146 q77 q1147) (by decide +kernel) (by decide) (Nat.le_of_ble_eq_true rfl) (gk_k e55 rfl) rfl dX1_stackOf_103 ?_
              obtain ⟨e59, e60, h⟩ := bd_s h
              obtain ⟨y61, σ62, e63, h⟩ := bp_s h
              refine V_callV_v (n9 := 1) (c := 1) (r := (RX2, TX2, 7)) [] (v_X2_numberOf l G hst _ e63) rfl rfl (lw_V q1321 q992 q993 q77 q994) (by decide +kernel) (by decide) (Nat.le_of_ble_eq_true rfl) (gk_k e60 rfl) rfl dX1_stackOf_106 ?_
              cases h
              exact V_iret rfl dX1_stackOf_109
            · replace h := it_f c49 h
              by_cases c64 : x2 = (5 : Int32)
              · replace h := it_t c64 h
                refine V_tableIn 110 dX1_stackOf_5 (by rw [c64]; decide) (by rw [c64]; decide) (by rw [c64]; first | done | rfl) (by decide) ?_
                refine V_aload_n (i := 0) 0 dX1_stackOf_110 rfl rfl ?_
                obtain ⟨b65, e66, h⟩ := bd_s h
                refine V_rdR gf_X1_10 rfl rfl rfl e66 dX1_stackOf_111 ?_
                refine V_iload_n (i := 1) 1 dX1_stackOf_114 rfl rfl ?_
                obtain ⟨e67, e68, h⟩ := bd_s h
                obtain ⟨y69, σ70, e71, h⟩ := bp_s h
                refine V_callV_v (n9 := 1) (c := 1) (r := (RX2, TX2, 7)) [] (v_X2_gradeOf l G hst _ e71) rfl rfl (lw_V q1322 q1323 q1324 q77 q1325) (by decide +kernel) (by decide) (Nat.le_of_ble_eq_true rfl) (gk_k e68 rfl) rfl dX1_stackOf_115 ?_
                cases h
                exact V_iret rfl dX1_stackOf_118
              · replace h := it_f c64 h
                by_cases c72 : x2 = (6 : Int32)
                · replace h := it_t c72 h
                  refine V_tableIn 119 dX1_stackOf_5 (by rw [c72]; decide) (by rw [c72]; decide) (by rw [c72]; first | done | rfl) (by decide) ?_
                  refine V_aload_n (i := 0) 0 dX1_stackOf_119 rfl rfl ?_
                  obtain ⟨b73, e74, h⟩ := bd_s h
                  refine V_rdR gf_X1_10 rfl rfl rfl e74 dX1_stackOf_120 ?_
                  refine V_iload_n (i := 1) 1 dX1_stackOf_123 rfl rfl ?_
                  refine V_iconst (v := 0) dX1_stackOf_124 (by decide) ?_
                  obtain ⟨e75, e76, h⟩ := bd_s h
                  obtain ⟨y77, σ78, e79, h⟩ := bp_s h
                  refine V_callV_v (n9 := 2) (c := 1) (r := (RX2, TX2, 7)) [] (v_X2_lengthIn l G hst _ e79) rfl rfl (lw_V q1311 q1312 q1313 q77 q1314) (by decide +kernel) (by decide) (Nat.le_of_ble_eq_true rfl) (gk_k e76 rfl) rfl dX1_stackOf_125 ?_
                  refine V_sipush (v := 1000) dX1_stackOf_128 (by decide) ?_
                  refine V_aload_n (i := 0) 0 dX1_stackOf_131 rfl rfl ?_
                  obtain ⟨b80, e81, h⟩ := bd_s h
                  refine V_rdR gf_X1_10 rfl rfl rfl e81 dX1_stackOf_132 ?_
                  refine V_iload_n (i := 1) 1 dX1_stackOf_135 rfl rfl ?_
                  obtain ⟨e82, e83, h⟩ := bd_s h
                  obtain ⟨y84, σ85, e86, h⟩ := bp_s h
                  refine V_callV_v (n9 := 1) (c := 1) (r := (RX2, TX2, 7)) [pI (1000 : Int32), pI y77] (v_X2_nominal l G hst _ e86) rfl rfl (lw_V q1307 q1308 q1309 q77 q1310) (by decide +kernel) (by decide) (Nat.le_of_ble_eq_true rfl) (gk_k e83 rfl) rfl dX1_stackOf_136 ?_
                  refine V_imul dX1_stackOf_139 ?_
                  refine V_isub dX1_stackOf_140 ?_
                  refine V_mabs q853 q854 q82 q855 (by decide) (Nat.le_of_ble_eq_true rfl) dX1_stackOf_141 ?_
                  cases h
                  exact V_iret rfl dX1_stackOf_144
                · replace h := it_f c72 h
                  refine V_tableOut 145 dX1_stackOf_5 (by have z0 := ne_int (a := 0) c8 (by decide); have z1 := ne_int (a := 1) c25 (by decide); have z2 := ne_int (a := 2) c33 (by decide); have z3 := ne_int (a := 3) c41 (by decide); have z4 := ne_int (a := 4) c49 (by decide); have z5 := ne_int (a := 5) c64 (by decide); have z6 := ne_int (a := 6) c72 (by decide); omega) (by decide) ?_
                  cases h
                  exact V_throw0 (E := "java/lang/IllegalArgumentException") (names := ["java/lang/RuntimeException", "java/lang/Exception"]) (by decide +kernel) (by decide +kernel) q878 q94 hat_IllegalArgumentException hgo_IllegalArgumentException (by decide) dX1_stackOf_145 dX1_stackOf_148 dX1_stackOf_149 dX1_stackOf_152 (by decide) (Nat.le_of_ble_eq_true rfl)
  · subst e7
    replace h := ex_r h
    cases h
    exact VX_out (by decide)

abbrev VV_X0_stackOf (l : Launch) (G : Gx) (σ0 : Hp) (o : Oc) (σe : Hp) (Se : Ms) := V l G RX0 cX0_stackOf 5 (some .int) (tableOf [(0, 10, 13, 21), (0, 10, 17, 13)]) false 9 162 σ0 o σe Se
def f_X0_stackOf (σ : Hp) (a0 : Nat) (x1 : Int32) (x2 : Int32) (a3 : Nat) : Option (Int32 × Hp) :=
  bd (gk σ 1 a0) fun e1 => bp (f_X1_stackOf σ a0 x1 x2) fun r3 σ4 => ex r3 (fun y6 => bd (stI σ4 103 a3 (0 : Int32) y6) fun σ10 => some ((0 : Int32), σ10)) (fun e8 => if e8.1 = "java/lang/IndexOutOfBoundsException" then some ((1 : Int32), σ4) else if e8.1 = "java/lang/IllegalArgumentException" then some ((2 : Int32), σ4) else none)
set_option maxHeartbeats 4000000 in
theorem v_X0_stackOf (l : Launch) (G : Gx) (hst : l.stackTraces = false) (S : Ms) {σ σe : Hp} {a0 : Nat} {x1 : Int32} {x2 : Int32} {a3 : Nat} {r : Int32} (h : f_X0_stackOf σ a0 x1 x2 a3 = some (r, σe)) : MT l G yX0_stackOf (wsW_ yX0_stackOf cX0_stackOf 5 (some .int) [(0, 10, 13, 21), (0, 10, 17, 13)]) 9 162 [pR a0, pI x1, pI x2, pR a3] σ S (.inl (some (pI r))) σe S := by
  refine MT_ofH (own := RX0) (nL := 5) (ini := false) (by decide +kernel) rfl (Nat.le_of_ble_eq_true rfl) (fun h => by cases h) hst ?_
  show VV_X0_stackOf l G σ (.inl (some (pI r))) σe S 0 [(0, pR a0), (1, pI x1), (2, pI x2), (3, pR a3)] [] σ S
  unfold f_X0_stackOf at h
  refine V_aload_n (i := 3) 3 dX0_stackOf_0 rfl rfl ?_
  refine V_iconst (v := 0) dX0_stackOf_1 (by decide) ?_
  refine V_aload_n (i := 0) 0 dX0_stackOf_2 rfl rfl ?_
  refine V_iload_n (i := 1) 1 dX0_stackOf_3 rfl rfl ?_
  refine V_iload_n (i := 2) 2 dX0_stackOf_4 rfl rfl ?_
  obtain ⟨e1, e2, h⟩ := bd_s h
  obtain ⟨r3, σ4, e5, h⟩ := bp_s h
  refine V_callVxI (n9 := 2) (c := 0) (r := (RX1, TX1, 4)) [pI (0 : Int32), pR a3] (v_X1_stackOf l G hst _ e5) rfl rfl (lw_V q1303 q1304 q1305 q76 q1306) (by decide +kernel) (by decide) (Nat.le_of_ble_eq_true rfl) (gk_k e2 rfl) rfl dX0_stackOf_5 (fun y6 e7 => ?_) (fun e8 e9 => ?_)
  · subst e7
    replace h := ex_l h
    refine V_i2l dX0_stackOf_8 ?_
    obtain ⟨σ10, e11, h⟩ := bd_s h
    refine V_stI3 e11 dX0_stackOf_9 ?_
    refine V_goto 21 dX0_stackOf_10 (by decide) ?_
    refine V_iconst (v := 0) dX0_stackOf_21 (by decide) ?_
    cases h
    exact V_iret rfl dX0_stackOf_22
  · subst e9
    replace h := ex_r h
    by_cases e12 : e8.1 = "java/lang/IndexOutOfBoundsException"
    · replace h := (if_pos e12).symm.trans h
      rw [e12]
      refine VX_catch (E := "java/lang/IndexOutOfBoundsException") (nm := "java/lang/IndexOutOfBoundsException") (tableOf []) ⟨0, 10, 13, 21⟩ (tableOf [(0, 10, 17, 13)]) rfl (fun y hy => by cases hy) (by decide) (by decide) q1025 (by decide +kernel) ?_
      refine V_astore (i := 4) (L' := [(4, pR (e8.2)), (0, pR a0), (1, pI x1), (2, pI x2), (3, pR a3)]) dX0_stackOf_13 (by decide) rfl ?_
      refine V_iconst (v := 1) dX0_stackOf_15 (by decide) ?_
      cases h
      exact V_iret rfl dX0_stackOf_16
    replace h := (if_neg e12).symm.trans h
    by_cases e13 : e8.1 = "java/lang/IllegalArgumentException"
    · replace h := (if_pos e13).symm.trans h
      rw [e13]
      refine VX_catch (E := "java/lang/IllegalArgumentException") (nm := "java/lang/IllegalArgumentException") (tableOf [(0, 10, 13, 21)]) ⟨0, 10, 17, 13⟩ (tableOf []) rfl (hp_1 (Or.inr ⟨by decide, "java/lang/IndexOutOfBoundsException", q1025, by decide +kernel⟩)) (by decide) (by decide) q867 (by decide +kernel) ?_
      refine V_astore (i := 4) (L' := [(4, pR (e8.2)), (0, pR a0), (1, pI x1), (2, pI x2), (3, pR a3)]) dX0_stackOf_17 (by decide) rfl ?_
      refine V_iconst (v := 2) dX0_stackOf_19 (by decide) ?_
      cases h
      exact V_iret rfl dX0_stackOf_20
    replace h := (if_neg e13).symm.trans h
    cases h

abbrev VV_X1_ranked (l : Launch) (G : Gx) (σ0 : Hp) (o : Oc) (σe : Hp) (Se : Ms) := V l G RX1 cX1_ranked 3 (some .int) [] false 10 231 σ0 o σe Se
def f_X1_ranked_18 (σ : Hp) (a0 : Nat) (x1 : Int32) (x2 : Int32) (s0 : Int32) : Option (Ex Int32 × Hp) :=
  bp (f_X1_require σ s0) fun r1 σ2 => ex r1 (fun e4 => bd (rdR σ2 1 a0 10) fun b8 => bd (gk σ2 2 b8) fun e10 => bp (f_X2_ranked σ2 b8 x1 x2) fun y12 σ13 => some (.inl y12, σ13)) (fun e6 => some (.inr e6, σ2))
set_option maxHeartbeats 4000000 in
theorem v_X1_ranked_18 {l : Launch} {G : Gx} (hst : l.stackTraces = false) {σ0 σe : Hp} {Se : Ms} {r : Ex Int32} {σ : Hp} {a0 : Nat} {x1 : Int32} {x2 : Int32} {s0 : Int32} (h : f_X1_ranked_18 σ a0 x1 x2 s0 = some (r, σe)) : VV_X1_ranked l G σ0 (tOI r) σe Se 18 [(0, pR a0), (1, pI x1), (2, pI x2)] [pI s0] σ Se := by
  unfold f_X1_ranked_18 at h
  obtain ⟨r1, σ2, e3, h⟩ := bp_s h
  refine V_callSxV (n9 := 1) [] (v_X1_require l G hst _ e3) rfl rfl (lw_S q875 q876 q76 q877) (by decide +kernel) (by decide) (Nat.le_of_ble_eq_true rfl) dX1_ranked_18 (fun e4 e5 => ?_) (fun e6 e7 => ?_)
  · subst e5
    replace h := ex_l h
    refine V_aload_n (i := 0) 0 dX1_ranked_21 rfl rfl ?_
    obtain ⟨b8, e9, h⟩ := bd_s h
    refine V_rdR gf_X1_10 rfl rfl rfl e9 dX1_ranked_22 ?_
    refine V_iload_n (i := 1) 1 dX1_ranked_25 rfl rfl ?_
    refine V_iload_n (i := 2) 2 dX1_ranked_26 rfl rfl ?_
    obtain ⟨e10, e11, h⟩ := bd_s h
    obtain ⟨y12, σ13, e14, h⟩ := bp_s h
    refine V_callV_v (n9 := 2) (c := 1) (r := (RX2, TX2, 7)) [] (v_X2_ranked l G hst _ e14) rfl rfl (lw_V q1333 q1334 q1335 q77 q1336) (by decide +kernel) (by decide) (Nat.le_of_ble_eq_true rfl) (gk_k e11 rfl) rfl dX1_ranked_27 ?_
    cases h
    exact V_iret rfl dX1_ranked_30
  · subst e7
    replace h := ex_r h
    cases h
    exact VX_out (by decide)
def f_X1_ranked_17 (σ : Hp) (a0 : Nat) (x1 : Int32) (x2 : Int32) : Option (Ex Int32 × Hp) :=
  f_X1_ranked_18 σ a0 x1 x2 (0 : Int32)
set_option maxHeartbeats 4000000 in
theorem v_X1_ranked_17 {l : Launch} {G : Gx} (hst : l.stackTraces = false) {σ0 σe : Hp} {Se : Ms} {r : Ex Int32} {σ : Hp} {a0 : Nat} {x1 : Int32} {x2 : Int32} (h : f_X1_ranked_17 σ a0 x1 x2 = some (r, σe)) : VV_X1_ranked l G σ0 (tOI r) σe Se 17 [(0, pR a0), (1, pI x1), (2, pI x2)] [] σ Se := by
  unfold f_X1_ranked_17 at h
  refine V_iconst (v := 0) dX1_ranked_17 (by decide) ?_
  refine V_sub [0, 1, 2] rfl ?_
  exact v_X1_ranked_18 hst h
def f_X1_ranked (σ : Hp) (a0 : Nat) (x1 : Int32) (x2 : Int32) : Option (Ex Int32 × Hp) :=
  bd (f_X1_isIn x1 (0 : Int32) (2 : Int32)) fun y1 => if y1 = (0 : Int32) then (f_X1_ranked_17 σ a0 x1 x2) else (if x2 < (0 : Int32) then (f_X1_ranked_17 σ a0 x1 x2) else (f_X1_ranked_18 σ a0 x1 x2 (1 : Int32)))
set_option maxHeartbeats 4000000 in
theorem v_X1_ranked (l : Launch) (G : Gx) (hst : l.stackTraces = false) (S : Ms) {σ σe : Hp} {a0 : Nat} {x1 : Int32} {x2 : Int32} {r : Ex Int32} (h : f_X1_ranked σ a0 x1 x2 = some (r, σe)) : MT l G yX1_ranked (ws_ yX1_ranked cX1_ranked 3 (some .int)) 10 231 [pR a0, pI x1, pI x2] σ S (tOI r) σe S := by
  refine MT_of (own := RX1) (nL := 3) (ini := false) (by decide +kernel) rfl (Nat.le_of_ble_eq_true rfl) (fun h => by cases h) hst ?_
  show VV_X1_ranked l G σ (tOI r) σe S 0 [(0, pR a0), (1, pI x1), (2, pI x2)] [] σ S
  unfold f_X1_ranked at h
  refine V_iload_n (i := 1) 1 dX1_ranked_0 rfl rfl ?_
  refine V_iconst (v := 0) dX1_ranked_1 (by decide) ?_
  refine V_iconst (v := 2) dX1_ranked_2 (by decide) ?_
  obtain ⟨y1, e2, h⟩ := bd_s h
  refine V_callS_v (n9 := 3) [] (v_X1_isIn l G hst _ _ e2) rfl rfl (lw_S q874 q754 q76 q755) (by decide +kernel) (by decide) (Nat.le_of_ble_eq_true rfl) dX1_ranked_3 ?_
  refine V_if_eq 17 dX1_ranked_6 (by decide) (fun c3 => ?_) (fun c3 => ?_)
  · replace h := it_t c3 h
    refine V_sub [0, 1, 2] rfl ?_
    exact v_X1_ranked_17 hst h
  · replace h := it_f c3 h
    refine V_iload_n (i := 2) 2 dX1_ranked_9 rfl rfl ?_
    refine V_if_lt 17 dX1_ranked_10 (by decide) (fun c4 => ?_) (fun c4 => ?_)
    · replace h := it_t c4 h
      refine V_sub [0, 1, 2] rfl ?_
      exact v_X1_ranked_17 hst h
    · replace h := it_f c4 h
      refine V_iconst (v := 1) dX1_ranked_13 (by decide) ?_
      refine V_goto 18 dX1_ranked_14 (by decide) ?_
      refine V_sub [0, 1, 2] rfl ?_
      exact v_X1_ranked_18 hst h

abbrev VV_X0_ranked (l : Launch) (G : Gx) (σ0 : Hp) (o : Oc) (σe : Hp) (Se : Ms) := V l G RX0 cX0_ranked 5 (some .int) (tableOf [(0, 10, 13, 13)]) false 11 253 σ0 o σe Se
def f_X0_ranked (σ : Hp) (a0 : Nat) (x1 : Int32) (x2 : Int32) (a3 : Nat) : Option (Int32 × Hp) :=
  bd (gk σ 1 a0) fun e1 => bp (f_X1_ranked σ a0 x1 x2) fun r3 σ4 => ex r3 (fun y6 => bd (stI σ4 103 a3 (0 : Int32) y6) fun σ10 => some ((0 : Int32), σ10)) (fun e8 => if e8.1 = "java/lang/IllegalArgumentException" then some ((1 : Int32), σ4) else none)
set_option maxHeartbeats 4000000 in
theorem v_X0_ranked (l : Launch) (G : Gx) (hst : l.stackTraces = false) (S : Ms) {σ σe : Hp} {a0 : Nat} {x1 : Int32} {x2 : Int32} {a3 : Nat} {r : Int32} (h : f_X0_ranked σ a0 x1 x2 a3 = some (r, σe)) : MT l G yX0_ranked (wsW_ yX0_ranked cX0_ranked 5 (some .int) [(0, 10, 13, 13)]) 11 253 [pR a0, pI x1, pI x2, pR a3] σ S (.inl (some (pI r))) σe S := by
  refine MT_ofH (own := RX0) (nL := 5) (ini := false) (by decide +kernel) rfl (Nat.le_of_ble_eq_true rfl) (fun h => by cases h) hst ?_
  show VV_X0_ranked l G σ (.inl (some (pI r))) σe S 0 [(0, pR a0), (1, pI x1), (2, pI x2), (3, pR a3)] [] σ S
  unfold f_X0_ranked at h
  refine V_aload_n (i := 3) 3 dX0_ranked_0 rfl rfl ?_
  refine V_iconst (v := 0) dX0_ranked_1 (by decide) ?_
  refine V_aload_n (i := 0) 0 dX0_ranked_2 rfl rfl ?_
  refine V_iload_n (i := 1) 1 dX0_ranked_3 rfl rfl ?_
  refine V_iload_n (i := 2) 2 dX0_ranked_4 rfl rfl ?_
  obtain ⟨e1, e2, h⟩ := bd_s h
  obtain ⟨r3, σ4, e5, h⟩ := bp_s h
  refine V_callVxI (n9 := 2) (c := 0) (r := (RX1, TX1, 4)) [pI (0 : Int32), pR a3] (v_X1_ranked l G hst _ e5) rfl rfl (lw_V q1329 q1330 q1331 q76 q1332) (by decide +kernel) (by decide) (Nat.le_of_ble_eq_true rfl) (gk_k e2 rfl) rfl dX0_ranked_5 (fun y6 e7 => ?_) (fun e8 e9 => ?_)
  · subst e7
    replace h := ex_l h
    refine V_i2l dX0_ranked_8 ?_
    obtain ⟨σ10, e11, h⟩ := bd_s h
    refine V_stI3 e11 dX0_ranked_9 ?_
    refine V_goto 17 dX0_ranked_10 (by decide) ?_
    refine V_iconst (v := 0) dX0_ranked_17 (by decide) ?_
    cases h
    exact V_iret rfl dX0_ranked_18
  · subst e9
    replace h := ex_r h
    by_cases e12 : e8.1 = "java/lang/IllegalArgumentException"
    · replace h := (if_pos e12).symm.trans h
      rw [e12]
      refine VX_catch (E := "java/lang/IllegalArgumentException") (nm := "java/lang/IllegalArgumentException") (tableOf []) ⟨0, 10, 13, 13⟩ (tableOf []) rfl (fun y hy => by cases hy) (by decide) (by decide) q867 (by decide +kernel) ?_
      refine V_astore (i := 4) (L' := [(4, pR (e8.2)), (0, pR a0), (1, pI x1), (2, pI x2), (3, pR a3)]) dX0_ranked_13 (by decide) rfl ?_
      refine V_iconst (v := 1) dX0_ranked_15 (by decide) ?_
      cases h
      exact V_iret rfl dX0_ranked_16
    replace h := (if_neg e12).symm.trans h
    cases h

abbrev VV_X1_lengths (l : Launch) (G : Gx) (σ0 : Hp) (o : Oc) (σe : Hp) (Se : Ms) := V l G RX1 cX1_lengths 6 (some .int) [] false 10 236 σ0 o σe Se
def f_X1_lengths_44_b (k44 : Hp → Nat → Int32 → Int32 → Option (Ex Int32 × Hp)) (σ : Hp) (a4 : Nat) (x3 : Int32) (x1 : Int32) : Option (Ex Int32 × Hp) :=
  bd (gk σ 18 a4) fun e1 => bp (f_J33_hasNext σ a4) fun y3 σ4 => if y3 = (0 : Int32) then (some (.inl (-1 : Int32), σ4)) else (bd (gk σ4 18 a4) fun e7 => bp (f_J34_next σ4 a4) fun b9 σ10 => bd (ckC σ10 19 b9) fun e12 => bd (gk σ10 19 b9) fun e14 => bp (f_J23_intValue σ10 b9) fun y16 σ17 => if x3 = x1 then (some (.inl y16, σ17)) else (k44 σ17 a4 (x3 + (1 : Int32)) x1))
set_option maxHeartbeats 4000000 in
theorem v_X1_lengths_44_b {l : Launch} {G : Gx} (hst : l.stackTraces = false) {σ0 σe : Hp} {Se : Ms} {r : Ex Int32} {k44 : Hp → Nat → Int32 → Int32 → Option (Ex Int32 × Hp)} (hk44 : ∀ (σ : Hp) (a4 : Nat) (x3 : Int32) (x1 : Int32), k44 σ a4 x3 x1 = some (r, σe) → VV_X1_lengths l G σ0 (tOI r) σe Se 44 [(4, pR a4), (3, pI x3), (1, pI x1)] [] σ Se) {σ : Hp} {a4 : Nat} {x3 : Int32} {x1 : Int32} (h : f_X1_lengths_44_b k44 σ a4 x3 x1 = some (r, σe)) : VV_X1_lengths l G σ0 (tOI r) σe Se 44 [(4, pR a4), (3, pI x3), (1, pI x1)] [] σ Se := by
  unfold f_X1_lengths_44_b at h
  refine V_aload (i := 4) 0 dX1_lengths_44 rfl ?_
  obtain ⟨e1, e2, h⟩ := bd_s h
  obtain ⟨y3, σ4, e5, h⟩ := bp_s h
  refine V_callF_v (n9 := 0) (c := 17) (r := (RJ34, TJ34, 4)) (x := ⟨"java/util/Iterator", "hasNext", "()Z"⟩) [] (v_J33_hasNext l G hst _ e5) rfl rfl (lw_app (lw_F4 q806 q816 q818 q122) (lw_meth q820)) (by decide +kernel) (by decide +kernel) (by decide) (Nat.le_of_ble_eq_true rfl) (gk_k e2 rfl) rfl dX1_lengths_46 ?_
  refine V_if_eq 83 dX1_lengths_51 (by decide) (fun c6 => ?_) (fun c6 => ?_)
  · replace h := it_t c6 h
    refine V_iconst (v := (-1)) dX1_lengths_83 (by decide) ?_
    cases h
    exact V_iret rfl dX1_lengths_84
  · replace h := it_f c6 h
    refine V_aload (i := 4) 0 dX1_lengths_54 rfl ?_
    obtain ⟨e7, e8, h⟩ := bd_s h
    obtain ⟨b9, σ10, e11, h⟩ := bp_s h
    refine V_callF_v (n9 := 0) (c := 17) (r := (RJ34, TJ34, 4)) (x := ⟨"java/util/Iterator", "next", "()Ljava/lang/Object;"⟩) [] (v_J34_next l G hst _ e11) rfl rfl (lw_app (lw_F4 q822 q834 q836 q123) (lw_meth q838)) (by decide +kernel) (by decide +kernel) (by decide) (Nat.le_of_ble_eq_true rfl) (gk_k e8 rfl) rfl dX1_lengths_56 ?_
    obtain ⟨e12, e13, h⟩ := bd_s h
    refine V_ckC (c := 18) e13 q1908 rfl (Or.inl rfl) dX1_lengths_61 ?_
    obtain ⟨e14, e15, h⟩ := bd_s h
    obtain ⟨y16, σ17, e18, h⟩ := bp_s h
    refine V_callV_v (n9 := 0) (c := 18) (r := (RJ23, TJ23, 1)) [] (v_J23_intValue l G hst _ e18) rfl rfl (lw_V q1909 q1761 q1762 q105 q1763) (by decide +kernel) (by decide) (Nat.le_of_ble_eq_true rfl) (gk_k e15 rfl) rfl dX1_lengths_64 ?_
    refine V_istore (i := 5) (L' := [(5, pI y16), (4, pR a4), (3, pI x3), (1, pI x1)]) dX1_lengths_67 (by decide) rfl ?_
    refine V_iload_n (i := 3) 2 dX1_lengths_69 rfl rfl ?_
    refine V_iload_n (i := 1) 3 dX1_lengths_70 rfl rfl ?_
    refine V_icmp_ne 77 dX1_lengths_71 (by decide) (fun c19 => ?_) (fun c19 => ?_)
    · replace h := it_f c19 h
      refine V_iinc (v := (x3 + (1 : Int32))) (L' := [(3, pI (x3 + (1 : Int32))), (5, pI y16), (4, pR a4), (1, pI x1)]) 2 dX1_lengths_77 rfl rfl (by decide) rfl ?_
      refine V_goto 44 dX1_lengths_80 (by decide) ?_
      refine V_sub [2, 0, 3] rfl ?_
      exact hk44 _ _ _ _ h
    · replace h := it_t c19 h
      refine V_iload (i := 5) 0 dX1_lengths_74 rfl ?_
      cases h
      exact V_iret rfl dX1_lengths_76
def f_X1_lengths_44 : Nat → Hp → Nat → Int32 → Int32 → Option (Ex Int32 × Hp)
  | 0, _, _, _, _ => none
  | n + 1, σ, a4, x3, x1 => f_X1_lengths_44_b (f_X1_lengths_44 n) σ a4 x3 x1
theorem v_X1_lengths_44 {l : Launch} {G : Gx} (hst : l.stackTraces = false) {σ0 σe : Hp} {Se : Ms} {r : Ex Int32} : ∀ (n : Nat) (σ : Hp) (a4 : Nat) (x3 : Int32) (x1 : Int32), f_X1_lengths_44 n σ a4 x3 x1 = some (r, σe) → VV_X1_lengths l G σ0 (tOI r) σe Se 44 [(4, pR a4), (3, pI x3), (1, pI x1)] [] σ Se
  | 0, _, _, _, _, h => by cases h
  | n + 1, _, _, _, _, h => v_X1_lengths_44_b hst (v_X1_lengths_44 hst n) h
def f_X1_lengths_10 (σ : Hp) (a0 : Nat) (x1 : Int32) (s0 : Int32) : Option (Ex Int32 × Hp) :=
  bp (f_X1_require σ s0) fun r1 σ2 => ex r1 (fun e4 => bd (rdR σ2 1 a0 10) fun b8 => bd (gk σ2 2 b8) fun e10 => bp (f_X2_byLength σ2 b8) fun b12 σ13 => if x1 = (-1 : Int32) then (bd (gk σ13 15 b12) fun e26 => bp (f_J29_size σ13 b12) fun y28 σ29 => some (.inl y28, σ29)) else (bd (gk σ13 15 b12) fun e16 => bp (f_J29_keySet σ13 b12) fun b18 σ19 => bd (gk σ19 17 b18) fun e21 => bp (f_J32_iterator σ19 b18) fun b23 σ24 => f_X1_lengths_44 FU σ24 b23 (0 : Int32) x1)) (fun e6 => some (.inr e6, σ2))
set_option maxHeartbeats 4000000 in
theorem v_X1_lengths_10 {l : Launch} {G : Gx} (hst : l.stackTraces = false) {σ0 σe : Hp} {Se : Ms} {r : Ex Int32} {σ : Hp} {a0 : Nat} {x1 : Int32} {s0 : Int32} (h : f_X1_lengths_10 σ a0 x1 s0 = some (r, σe)) : VV_X1_lengths l G σ0 (tOI r) σe Se 10 [(0, pR a0), (1, pI x1)] [pI s0] σ Se := by
  unfold f_X1_lengths_10 at h
  obtain ⟨r1, σ2, e3, h⟩ := bp_s h
  refine V_callSxV (n9 := 1) [] (v_X1_require l G hst _ e3) rfl rfl (lw_S q875 q876 q76 q877) (by decide +kernel) (by decide) (Nat.le_of_ble_eq_true rfl) dX1_lengths_10 (fun e4 e5 => ?_) (fun e6 e7 => ?_)
  · subst e5
    replace h := ex_l h
    refine V_aload_n (i := 0) 0 dX1_lengths_13 rfl rfl ?_
    obtain ⟨b8, e9, h⟩ := bd_s h
    refine V_rdR gf_X1_10 rfl rfl rfl e9 dX1_lengths_14 ?_
    obtain ⟨e10, e11, h⟩ := bd_s h
    obtain ⟨b12, σ13, e14, h⟩ := bp_s h
    refine V_callV_v (n9 := 0) (c := 1) (r := (RX2, TX2, 7)) [] (v_X2_byLength l G hst _ e14) rfl rfl (lw_V q1678 q1679 q1680 q77 q1681) (by decide +kernel) (by decide) (Nat.le_of_ble_eq_true rfl) (gk_k e11 rfl) rfl dX1_lengths_17 ?_
    refine V_astore_n (i := 2) (L' := [(2, pR b12), (0, pR a0), (1, pI x1)]) dX1_lengths_20 rfl (by decide) rfl ?_
    refine V_iload_n (i := 1) 2 dX1_lengths_21 rfl rfl ?_
    refine V_iconst (v := (-1)) dX1_lengths_22 (by decide) ?_
    refine V_icmp_ne 31 dX1_lengths_23 (by decide) (fun c15 => ?_) (fun c15 => ?_)
    · replace h := it_f c15 h
      refine V_iconst (v := 0) dX1_lengths_31 (by decide) ?_
      refine V_istore_n (i := 3) (L' := [(3, pI (0 : Int32)), (2, pR b12), (0, pR a0), (1, pI x1)]) dX1_lengths_32 rfl (by decide) rfl ?_
      refine V_aload_n (i := 2) 1 dX1_lengths_33 rfl rfl ?_
      obtain ⟨e16, e17, h⟩ := bd_s h
      obtain ⟨b18, σ19, e20, h⟩ := bp_s h
      refine V_callV_v (n9 := 0) (c := 14) (r := (RJ29, TJ29, 9)) [] (v_J29_keySet l G hst _ e20) rfl rfl (lw_V q1842 q1843 q1844 q117 q1845) (by decide +kernel) (by decide) (Nat.le_of_ble_eq_true rfl) (gk_k e17 rfl) rfl dX1_lengths_34 ?_
      obtain ⟨e21, e22, h⟩ := bd_s h
      obtain ⟨b23, σ24, e25, h⟩ := bp_s h
      refine V_callF_v (n9 := 0) (c := 16) (r := (RJ32, TJ32, 1)) (x := ⟨"java/util/Set", "iterator", "()Ljava/util/Iterator;"⟩) [] (v_J32_iterator l G hst _ e25) rfl rfl (lw_app (lw_F4 q1864 q1868 q1870 q121) (lw_meth q1872)) (by decide +kernel) (by decide +kernel) (by decide) (Nat.le_of_ble_eq_true rfl) (gk_k e22 rfl) rfl dX1_lengths_37 ?_
      refine V_astore (i := 4) (L' := [(4, pR b23), (3, pI (0 : Int32)), (2, pR b12), (0, pR a0), (1, pI x1)]) dX1_lengths_42 (by decide) rfl ?_
      refine V_sub [0, 1, 4] rfl ?_
      exact v_X1_lengths_44 hst FU _ _ _ _ h
    · replace h := it_t c15 h
      refine V_aload_n (i := 2) 0 dX1_lengths_26 rfl rfl ?_
      obtain ⟨e26, e27, h⟩ := bd_s h
      obtain ⟨y28, σ29, e30, h⟩ := bp_s h
      refine V_callV_v (n9 := 0) (c := 14) (r := (RJ29, TJ29, 9)) [] (v_J29_size l G hst _ e30) rfl rfl (lw_V q1841 q1658 q2407 q117 q1660) (by decide +kernel) (by decide) (Nat.le_of_ble_eq_true rfl) (gk_k e27 rfl) rfl dX1_lengths_27 ?_
      cases h
      exact V_iret rfl dX1_lengths_30
  · subst e7
    replace h := ex_r h
    cases h
    exact VX_out (by decide)
def f_X1_lengths (σ : Hp) (a0 : Nat) (x1 : Int32) : Option (Ex Int32 × Hp) :=
  if x1 < (-1 : Int32) then (f_X1_lengths_10 σ a0 x1 (0 : Int32)) else (f_X1_lengths_10 σ a0 x1 (1 : Int32))
set_option maxHeartbeats 4000000 in
theorem v_X1_lengths (l : Launch) (G : Gx) (hst : l.stackTraces = false) (S : Ms) {σ σe : Hp} {a0 : Nat} {x1 : Int32} {r : Ex Int32} (h : f_X1_lengths σ a0 x1 = some (r, σe)) : MT l G yX1_lengths (ws_ yX1_lengths cX1_lengths 6 (some .int)) 10 236 [pR a0, pI x1] σ S (tOI r) σe S := by
  refine MT_of (own := RX1) (nL := 6) (ini := false) (by decide +kernel) rfl (Nat.le_of_ble_eq_true rfl) (fun h => by cases h) hst ?_
  show VV_X1_lengths l G σ (tOI r) σe S 0 [(0, pR a0), (1, pI x1)] [] σ S
  unfold f_X1_lengths at h
  refine V_iload_n (i := 1) 1 dX1_lengths_0 rfl rfl ?_
  refine V_iconst (v := (-1)) dX1_lengths_1 (by decide) ?_
  refine V_icmp_lt 9 dX1_lengths_2 (by decide) (fun c1 => ?_) (fun c1 => ?_)
  · replace h := it_t c1 h
    refine V_iconst (v := 0) dX1_lengths_9 (by decide) ?_
    refine V_sub [0, 1] rfl ?_
    exact v_X1_lengths_10 hst h
  · replace h := it_f c1 h
    refine V_iconst (v := 1) dX1_lengths_5 (by decide) ?_
    refine V_goto 10 dX1_lengths_6 (by decide) ?_
    refine V_sub [0, 1] rfl ?_
    exact v_X1_lengths_10 hst h

abbrev VV_X0_lengths (l : Launch) (G : Gx) (σ0 : Hp) (o : Oc) (σe : Hp) (Se : Ms) := V l G RX0 cX0_lengths 4 (some .int) (tableOf [(0, 9, 12, 13)]) false 11 261 σ0 o σe Se
def f_X0_lengths (σ : Hp) (a0 : Nat) (x1 : Int32) (a2 : Nat) : Option (Int32 × Hp) :=
  bd (gk σ 1 a0) fun e1 => bp (f_X1_lengths σ a0 x1) fun r3 σ4 => ex r3 (fun y6 => bd (stI σ4 103 a2 (0 : Int32) y6) fun σ10 => some ((0 : Int32), σ10)) (fun e8 => if e8.1 = "java/lang/IllegalArgumentException" then some ((1 : Int32), σ4) else none)
set_option maxHeartbeats 4000000 in
theorem v_X0_lengths (l : Launch) (G : Gx) (hst : l.stackTraces = false) (S : Ms) {σ σe : Hp} {a0 : Nat} {x1 : Int32} {a2 : Nat} {r : Int32} (h : f_X0_lengths σ a0 x1 a2 = some (r, σe)) : MT l G yX0_lengths (wsW_ yX0_lengths cX0_lengths 4 (some .int) [(0, 9, 12, 13)]) 11 261 [pR a0, pI x1, pR a2] σ S (.inl (some (pI r))) σe S := by
  refine MT_ofH (own := RX0) (nL := 4) (ini := false) (by decide +kernel) rfl (Nat.le_of_ble_eq_true rfl) (fun h => by cases h) hst ?_
  show VV_X0_lengths l G σ (.inl (some (pI r))) σe S 0 [(0, pR a0), (1, pI x1), (2, pR a2)] [] σ S
  unfold f_X0_lengths at h
  refine V_aload_n (i := 2) 2 dX0_lengths_0 rfl rfl ?_
  refine V_iconst (v := 0) dX0_lengths_1 (by decide) ?_
  refine V_aload_n (i := 0) 0 dX0_lengths_2 rfl rfl ?_
  refine V_iload_n (i := 1) 1 dX0_lengths_3 rfl rfl ?_
  obtain ⟨e1, e2, h⟩ := bd_s h
  obtain ⟨r3, σ4, e5, h⟩ := bp_s h
  refine V_callVxI (n9 := 1) (c := 0) (r := (RX1, TX1, 4)) [pI (0 : Int32), pR a2] (v_X1_lengths l G hst _ e5) rfl rfl (lw_V q1674 q1675 q1676 q76 q1677) (by decide +kernel) (by decide) (Nat.le_of_ble_eq_true rfl) (gk_k e2 rfl) rfl dX0_lengths_4 (fun y6 e7 => ?_) (fun e8 e9 => ?_)
  · subst e7
    replace h := ex_l h
    refine V_i2l dX0_lengths_7 ?_
    obtain ⟨σ10, e11, h⟩ := bd_s h
    refine V_stI3 e11 dX0_lengths_8 ?_
    refine V_goto 15 dX0_lengths_9 (by decide) ?_
    refine V_iconst (v := 0) dX0_lengths_15 (by decide) ?_
    cases h
    exact V_iret rfl dX0_lengths_16
  · subst e9
    replace h := ex_r h
    by_cases e12 : e8.1 = "java/lang/IllegalArgumentException"
    · replace h := (if_pos e12).symm.trans h
      rw [e12]
      refine VX_catch (E := "java/lang/IllegalArgumentException") (nm := "java/lang/IllegalArgumentException") (tableOf []) ⟨0, 9, 12, 13⟩ (tableOf []) rfl (fun y hy => by cases hy) (by decide) (by decide) q867 (by decide +kernel) ?_
      refine V_astore_n (i := 3) (L' := [(3, pR (e8.2)), (0, pR a0), (1, pI x1), (2, pR a2)]) dX0_lengths_12 rfl (by decide) rfl ?_
      refine V_iconst (v := 1) dX0_lengths_13 (by decide) ?_
      cases h
      exact V_iret rfl dX0_lengths_14
    replace h := (if_neg e12).symm.trans h
    cases h

abbrev VV_J2_iterator (l : Launch) (G : Gx) (σ0 : Hp) (o : Oc) (σe : Hp) (Se : Ms) := V l G RJ2 cJ2_iterator 1 (some (.object "java/util/Iterator")) [] false 2 51 σ0 o σe Se
def f_J2_iterator (σ : Hp) (a0 : Nat) : Option (Nat × Hp) :=
  bd (gz (nC σ 11 4) (hN σ)) fun e1 => bp (f_J35_init (nC σ 11 4) (hN σ) a0) fun e3 σ4 => some ((hN σ), σ4)
set_option maxHeartbeats 4000000 in
theorem v_J2_iterator (l : Launch) (G : Gx) (hst : l.stackTraces = false) (S : Ms) {σ σe : Hp} {a0 : Nat} {r : Nat} (h : f_J2_iterator σ a0 = some (r, σe)) : MT l G yJ2_iterator (ws_ yJ2_iterator cJ2_iterator 1 (some (.object "java/util/Iterator"))) 2 51 [pR a0] σ S (.inl (some (pR r))) σe S := by
  refine MT_of (own := RJ2) (nL := 1) (ini := false) (by decide +kernel) rfl (Nat.le_of_ble_eq_true rfl) (fun h => by cases h) hst ?_
  show VV_J2_iterator l G σ (.inl (some (pR r))) σe S 0 [(0, pR a0)] [] σ S
  unfold f_J2_iterator at h
  refine V_new (n := 4) ci_10 (by decide +kernel) q786 q787 q124 dJ2_iterator_0 ?_
  refine V_dup dJ2_iterator_3 rfl ?_
  refine V_aload_n (i := 0) 0 dJ2_iterator_4 rfl rfl ?_
  obtain ⟨e1, e2, h⟩ := bd_s h
  obtain ⟨e3, σ4, e5, h⟩ := bp_s h
  refine V_callI_0 (n9 := 1) [pR (hN σ)] (v_J35_init l G hst _ e5) rfl rfl q790 q124 q788 q789 rfl (by decide +kernel) (by decide) (Nat.le_of_ble_eq_true rfl) (gz_n e2) dJ2_iterator_5 ?_
  cases h
  exact V_aret rfl (Or.inl ⟨_, rfl⟩) dJ2_iterator_8

abbrev VV_X1_count (l : Launch) (G : Gx) (σ0 : Hp) (o : Oc) (σe : Hp) (Se : Ms) := V l G RX1 cX1_count 5 (some .int) [] false 6 116 σ0 o σe Se
def f_X1_count_112_b (k112 : Hp → Nat → Int32 → Option (Ex Int32 × Hp)) (σ : Hp) (a3 : Nat) (x2 : Int32) : Option (Ex Int32 × Hp) :=
  bd (gk σ 11 a3) fun e1 => bp (f_J35_hasNext σ a3) fun y3 σ4 => if y3 = (0 : Int32) then (some (.inl x2, σ4)) else (bd (gk σ4 11 a3) fun e7 => bp (f_J35_next σ4 a3) fun b9 σ10 => bd (ckC σ10 3 b9) fun e12 => bd (rdI σ10 3 b9 32) fun y14 => k112 σ10 a3 (x2 + y14))
set_option maxHeartbeats 4000000 in
theorem v_X1_count_112_b {l : Launch} {G : Gx} (hst : l.stackTraces = false) {σ0 σe : Hp} {Se : Ms} {r : Ex Int32} {k112 : Hp → Nat → Int32 → Option (Ex Int32 × Hp)} (hk112 : ∀ (σ : Hp) (a3 : Nat) (x2 : Int32), k112 σ a3 x2 = some (r, σe) → VV_X1_count l G σ0 (tOI r) σe Se 112 [(3, pR a3), (2, pI x2)] [] σ Se) {σ : Hp} {a3 : Nat} {x2 : Int32} (h : f_X1_count_112_b k112 σ a3 x2 = some (r, σe)) : VV_X1_count l G σ0 (tOI r) σe Se 112 [(3, pR a3), (2, pI x2)] [] σ Se := by
  unfold f_X1_count_112_b at h
  refine V_aload_n (i := 3) 0 dX1_count_112 rfl rfl ?_
  obtain ⟨e1, e2, h⟩ := bd_s h
  obtain ⟨y3, σ4, e5, h⟩ := bp_s h
  refine V_callF_v (n9 := 0) (c := 10) (r := (RJ35, TJ35, 4)) (x := ⟨"java/util/Iterator", "hasNext", "()Z"⟩) [] (v_J35_hasNext l G hst _ e5) rfl rfl (lw_app (lw_F4 q806 q810 q812 q124) (lw_meth q814)) (by decide +kernel) (by decide +kernel) (by decide) (Nat.le_of_ble_eq_true rfl) (gk_k e2 rfl) rfl dX1_count_113 ?_
  refine V_if_eq 143 dX1_count_118 (by decide) (fun c6 => ?_) (fun c6 => ?_)
  · replace h := it_t c6 h
    refine V_iload_n (i := 2) 1 dX1_count_143 rfl rfl ?_
    cases h
    exact V_iret rfl dX1_count_144
  · replace h := it_f c6 h
    refine V_aload_n (i := 3) 0 dX1_count_121 rfl rfl ?_
    obtain ⟨e7, e8, h⟩ := bd_s h
    obtain ⟨b9, σ10, e11, h⟩ := bp_s h
    refine V_callF_v (n9 := 0) (c := 10) (r := (RJ35, TJ35, 4)) (x := ⟨"java/util/Iterator", "next", "()Ljava/lang/Object;"⟩) [] (v_J35_next l G hst _ e11) rfl rfl (lw_app (lw_F4 q822 q825 q827 q124) (lw_meth q829)) (by decide +kernel) (by decide +kernel) (by decide) (Nat.le_of_ble_eq_true rfl) (gk_k e8 rfl) rfl dX1_count_122 ?_
    obtain ⟨e12, e13, h⟩ := bd_s h
    refine V_ckC (c := 2) e13 q848 rfl (Or.inl rfl) dX1_count_127 ?_
    refine V_astore (i := 4) (L' := [(4, pR b9), (3, pR a3), (2, pI x2)]) dX1_count_130 (by decide) rfl ?_
    refine V_iload_n (i := 2) 2 dX1_count_132 rfl rfl ?_
    refine V_aload (i := 4) 0 dX1_count_133 rfl ?_
    obtain ⟨y14, e15, h⟩ := bd_s h
    refine V_rdI gf_X1_193 rfl rfl rfl e15 dX1_count_135 ?_
    refine V_iadd dX1_count_138 ?_
    refine V_istore_n (i := 2) (L' := [(2, pI (x2 + y14)), (4, pR b9), (3, pR a3)]) dX1_count_139 rfl (by decide) rfl ?_
    refine V_goto 112 dX1_count_140 (by decide) ?_
    refine V_sub [2, 0] rfl ?_
    exact hk112 _ _ _ h
def f_X1_count_112 : Nat → Hp → Nat → Int32 → Option (Ex Int32 × Hp)
  | 0, _, _, _ => none
  | n + 1, σ, a3, x2 => f_X1_count_112_b (f_X1_count_112 n) σ a3 x2
theorem v_X1_count_112 {l : Launch} {G : Gx} (hst : l.stackTraces = false) {σ0 σe : Hp} {Se : Ms} {r : Ex Int32} : ∀ (n : Nat) (σ : Hp) (a3 : Nat) (x2 : Int32), f_X1_count_112 n σ a3 x2 = some (r, σe) → VV_X1_count l G σ0 (tOI r) σe Se 112 [(3, pR a3), (2, pI x2)] [] σ Se
  | 0, _, _, _, h => by cases h
  | n + 1, _, _, _, h => v_X1_count_112_b hst (v_X1_count_112 hst n) h
def f_X1_count_200 (k157 : Hp → Int32 → Int32 → Nat → Option (Ex Int32 × Hp)) (σ : Hp) (x3 : Int32) (a0 : Nat) (s0 : Int32) (s1 : Int32) : Option (Ex Int32 × Hp) :=
  k157 σ (x3 + (1 : Int32)) (s1 ||| s0) a0
set_option maxHeartbeats 4000000 in
theorem v_X1_count_200 {l : Launch} {G : Gx} (hst : l.stackTraces = false) {σ0 σe : Hp} {Se : Ms} {r : Ex Int32} {k157 : Hp → Int32 → Int32 → Nat → Option (Ex Int32 × Hp)} (hk157 : ∀ (σ : Hp) (x3 : Int32) (x2 : Int32) (a0 : Nat), k157 σ x3 x2 a0 = some (r, σe) → VV_X1_count l G σ0 (tOI r) σe Se 157 [(3, pI x3), (2, pI x2), (0, pR a0)] [] σ Se) {σ : Hp} {x3 : Int32} {a0 : Nat} {s0 : Int32} {s1 : Int32} (h : f_X1_count_200 k157 σ x3 a0 s0 s1 = some (r, σe)) : VV_X1_count l G σ0 (tOI r) σe Se 200 [(3, pI x3), (0, pR a0)] [pI s0, pI s1] σ Se := by
  unfold f_X1_count_200 at h
  refine V_ior dX1_count_200 ?_
  refine V_istore_n (i := 2) (L' := [(2, pI (s1 ||| s0)), (3, pI x3), (0, pR a0)]) dX1_count_201 rfl (by decide) rfl ?_
  refine V_iinc (v := (x3 + (1 : Int32))) (L' := [(3, pI (x3 + (1 : Int32))), (2, pI (s1 ||| s0)), (0, pR a0)]) 1 dX1_count_202 rfl rfl (by decide) rfl ?_
  refine V_goto 157 dX1_count_205 (by decide) ?_
  refine V_sub [0, 1, 2] rfl ?_
  exact hk157 _ _ _ _ h
def f_X1_count_157_b (k157 : Hp → Int32 → Int32 → Nat → Option (Ex Int32 × Hp)) (σ : Hp) (x3 : Int32) (x2 : Int32) (a0 : Nat) : Option (Ex Int32 × Hp) :=
  bd (rdR σ 1 a0 10) fun b1 => bd (rdR σ 2 b1 20) fun b3 => bd (gk σ 10 b3) fun e5 => bp (f_J2_size σ b3) fun y7 σ8 => if y7 ≤ x3 then (some (.inl x2, σ8)) else (bd (rdR σ8 1 a0 10) fun b11 => bd (rdR σ8 2 b11 20) fun b13 => bd (gk σ8 10 b13) fun e15 => bp (f_J2_get σ8 b13 x3) fun b17 σ18 => bd (ckC σ18 3 b17) fun e20 => bd (gk σ18 3 b17) fun e22 => bp (f_X4_grade σ18 b17) fun y24 σ25 => if y24 = (3 : Int32) then (f_X1_count_200 k157 σ25 x3 a0 ((1 : Int32) <<< (x3 &&& 31)) x2) else (f_X1_count_200 k157 σ25 x3 a0 (0 : Int32) x2))
set_option maxHeartbeats 4000000 in
theorem v_X1_count_157_b {l : Launch} {G : Gx} (hst : l.stackTraces = false) {σ0 σe : Hp} {Se : Ms} {r : Ex Int32} {k157 : Hp → Int32 → Int32 → Nat → Option (Ex Int32 × Hp)} (hk157 : ∀ (σ : Hp) (x3 : Int32) (x2 : Int32) (a0 : Nat), k157 σ x3 x2 a0 = some (r, σe) → VV_X1_count l G σ0 (tOI r) σe Se 157 [(3, pI x3), (2, pI x2), (0, pR a0)] [] σ Se) {σ : Hp} {x3 : Int32} {x2 : Int32} {a0 : Nat} (h : f_X1_count_157_b k157 σ x3 x2 a0 = some (r, σe)) : VV_X1_count l G σ0 (tOI r) σe Se 157 [(3, pI x3), (2, pI x2), (0, pR a0)] [] σ Se := by
  unfold f_X1_count_157_b at h
  refine V_iload_n (i := 3) 0 dX1_count_157 rfl rfl ?_
  refine V_aload_n (i := 0) 2 dX1_count_158 rfl rfl ?_
  obtain ⟨b1, e2, h⟩ := bd_s h
  refine V_rdR gf_X1_10 rfl rfl rfl e2 dX1_count_159 ?_
  obtain ⟨b3, e4, h⟩ := bd_s h
  refine V_rdR gf_X1_59 rfl rfl rfl e4 dX1_count_162 ?_
  obtain ⟨e5, e6, h⟩ := bd_s h
  obtain ⟨y7, σ8, e9, h⟩ := bp_s h
  refine V_callV_v (n9 := 0) (c := 9) (r := (RJ2, TJ2, 3)) [pI x3] (v_J2_size l G hst _ e9) rfl rfl (lw_V q860 q861 q862 q80 q863) (by decide +kernel) (by decide) (Nat.le_of_ble_eq_true rfl) (gk_k e6 rfl) rfl dX1_count_165 ?_
  refine V_icmp_ge 208 dX1_count_168 (by decide) (fun c10 => ?_) (fun c10 => ?_)
  · replace h := it_t c10 h
    refine V_iload_n (i := 2) 1 dX1_count_208 rfl rfl ?_
    cases h
    exact V_iret rfl dX1_count_209
  · replace h := it_f c10 h
    refine V_iload_n (i := 2) 1 dX1_count_171 rfl rfl ?_
    refine V_aload_n (i := 0) 2 dX1_count_172 rfl rfl ?_
    obtain ⟨b11, e12, h⟩ := bd_s h
    refine V_rdR gf_X1_10 rfl rfl rfl e12 dX1_count_173 ?_
    obtain ⟨b13, e14, h⟩ := bd_s h
    refine V_rdR gf_X1_59 rfl rfl rfl e14 dX1_count_176 ?_
    refine V_iload_n (i := 3) 0 dX1_count_179 rfl rfl ?_
    obtain ⟨e15, e16, h⟩ := bd_s h
    obtain ⟨b17, σ18, e19, h⟩ := bp_s h
    refine V_callV_v (n9 := 1) (c := 9) (r := (RJ2, TJ2, 3)) [pI x2] (v_J2_get l G hst _ e19) rfl rfl (lw_V q1054 q937 q938 q80 q939) (by decide +kernel) (by decide) (Nat.le_of_ble_eq_true rfl) (gk_k e16 rfl) rfl dX1_count_180 ?_
    obtain ⟨e20, e21, h⟩ := bd_s h
    refine V_ckC (c := 2) e21 q848 rfl (Or.inl rfl) dX1_count_183 ?_
    obtain ⟨e22, e23, h⟩ := bd_s h
    obtain ⟨y24, σ25, e26, h⟩ := bp_s h
    refine V_callV_v (n9 := 0) (c := 2) (r := (RX4, TX4, 6)) [pI x2] (v_X4_grade l G hst _ e26) rfl rfl (lw_V q1081 q1082 q1083 q98 q1084) (by decide +kernel) (by decide) (Nat.le_of_ble_eq_true rfl) (gk_k e23 rfl) rfl dX1_count_186 ?_
    refine V_iconst (v := 3) dX1_count_189 (by decide) ?_
    refine V_icmp_ne 199 dX1_count_190 (by decide) (fun c27 => ?_) (fun c27 => ?_)
    · replace h := it_f c27 h
      refine V_iconst (v := 0) dX1_count_199 (by decide) ?_
      refine V_sub [0, 2] rfl ?_
      exact v_X1_count_200 hst hk157 h
    · replace h := it_t c27 h
      refine V_iconst (v := 1) dX1_count_193 (by decide) ?_
      refine V_iload_n (i := 3) 0 dX1_count_194 rfl rfl ?_
      refine V_ishl dX1_count_195 ?_
      refine V_goto 200 dX1_count_196 (by decide) ?_
      refine V_sub [0, 2] rfl ?_
      exact v_X1_count_200 hst hk157 h
def f_X1_count_157 : Nat → Hp → Int32 → Int32 → Nat → Option (Ex Int32 × Hp)
  | 0, _, _, _, _ => none
  | n + 1, σ, x3, x2, a0 => f_X1_count_157_b (f_X1_count_157 n) σ x3 x2 a0
theorem v_X1_count_157 {l : Launch} {G : Gx} (hst : l.stackTraces = false) {σ0 σe : Hp} {Se : Ms} {r : Ex Int32} : ∀ (n : Nat) (σ : Hp) (x3 : Int32) (x2 : Int32) (a0 : Nat), f_X1_count_157 n σ x3 x2 a0 = some (r, σe) → VV_X1_count l G σ0 (tOI r) σe Se 157 [(3, pI x3), (2, pI x2), (0, pR a0)] [] σ Se
  | 0, _, _, _, _, h => by cases h
  | n + 1, _, _, _, _, h => v_X1_count_157_b hst (v_X1_count_157 hst n) h
def f_X1_count (σ : Hp) (a0 : Nat) (x1 : Int32) : Option (Ex Int32 × Hp) :=
  if x1 = (0 : Int32) then (bd (rdR σ 1 a0 10) fun b2 => bd (rdR σ 2 b2 20) fun b4 => bd (gk σ 10 b4) fun e6 => bp (f_J2_size σ b4) fun y8 σ9 => some (.inl y8, σ9)) else (if x1 = (1 : Int32) then (bd (rdR σ 1 a0 10) fun b12 => bd (gk σ 2 b12) fun e14 => bp (f_X2_free σ b12) fun y16 σ17 => some (.inl y16, σ17)) else (if x1 = (2 : Int32) then (bd (rdR σ 1 a0 10) fun b20 => bd (rdI σ 2 b20 23) fun y22 => some (.inl y22, σ)) else (if x1 = (3 : Int32) then (bd (rdR σ 1 a0 10) fun b25 => bd (rdI σ 2 b25 24) fun y27 => some (.inl y27, σ)) else (if x1 = (4 : Int32) then (bd (rdR σ 1 a0 10) fun b30 => bd (rdI σ 2 b30 25) fun y32 => some (.inl y32, σ)) else (if x1 = (5 : Int32) then (bd (rdR σ 1 a0 10) fun b35 => bd (rdR σ 2 b35 20) fun b37 => bd (gk σ 10 b37) fun e39 => bp (f_J2_iterator σ b37) fun b41 σ42 => f_X1_count_112 FU σ42 b41 (0 : Int32)) else (if x1 = (6 : Int32) then (bd (rdR σ 1 a0 10) fun b45 => bd (rdI σ 2 b45 26) fun y47 => some (.inl y47, σ)) else (if x1 = (7 : Int32) then (f_X1_count_157 FU σ (0 : Int32) (0 : Int32) a0) else (if x1 = (8 : Int32) then (bd (rdR σ 1 a0 11) fun b51 => bd (gk σ 12 b51) fun e53 => bp (f_J6_size σ b51) fun y55 σ56 => some (.inl y55, σ56)) else (if x1 = (9 : Int32) then (bd (rdR σ 1 a0 13) fun b59 => bd (gk σ 13 b59) fun e61 => bp (f_J8_length σ b59) fun y63 σ64 => some (.inl y63, σ64)) else (some (.inr ("java/lang/IllegalArgumentException", hN σ), nX σ 6)))))))))))
set_option maxHeartbeats 4000000 in
theorem v_X1_count (l : Launch) (G : Gx) (hst : l.stackTraces = false) (S : Ms) {σ σe : Hp} {a0 : Nat} {x1 : Int32} {r : Ex Int32} (h : f_X1_count σ a0 x1 = some (r, σe)) : MT l G yX1_count (ws_ yX1_count cX1_count 5 (some .int)) 6 116 [pR a0, pI x1] σ S (tOI r) σe S := by
  refine MT_of (own := RX1) (nL := 5) (ini := false) (by decide +kernel) rfl (Nat.le_of_ble_eq_true rfl) (fun h => by cases h) hst ?_
  show VV_X1_count l G σ (tOI r) σe S 0 [(0, pR a0), (1, pI x1)] [] σ S
  unfold f_X1_count at h
  refine V_iload_n (i := 1) 1 dX1_count_0 rfl rfl ?_
  by_cases c1 : x1 = (0 : Int32)
  · replace h := it_t c1 h
    refine V_tableIn 56 dX1_count_1 (by rw [c1]; decide) (by rw [c1]; decide) (by rw [c1]; first | done | rfl) (by decide) ?_
    refine V_aload_n (i := 0) 0 dX1_count_56 rfl rfl ?_
    obtain ⟨b2, e3, h⟩ := bd_s h
    refine V_rdR gf_X1_10 rfl rfl rfl e3 dX1_count_57 ?_
    obtain ⟨b4, e5, h⟩ := bd_s h
    refine V_rdR gf_X1_59 rfl rfl rfl e5 dX1_count_60 ?_
    obtain ⟨e6, e7, h⟩ := bd_s h
    obtain ⟨y8, σ9, e10, h⟩ := bp_s h
    refine V_callV_v (n9 := 0) (c := 9) (r := (RJ2, TJ2, 3)) [] (v_J2_size l G hst _ e10) rfl rfl (lw_V q860 q861 q862 q80 q863) (by decide +kernel) (by decide) (Nat.le_of_ble_eq_true rfl) (gk_k e7 rfl) rfl dX1_count_63 ?_
    cases h
    exact V_iret rfl dX1_count_66
  · replace h := it_f c1 h
    by_cases c11 : x1 = (1 : Int32)
    · replace h := it_t c11 h
      refine V_tableIn 67 dX1_count_1 (by rw [c11]; decide) (by rw [c11]; decide) (by rw [c11]; first | done | rfl) (by decide) ?_
      refine V_aload_n (i := 0) 0 dX1_count_67 rfl rfl ?_
      obtain ⟨b12, e13, h⟩ := bd_s h
      refine V_rdR gf_X1_10 rfl rfl rfl e13 dX1_count_68 ?_
      obtain ⟨e14, e15, h⟩ := bd_s h
      obtain ⟨y16, σ17, e18, h⟩ := bp_s h
      refine V_callV_v (n9 := 0) (c := 1) (r := (RX2, TX2, 7)) [] (v_X2_free l G hst _ e18) rfl rfl (lw_V q1917 q1186 q1187 q77 q1188) (by decide +kernel) (by decide) (Nat.le_of_ble_eq_true rfl) (gk_k e15 rfl) rfl dX1_count_71 ?_
      cases h
      exact V_iret rfl dX1_count_74
    · replace h := it_f c11 h
      by_cases c19 : x1 = (2 : Int32)
      · replace h := it_t c19 h
        refine V_tableIn 75 dX1_count_1 (by rw [c19]; decide) (by rw [c19]; decide) (by rw [c19]; first | done | rfl) (by decide) ?_
        refine V_aload_n (i := 0) 0 dX1_count_75 rfl rfl ?_
        obtain ⟨b20, e21, h⟩ := bd_s h
        refine V_rdR gf_X1_10 rfl rfl rfl e21 dX1_count_76 ?_
        obtain ⟨y22, e23, h⟩ := bd_s h
        refine V_rdI gf_X1_264 rfl rfl rfl e23 dX1_count_79 ?_
        cases h
        exact V_iret rfl dX1_count_82
      · replace h := it_f c19 h
        by_cases c24 : x1 = (3 : Int32)
        · replace h := it_t c24 h
          refine V_tableIn 83 dX1_count_1 (by rw [c24]; decide) (by rw [c24]; decide) (by rw [c24]; first | done | rfl) (by decide) ?_
          refine V_aload_n (i := 0) 0 dX1_count_83 rfl rfl ?_
          obtain ⟨b25, e26, h⟩ := bd_s h
          refine V_rdR gf_X1_10 rfl rfl rfl e26 dX1_count_84 ?_
          obtain ⟨y27, e28, h⟩ := bd_s h
          refine V_rdI gf_X1_267 rfl rfl rfl e28 dX1_count_87 ?_
          cases h
          exact V_iret rfl dX1_count_90
        · replace h := it_f c24 h
          by_cases c29 : x1 = (4 : Int32)
          · replace h := it_t c29 h
            refine V_tableIn 91 dX1_count_1 (by rw [c29]; decide) (by rw [c29]; decide) (by rw [c29]; first | done | rfl) (by decide) ?_
            refine V_aload_n (i := 0) 0 dX1_count_91 rfl rfl ?_
            obtain ⟨b30, e31, h⟩ := bd_s h
            refine V_rdR gf_X1_10 rfl rfl rfl e31 dX1_count_92 ?_
            obtain ⟨y32, e33, h⟩ := bd_s h
            refine V_rdI gf_X1_268 rfl rfl rfl e33 dX1_count_95 ?_
            cases h
            exact V_iret rfl dX1_count_98
          · replace h := it_f c29 h
            by_cases c34 : x1 = (5 : Int32)
            · replace h := it_t c34 h
              refine V_tableIn 99 dX1_count_1 (by rw [c34]; decide) (by rw [c34]; decide) (by rw [c34]; first | done | rfl) (by decide) ?_
              refine V_iconst (v := 0) dX1_count_99 (by decide) ?_
              refine V_istore_n (i := 2) (L' := [(2, pI (0 : Int32)), (0, pR a0), (1, pI x1)]) dX1_count_100 rfl (by decide) rfl ?_
              refine V_aload_n (i := 0) 1 dX1_count_101 rfl rfl ?_
              obtain ⟨b35, e36, h⟩ := bd_s h
              refine V_rdR gf_X1_10 rfl rfl rfl e36 dX1_count_102 ?_
              obtain ⟨b37, e38, h⟩ := bd_s h
              refine V_rdR gf_X1_59 rfl rfl rfl e38 dX1_count_105 ?_
              obtain ⟨e39, e40, h⟩ := bd_s h
              obtain ⟨b41, σ42, e43, h⟩ := bp_s h
              refine V_callV_v (n9 := 0) (c := 9) (r := (RJ2, TJ2, 3)) [] (v_J2_iterator l G hst _ e43) rfl rfl (lw_V q782 q783 q784 q80 q785) (by decide +kernel) (by decide) (Nat.le_of_ble_eq_true rfl) (gk_k e40 rfl) rfl dX1_count_108 ?_
              refine V_astore_n (i := 3) (L' := [(3, pR b41), (2, pI (0 : Int32)), (0, pR a0), (1, pI x1)]) dX1_count_111 rfl (by decide) rfl ?_
              refine V_sub [0, 1] rfl ?_
              exact v_X1_count_112 hst FU _ _ _ h
            · replace h := it_f c34 h
              by_cases c44 : x1 = (6 : Int32)
              · replace h := it_t c44 h
                refine V_tableIn 145 dX1_count_1 (by rw [c44]; decide) (by rw [c44]; decide) (by rw [c44]; first | done | rfl) (by decide) ?_
                refine V_aload_n (i := 0) 0 dX1_count_145 rfl rfl ?_
                obtain ⟨b45, e46, h⟩ := bd_s h
                refine V_rdR gf_X1_10 rfl rfl rfl e46 dX1_count_146 ?_
                obtain ⟨y47, e48, h⟩ := bd_s h
                refine V_rdI gf_X1_272 rfl rfl rfl e48 dX1_count_149 ?_
                cases h
                exact V_iret rfl dX1_count_152
              · replace h := it_f c44 h
                by_cases c49 : x1 = (7 : Int32)
                · replace h := it_t c49 h
                  refine V_tableIn 153 dX1_count_1 (by rw [c49]; decide) (by rw [c49]; decide) (by rw [c49]; first | done | rfl) (by decide) ?_
                  refine V_iconst (v := 0) dX1_count_153 (by decide) ?_
                  refine V_istore_n (i := 2) (L' := [(2, pI (0 : Int32)), (0, pR a0), (1, pI x1)]) dX1_count_154 rfl (by decide) rfl ?_
                  refine V_iconst (v := 0) dX1_count_155 (by decide) ?_
                  refine V_istore_n (i := 3) (L' := [(3, pI (0 : Int32)), (2, pI (0 : Int32)), (0, pR a0), (1, pI x1)]) dX1_count_156 rfl (by decide) rfl ?_
                  refine V_sub [0, 1, 2] rfl ?_
                  exact v_X1_count_157 hst FU _ _ _ _ h
                · replace h := it_f c49 h
                  by_cases c50 : x1 = (8 : Int32)
                  · replace h := it_t c50 h
                    refine V_tableIn 210 dX1_count_1 (by rw [c50]; decide) (by rw [c50]; decide) (by rw [c50]; first | done | rfl) (by decide) ?_
                    refine V_aload_n (i := 0) 0 dX1_count_210 rfl rfl ?_
                    obtain ⟨b51, e52, h⟩ := bd_s h
                    refine V_rdR gf_X1_19 rfl rfl rfl e52 dX1_count_211 ?_
                    obtain ⟨e53, e54, h⟩ := bd_s h
                    obtain ⟨y55, σ56, e57, h⟩ := bp_s h
                    refine V_callV_v (n9 := 0) (c := 11) (r := (RJ6, TJ6, 3)) [] (v_J6_size l G hst _ e57) rfl rfl (lw_V q908 q909 q910 q85 q911) (by decide +kernel) (by decide) (Nat.le_of_ble_eq_true rfl) (gk_k e54 rfl) rfl dX1_count_214 ?_
                    cases h
                    exact V_iret rfl dX1_count_217
                  · replace h := it_f c50 h
                    by_cases c58 : x1 = (9 : Int32)
                    · replace h := it_t c58 h
                      refine V_tableIn 218 dX1_count_1 (by rw [c58]; decide) (by rw [c58]; decide) (by rw [c58]; first | done | rfl) (by decide) ?_
                      refine V_aload_n (i := 0) 0 dX1_count_218 rfl rfl ?_
                      obtain ⟨b59, e60, h⟩ := bd_s h
                      refine V_rdR gf_X1_30 rfl rfl rfl e60 dX1_count_219 ?_
                      obtain ⟨e61, e62, h⟩ := bd_s h
                      obtain ⟨y63, σ64, e65, h⟩ := bp_s h
                      refine V_callV_v (n9 := 0) (c := 12) (r := (RJ8, TJ8, 4)) [] (v_J8_length l G hst _ e65) rfl rfl (lw_V q342 q343 q344 q87 q345) (by decide +kernel) (by decide) (Nat.le_of_ble_eq_true rfl) (gk_k e62 rfl) rfl dX1_count_222 ?_
                      cases h
                      exact V_iret rfl dX1_count_225
                    · replace h := it_f c58 h
                      refine V_tableOut 226 dX1_count_1 (by have z0 := ne_int (a := 0) c1 (by decide); have z1 := ne_int (a := 1) c11 (by decide); have z2 := ne_int (a := 2) c19 (by decide); have z3 := ne_int (a := 3) c24 (by decide); have z4 := ne_int (a := 4) c29 (by decide); have z5 := ne_int (a := 5) c34 (by decide); have z6 := ne_int (a := 6) c44 (by decide); have z7 := ne_int (a := 7) c49 (by decide); have z8 := ne_int (a := 8) c50 (by decide); have z9 := ne_int (a := 9) c58 (by decide); omega) (by decide) ?_
                      cases h
                      exact V_throw0 (E := "java/lang/IllegalArgumentException") (names := ["java/lang/RuntimeException", "java/lang/Exception"]) (by decide +kernel) (by decide +kernel) q878 q94 hat_IllegalArgumentException hgo_IllegalArgumentException (by decide) dX1_count_226 dX1_count_229 dX1_count_230 dX1_count_233 (by decide) (Nat.le_of_ble_eq_true rfl)

abbrev VV_X0_count (l : Launch) (G : Gx) (σ0 : Hp) (o : Oc) (σe : Hp) (Se : Ms) := V l G RX0 cX0_count 4 (some .int) (tableOf [(0, 9, 12, 13)]) false 7 140 σ0 o σe Se
def f_X0_count (σ : Hp) (a0 : Nat) (x1 : Int32) (a2 : Nat) : Option (Int32 × Hp) :=
  bd (gk σ 1 a0) fun e1 => bp (f_X1_count σ a0 x1) fun r3 σ4 => ex r3 (fun y6 => bd (stI σ4 103 a2 (0 : Int32) y6) fun σ10 => some ((0 : Int32), σ10)) (fun e8 => if e8.1 = "java/lang/IllegalArgumentException" then some ((1 : Int32), σ4) else none)
set_option maxHeartbeats 4000000 in
theorem v_X0_count (l : Launch) (G : Gx) (hst : l.stackTraces = false) (S : Ms) {σ σe : Hp} {a0 : Nat} {x1 : Int32} {a2 : Nat} {r : Int32} (h : f_X0_count σ a0 x1 a2 = some (r, σe)) : MT l G yX0_count (wsW_ yX0_count cX0_count 4 (some .int) [(0, 9, 12, 13)]) 7 140 [pR a0, pI x1, pR a2] σ S (.inl (some (pI r))) σe S := by
  refine MT_ofH (own := RX0) (nL := 4) (ini := false) (by decide +kernel) rfl (Nat.le_of_ble_eq_true rfl) (fun h => by cases h) hst ?_
  show VV_X0_count l G σ (.inl (some (pI r))) σe S 0 [(0, pR a0), (1, pI x1), (2, pR a2)] [] σ S
  unfold f_X0_count at h
  refine V_aload_n (i := 2) 2 dX0_count_0 rfl rfl ?_
  refine V_iconst (v := 0) dX0_count_1 (by decide) ?_
  refine V_aload_n (i := 0) 0 dX0_count_2 rfl rfl ?_
  refine V_iload_n (i := 1) 1 dX0_count_3 rfl rfl ?_
  obtain ⟨e1, e2, h⟩ := bd_s h
  obtain ⟨r3, σ4, e5, h⟩ := bp_s h
  refine V_callVxI (n9 := 1) (c := 0) (r := (RX1, TX1, 4)) [pI (0 : Int32), pR a2] (v_X1_count l G hst _ e5) rfl rfl (lw_V q1913 q1914 q1915 q76 q1916) (by decide +kernel) (by decide) (Nat.le_of_ble_eq_true rfl) (gk_k e2 rfl) rfl dX0_count_4 (fun y6 e7 => ?_) (fun e8 e9 => ?_)
  · subst e7
    replace h := ex_l h
    refine V_i2l dX0_count_7 ?_
    obtain ⟨σ10, e11, h⟩ := bd_s h
    refine V_stI3 e11 dX0_count_8 ?_
    refine V_goto 15 dX0_count_9 (by decide) ?_
    refine V_iconst (v := 0) dX0_count_15 (by decide) ?_
    cases h
    exact V_iret rfl dX0_count_16
  · subst e9
    replace h := ex_r h
    by_cases e12 : e8.1 = "java/lang/IllegalArgumentException"
    · replace h := (if_pos e12).symm.trans h
      rw [e12]
      refine VX_catch (E := "java/lang/IllegalArgumentException") (nm := "java/lang/IllegalArgumentException") (tableOf []) ⟨0, 9, 12, 13⟩ (tableOf []) rfl (fun y hy => by cases hy) (by decide) (by decide) q867 (by decide +kernel) ?_
      refine V_astore_n (i := 3) (L' := [(3, pR (e8.2)), (0, pR a0), (1, pI x1), (2, pR a2)]) dX0_count_12 rfl (by decide) rfl ?_
      refine V_iconst (v := 1) dX0_count_13 (by decide) ?_
      cases h
      exact V_iret rfl dX0_count_14
    replace h := (if_neg e12).symm.trans h
    cases h

abbrev VV_X1_setting (l : Launch) (G : Gx) (σ0 : Hp) (o : Oc) (σe : Hp) (Se : Ms) := V l G RX1 cX1_setting 2 (some .int) [] false 7 120 σ0 o σe Se
def f_X1_setting (σ : Hp) (a0 : Nat) (x1 : Int32) : Option (Ex Int32 × Hp) :=
  bd (f_X1_isIn x1 (0 : Int32) (3 : Int32)) fun y1 => bp (f_X1_exists σ y1) fun r3 σ4 => ex r3 (fun e6 => bd (rdR σ4 1 a0 10) fun b10 => bd (rdR σ4 2 b10 22) fun b12 => bd (elI σ4 101 b12 x1) fun y14 => some (.inl y14, σ4)) (fun e8 => some (.inr e8, σ4))
set_option maxHeartbeats 4000000 in
theorem v_X1_setting (l : Launch) (G : Gx) (hst : l.stackTraces = false) (S : Ms) {σ σe : Hp} {a0 : Nat} {x1 : Int32} {r : Ex Int32} (h : f_X1_setting σ a0 x1 = some (r, σe)) : MT l G yX1_setting (ws_ yX1_setting cX1_setting 2 (some .int)) 7 120 [pR a0, pI x1] σ S (tOI r) σe S := by
  refine MT_of (own := RX1) (nL := 2) (ini := false) (by decide +kernel) rfl (Nat.le_of_ble_eq_true rfl) (fun h => by cases h) hst ?_
  show VV_X1_setting l G σ (tOI r) σe S 0 [(0, pR a0), (1, pI x1)] [] σ S
  unfold f_X1_setting at h
  refine V_iload_n (i := 1) 1 dX1_setting_0 rfl rfl ?_
  refine V_iconst (v := 0) dX1_setting_1 (by decide) ?_
  refine V_iconst (v := 3) dX1_setting_2 (by decide) ?_
  obtain ⟨y1, e2, h⟩ := bd_s h
  refine V_callS_v (n9 := 3) [] (v_X1_isIn l G hst _ _ e2) rfl rfl (lw_S q874 q754 q76 q755) (by decide +kernel) (by decide) (Nat.le_of_ble_eq_true rfl) dX1_setting_3 ?_
  obtain ⟨r3, σ4, e5, h⟩ := bp_s h
  refine V_callSxV (n9 := 1) [] (v_X1_exists l G hst _ e5) rfl rfl (lw_S q1036 q1037 q76 q1038) (by decide +kernel) (by decide) (Nat.le_of_ble_eq_true rfl) dX1_setting_6 (fun e6 e7 => ?_) (fun e8 e9 => ?_)
  · subst e7
    replace h := ex_l h
    refine V_aload_n (i := 0) 0 dX1_setting_9 rfl rfl ?_
    obtain ⟨b10, e11, h⟩ := bd_s h
    refine V_rdR gf_X1_10 rfl rfl rfl e11 dX1_setting_10 ?_
    obtain ⟨b12, e13, h⟩ := bd_s h
    refine V_rdR gf_X1_123 rfl rfl rfl e13 dX1_setting_13 ?_
    refine V_iload_n (i := 1) 1 dX1_setting_16 rfl rfl ?_
    obtain ⟨y14, e15, h⟩ := bd_s h
    refine V_elI1 e15 dX1_setting_17 ?_
    cases h
    exact V_iret rfl dX1_setting_18
  · subst e9
    replace h := ex_r h
    cases h
    exact VX_out (by decide)

abbrev VV_X0_setting (l : Launch) (G : Gx) (σ0 : Hp) (o : Oc) (σe : Hp) (Se : Ms) := V l G RX0 cX0_setting 4 (some .int) (tableOf [(0, 9, 12, 21)]) false 8 141 σ0 o σe Se
def f_X0_setting (σ : Hp) (a0 : Nat) (x1 : Int32) (a2 : Nat) : Option (Int32 × Hp) :=
  bd (gk σ 1 a0) fun e1 => bp (f_X1_setting σ a0 x1) fun r3 σ4 => ex r3 (fun y6 => bd (stI σ4 103 a2 (0 : Int32) y6) fun σ10 => some ((0 : Int32), σ10)) (fun e8 => if e8.1 = "java/lang/IndexOutOfBoundsException" then some ((1 : Int32), σ4) else none)
set_option maxHeartbeats 4000000 in
theorem v_X0_setting (l : Launch) (G : Gx) (hst : l.stackTraces = false) (S : Ms) {σ σe : Hp} {a0 : Nat} {x1 : Int32} {a2 : Nat} {r : Int32} (h : f_X0_setting σ a0 x1 a2 = some (r, σe)) : MT l G yX0_setting (wsW_ yX0_setting cX0_setting 4 (some .int) [(0, 9, 12, 21)]) 8 141 [pR a0, pI x1, pR a2] σ S (.inl (some (pI r))) σe S := by
  refine MT_ofH (own := RX0) (nL := 4) (ini := false) (by decide +kernel) rfl (Nat.le_of_ble_eq_true rfl) (fun h => by cases h) hst ?_
  show VV_X0_setting l G σ (.inl (some (pI r))) σe S 0 [(0, pR a0), (1, pI x1), (2, pR a2)] [] σ S
  unfold f_X0_setting at h
  refine V_aload_n (i := 2) 2 dX0_setting_0 rfl rfl ?_
  refine V_iconst (v := 0) dX0_setting_1 (by decide) ?_
  refine V_aload_n (i := 0) 0 dX0_setting_2 rfl rfl ?_
  refine V_iload_n (i := 1) 1 dX0_setting_3 rfl rfl ?_
  obtain ⟨e1, e2, h⟩ := bd_s h
  obtain ⟨r3, σ4, e5, h⟩ := bp_s h
  refine V_callVxI (n9 := 1) (c := 0) (r := (RX1, TX1, 4)) [pI (0 : Int32), pR a2] (v_X1_setting l G hst _ e5) rfl rfl (lw_V q1921 q1922 q1923 q76 q1924) (by decide +kernel) (by decide) (Nat.le_of_ble_eq_true rfl) (gk_k e2 rfl) rfl dX0_setting_4 (fun y6 e7 => ?_) (fun e8 e9 => ?_)
  · subst e7
    replace h := ex_l h
    refine V_i2l dX0_setting_7 ?_
    obtain ⟨σ10, e11, h⟩ := bd_s h
    refine V_stI3 e11 dX0_setting_8 ?_
    refine V_goto 15 dX0_setting_9 (by decide) ?_
    refine V_iconst (v := 0) dX0_setting_15 (by decide) ?_
    cases h
    exact V_iret rfl dX0_setting_16
  · subst e9
    replace h := ex_r h
    by_cases e12 : e8.1 = "java/lang/IndexOutOfBoundsException"
    · replace h := (if_pos e12).symm.trans h
      rw [e12]
      refine VX_catch (E := "java/lang/IndexOutOfBoundsException") (nm := "java/lang/IndexOutOfBoundsException") (tableOf []) ⟨0, 9, 12, 21⟩ (tableOf []) rfl (fun y hy => by cases hy) (by decide) (by decide) q1025 (by decide +kernel) ?_
      refine V_astore_n (i := 3) (L' := [(3, pR (e8.2)), (0, pR a0), (1, pI x1), (2, pR a2)]) dX0_setting_12 rfl (by decide) rfl ?_
      refine V_iconst (v := 1) dX0_setting_13 (by decide) ?_
      cases h
      exact V_iret rfl dX0_setting_14
    replace h := (if_neg e12).symm.trans h
    cases h

abbrev VV_X1_refusal (l : Launch) (G : Gx) (σ0 : Hp) (o : Oc) (σe : Hp) (Se : Ms) := V l G RX1 cX1_refusal 3 (some .int) [] false 8 141 σ0 o σe Se
def f_X1_refusal (σ : Hp) (a0 : Nat) (x1 : Int32) (x2 : Int32) : Option (Ex Int32 × Hp) :=
  bp (f_X1_checkStack σ x1) fun r1 σ2 => ex r1 (fun e4 => bd (gk σ2 1 a0) fun e8 => bp (f_X1_blockAt σ2 a0 x2) fun r10 σ11 => ex r10 (fun b13 => bd (rdR σ11 1 a0 10) fun b17 => bd (gk σ11 2 b17) fun e19 => bp (f_X2_refusal σ11 b17 x1 x2) fun y21 σ22 => some (.inl y21, σ22)) (fun e15 => some (.inr e15, σ11))) (fun e6 => some (.inr e6, σ2))
set_option maxHeartbeats 4000000 in
theorem v_X1_refusal (l : Launch) (G : Gx) (hst : l.stackTraces = false) (S : Ms) {σ σe : Hp} {a0 : Nat} {x1 : Int32} {x2 : Int32} {r : Ex Int32} (h : f_X1_refusal σ a0 x1 x2 = some (r, σe)) : MT l G yX1_refusal (ws_ yX1_refusal cX1_refusal 3 (some .int)) 8 141 [pR a0, pI x1, pI x2] σ S (tOI r) σe S := by
  refine MT_of (own := RX1) (nL := 3) (ini := false) (by decide +kernel) rfl (Nat.le_of_ble_eq_true rfl) (fun h => by cases h) hst ?_
  show VV_X1_refusal l G σ (tOI r) σe S 0 [(0, pR a0), (1, pI x1), (2, pI x2)] [] σ S
  unfold f_X1_refusal at h
  refine V_iload_n (i := 1) 1 dX1_refusal_0 rfl rfl ?_
  obtain ⟨r1, σ2, e3, h⟩ := bp_s h
  refine V_callSxV (n9 := 1) [] (v_X1_checkStack l G hst _ e3) rfl rfl (lw_S q1131 q1132 q76 q1133) (by decide +kernel) (by decide) (Nat.le_of_ble_eq_true rfl) dX1_refusal_1 (fun e4 e5 => ?_) (fun e6 e7 => ?_)
  · subst e5
    replace h := ex_l h
    refine V_aload_n (i := 0) 0 dX1_refusal_4 rfl rfl ?_
    refine V_iload_n (i := 2) 2 dX1_refusal_5 rfl rfl ?_
    obtain ⟨e8, e9, h⟩ := bd_s h
    obtain ⟨r10, σ11, e12, h⟩ := bp_s h
    refine V_callVxR (n9 := 1) (c := 0) (r := (RX1, TX1, 4)) [] (v_X1_blockAt l G hst _ e12) rfl rfl (lw_V q1032 q1034 qs13 q76 q1035) (by decide +kernel) (by decide) (Nat.le_of_ble_eq_true rfl) (gk_k e9 rfl) rfl dX1_refusal_6 (fun b13 e14 => ?_) (fun e15 e16 => ?_)
    · subst e14
      replace h := ex_l h
      refine V_pop dX1_refusal_9 rfl ?_
      refine V_aload_n (i := 0) 0 dX1_refusal_10 rfl rfl ?_
      obtain ⟨b17, e18, h⟩ := bd_s h
      refine V_rdR gf_X1_10 rfl rfl rfl e18 dX1_refusal_11 ?_
      refine V_iload_n (i := 1) 1 dX1_refusal_14 rfl rfl ?_
      refine V_iload_n (i := 2) 2 dX1_refusal_15 rfl rfl ?_
      obtain ⟨e19, e20, h⟩ := bd_s h
      obtain ⟨y21, σ22, e23, h⟩ := bp_s h
      refine V_callV_v (n9 := 2) (c := 1) (r := (RX2, TX2, 7)) [] (v_X2_refusal l G hst _ e23) rfl rfl (lw_V q1932 q1139 q1140 q77 q1141) (by decide +kernel) (by decide) (Nat.le_of_ble_eq_true rfl) (gk_k e20 rfl) rfl dX1_refusal_16 ?_
      cases h
      exact V_iret rfl dX1_refusal_19
    · subst e16
      replace h := ex_r h
      cases h
      exact VX_out (by decide)
  · subst e7
    replace h := ex_r h
    cases h
    exact VX_out (by decide)

abbrev VV_X0_refusal (l : Launch) (G : Gx) (σ0 : Hp) (o : Oc) (σe : Hp) (Se : Ms) := V l G RX0 cX0_refusal 5 (some .int) (tableOf [(0, 10, 13, 21)]) false 9 163 σ0 o σe Se
def f_X0_refusal (σ : Hp) (a0 : Nat) (x1 : Int32) (x2 : Int32) (a3 : Nat) : Option (Int32 × Hp) :=
  bd (gk σ 1 a0) fun e1 => bp (f_X1_refusal σ a0 x1 x2) fun r3 σ4 => ex r3 (fun y6 => bd (stI σ4 103 a3 (0 : Int32) y6) fun σ10 => some ((0 : Int32), σ10)) (fun e8 => if e8.1 = "java/lang/IndexOutOfBoundsException" then some ((1 : Int32), σ4) else none)
set_option maxHeartbeats 4000000 in
theorem v_X0_refusal (l : Launch) (G : Gx) (hst : l.stackTraces = false) (S : Ms) {σ σe : Hp} {a0 : Nat} {x1 : Int32} {x2 : Int32} {a3 : Nat} {r : Int32} (h : f_X0_refusal σ a0 x1 x2 a3 = some (r, σe)) : MT l G yX0_refusal (wsW_ yX0_refusal cX0_refusal 5 (some .int) [(0, 10, 13, 21)]) 9 163 [pR a0, pI x1, pI x2, pR a3] σ S (.inl (some (pI r))) σe S := by
  refine MT_ofH (own := RX0) (nL := 5) (ini := false) (by decide +kernel) rfl (Nat.le_of_ble_eq_true rfl) (fun h => by cases h) hst ?_
  show VV_X0_refusal l G σ (.inl (some (pI r))) σe S 0 [(0, pR a0), (1, pI x1), (2, pI x2), (3, pR a3)] [] σ S
  unfold f_X0_refusal at h
  refine V_aload_n (i := 3) 3 dX0_refusal_0 rfl rfl ?_
  refine V_iconst (v := 0) dX0_refusal_1 (by decide) ?_
  refine V_aload_n (i := 0) 0 dX0_refusal_2 rfl rfl ?_
  refine V_iload_n (i := 1) 1 dX0_refusal_3 rfl rfl ?_
  refine V_iload_n (i := 2) 2 dX0_refusal_4 rfl rfl ?_
  obtain ⟨e1, e2, h⟩ := bd_s h
  obtain ⟨r3, σ4, e5, h⟩ := bp_s h
  refine V_callVxI (n9 := 2) (c := 0) (r := (RX1, TX1, 4)) [pI (0 : Int32), pR a3] (v_X1_refusal l G hst _ e5) rfl rfl (lw_V q1928 q1929 q1930 q76 q1931) (by decide +kernel) (by decide) (Nat.le_of_ble_eq_true rfl) (gk_k e2 rfl) rfl dX0_refusal_5 (fun y6 e7 => ?_) (fun e8 e9 => ?_)
  · subst e7
    replace h := ex_l h
    refine V_i2l dX0_refusal_8 ?_
    obtain ⟨σ10, e11, h⟩ := bd_s h
    refine V_stI3 e11 dX0_refusal_9 ?_
    refine V_goto 17 dX0_refusal_10 (by decide) ?_
    refine V_iconst (v := 0) dX0_refusal_17 (by decide) ?_
    cases h
    exact V_iret rfl dX0_refusal_18
  · subst e9
    replace h := ex_r h
    by_cases e12 : e8.1 = "java/lang/IndexOutOfBoundsException"
    · replace h := (if_pos e12).symm.trans h
      rw [e12]
      refine VX_catch (E := "java/lang/IndexOutOfBoundsException") (nm := "java/lang/IndexOutOfBoundsException") (tableOf []) ⟨0, 10, 13, 21⟩ (tableOf []) rfl (fun y hy => by cases hy) (by decide) (by decide) q1025 (by decide +kernel) ?_
      refine V_astore (i := 4) (L' := [(4, pR (e8.2)), (0, pR a0), (1, pI x1), (2, pI x2), (3, pR a3)]) dX0_refusal_13 (by decide) rfl ?_
      refine V_iconst (v := 1) dX0_refusal_15 (by decide) ?_
      cases h
      exact V_iret rfl dX0_refusal_16
    replace h := (if_neg e12).symm.trans h
    cases h

abbrev VV_X1_fewest (l : Launch) (G : Gx) (σ0 : Hp) (o : Oc) (σe : Hp) (Se : Ms) := V l G RX1 cX1_fewest 4 (some .int) [] false 32 795 σ0 o σe Se
def f_X1_fewest_65 (σ : Hp) (s0 : Int32) : Option (Ex Int32 × Hp) :=
  some (.inl s0, σ)
set_option maxHeartbeats 4000000 in
theorem v_X1_fewest_65 {l : Launch} {G : Gx} (hst : l.stackTraces = false) {σ0 σe : Hp} {Se : Ms} {r : Ex Int32} {σ : Hp} {s0 : Int32} (h : f_X1_fewest_65 σ s0 = some (r, σe)) : VV_X1_fewest l G σ0 (tOI r) σe Se 65 [] [pI s0] σ Se := by
  unfold f_X1_fewest_65 at h
  cases h
  exact V_iret rfl dX1_fewest_65
def f_X1_fewest_26 (σ : Hp) (a0 : Nat) (x1 : Int32) (x2 : Int32) (s0 : Int32) : Option (Ex Int32 × Hp) :=
  bp (f_X1_require σ s0) fun r1 σ2 => ex r1 (fun e4 => bd (rdR (nC σ2 4 5) 1 a0 10) fun b8 => bd (gz (nC σ2 4 5) (hN σ2)) fun e10 => bp (f_X5_init (nC σ2 4 5) (hN σ2) b8 x1) fun e12 σ13 => bd (gk σ13 4 (hN σ2)) fun e15 => bp (f_X5_fewest σ13 (hN σ2)) fun y17 σ18 => if y17 = (0 : Int32) then (f_X1_fewest_65 σ18 (-1 : Int32)) else (if x2 = (0 : Int32) then (bd (f_J23_bitCount y17) fun y22 => f_X1_fewest_65 σ18 y22) else (f_X1_fewest_65 σ18 y17))) (fun e6 => some (.inr e6, σ2))
set_option maxHeartbeats 4000000 in
theorem v_X1_fewest_26 {l : Launch} {G : Gx} (hst : l.stackTraces = false) {σ0 σe : Hp} {Se : Ms} {r : Ex Int32} {σ : Hp} {a0 : Nat} {x1 : Int32} {x2 : Int32} {s0 : Int32} (h : f_X1_fewest_26 σ a0 x1 x2 s0 = some (r, σe)) : VV_X1_fewest l G σ0 (tOI r) σe Se 26 [(0, pR a0), (1, pI x1), (2, pI x2)] [pI s0] σ Se := by
  unfold f_X1_fewest_26 at h
  obtain ⟨r1, σ2, e3, h⟩ := bp_s h
  refine V_callSxV (n9 := 1) [] (v_X1_require l G hst _ e3) rfl rfl (lw_S q875 q876 q76 q877) (by decide +kernel) (by decide) (Nat.le_of_ble_eq_true rfl) dX1_fewest_26 (fun e4 e5 => ?_) (fun e6 e7 => ?_)
  · subst e5
    replace h := ex_l h
    refine V_new (n := 5) ci_3 (by decide +kernel) q1940 q1180 q101 dX1_fewest_29 ?_
    refine V_dup dX1_fewest_32 rfl ?_
    refine V_aload_n (i := 0) 0 dX1_fewest_33 rfl rfl ?_
    obtain ⟨b8, e9, h⟩ := bd_s h
    refine V_rdR gf_X1_10 rfl rfl rfl e9 dX1_fewest_34 ?_
    refine V_iload_n (i := 1) 1 dX1_fewest_37 rfl rfl ?_
    obtain ⟨e10, e11, h⟩ := bd_s h
    obtain ⟨e12, σ13, e14, h⟩ := bp_s h
    refine V_callI_0 (n9 := 2) [pR (hN σ2)] (v_X5_init l G hst _ e14) rfl rfl q1183 q101 q1941 q1182 rfl (by decide +kernel) (by decide) (Nat.le_of_ble_eq_true rfl) (gz_n e11) dX1_fewest_38 ?_
    obtain ⟨e15, e16, h⟩ := bd_s h
    obtain ⟨y17, σ18, e19, h⟩ := bp_s h
    refine V_callV_v (n9 := 0) (c := 3) (r := (RX5, TX5, 5)) [] (v_X5_fewest l G hst _ e19) rfl rfl (lw_V q1942 q1209 q1210 q101 q1211) (by decide +kernel) (by decide) (Nat.le_of_ble_eq_true rfl) (gk_k e16 rfl) rfl dX1_fewest_41 ?_
    refine V_istore_n (i := 3) (L' := [(3, pI y17), (0, pR a0), (1, pI x1), (2, pI x2)]) dX1_fewest_44 rfl (by decide) rfl ?_
    refine V_iload_n (i := 3) 0 dX1_fewest_45 rfl rfl ?_
    refine V_if_ne 53 dX1_fewest_46 (by decide) (fun c20 => ?_) (fun c20 => ?_)
    · replace h := it_f c20 h
      refine V_iload_n (i := 2) 3 dX1_fewest_53 rfl rfl ?_
      refine V_if_ne 64 dX1_fewest_54 (by decide) (fun c21 => ?_) (fun c21 => ?_)
      · replace h := it_f c21 h
        refine V_iload_n (i := 3) 0 dX1_fewest_64 rfl rfl ?_
        refine V_sub [] rfl ?_
        exact v_X1_fewest_65 hst h
      · replace h := it_t c21 h
        refine V_iload_n (i := 3) 0 dX1_fewest_57 rfl rfl ?_
        obtain ⟨y22, e23, h⟩ := bd_s h
        refine V_callS_v (n9 := 1) [] (v_J23_bitCount l G hst _ _ e23) rfl rfl (lw_S q1943 q1944 q105 q1945) (by decide +kernel) (by decide) (Nat.le_of_ble_eq_true rfl) dX1_fewest_58 ?_
        refine V_goto 65 dX1_fewest_61 (by decide) ?_
        refine V_sub [] rfl ?_
        exact v_X1_fewest_65 hst h
    · replace h := it_t c20 h
      refine V_iconst (v := (-1)) dX1_fewest_49 (by decide) ?_
      refine V_goto 65 dX1_fewest_50 (by decide) ?_
      refine V_sub [] rfl ?_
      exact v_X1_fewest_65 hst h
  · subst e7
    replace h := ex_r h
    cases h
    exact VX_out (by decide)
def f_X1_fewest_25 (σ : Hp) (a0 : Nat) (x1 : Int32) (x2 : Int32) : Option (Ex Int32 × Hp) :=
  f_X1_fewest_26 σ a0 x1 x2 (0 : Int32)
set_option maxHeartbeats 4000000 in
theorem v_X1_fewest_25 {l : Launch} {G : Gx} (hst : l.stackTraces = false) {σ0 σe : Hp} {Se : Ms} {r : Ex Int32} {σ : Hp} {a0 : Nat} {x1 : Int32} {x2 : Int32} (h : f_X1_fewest_25 σ a0 x1 x2 = some (r, σe)) : VV_X1_fewest l G σ0 (tOI r) σe Se 25 [(0, pR a0), (1, pI x1), (2, pI x2)] [] σ Se := by
  unfold f_X1_fewest_25 at h
  refine V_iconst (v := 0) dX1_fewest_25 (by decide) ?_
  refine V_sub [0, 1, 2] rfl ?_
  exact v_X1_fewest_26 hst h
def f_X1_fewest (σ : Hp) (a0 : Nat) (x1 : Int32) (x2 : Int32) : Option (Ex Int32 × Hp) :=
  bd (f_X1_isIn x1 (500 : Int32) (600000 : Int32)) fun y1 => if y1 = (0 : Int32) then (f_X1_fewest_25 σ a0 x1 x2) else (bd (f_X1_isIn x2 (0 : Int32) (1 : Int32)) fun y4 => if y4 = (0 : Int32) then (f_X1_fewest_25 σ a0 x1 x2) else (f_X1_fewest_26 σ a0 x1 x2 (1 : Int32)))
set_option maxHeartbeats 4000000 in
theorem v_X1_fewest (l : Launch) (G : Gx) (hst : l.stackTraces = false) (S : Ms) {σ σe : Hp} {a0 : Nat} {x1 : Int32} {x2 : Int32} {r : Ex Int32} (h : f_X1_fewest σ a0 x1 x2 = some (r, σe)) : MT l G yX1_fewest (ws_ yX1_fewest cX1_fewest 4 (some .int)) 32 795 [pR a0, pI x1, pI x2] σ S (tOI r) σe S := by
  refine MT_of (own := RX1) (nL := 4) (ini := false) (by decide +kernel) rfl (Nat.le_of_ble_eq_true rfl) (fun h => by cases h) hst ?_
  show VV_X1_fewest l G σ (tOI r) σe S 0 [(0, pR a0), (1, pI x1), (2, pI x2)] [] σ S
  unfold f_X1_fewest at h
  refine V_iload_n (i := 1) 1 dX1_fewest_0 rfl rfl ?_
  refine V_sipush (v := 500) dX1_fewest_1 (by decide) ?_
  refine V_ldc dX1_fewest_4 q1174 ?_
  obtain ⟨y1, e2, h⟩ := bd_s h
  refine V_callS_v (n9 := 3) [] (v_X1_isIn l G hst _ _ e2) rfl rfl (lw_S q874 q754 q76 q755) (by decide +kernel) (by decide) (Nat.le_of_ble_eq_true rfl) dX1_fewest_6 ?_
  refine V_if_eq 25 dX1_fewest_9 (by decide) (fun c3 => ?_) (fun c3 => ?_)
  · replace h := it_t c3 h
    refine V_sub [0, 1, 2] rfl ?_
    exact v_X1_fewest_25 hst h
  · replace h := it_f c3 h
    refine V_iload_n (i := 2) 2 dX1_fewest_12 rfl rfl ?_
    refine V_iconst (v := 0) dX1_fewest_13 (by decide) ?_
    refine V_iconst (v := 1) dX1_fewest_14 (by decide) ?_
    obtain ⟨y4, e5, h⟩ := bd_s h
    refine V_callS_v (n9 := 3) [] (v_X1_isIn l G hst _ _ e5) rfl rfl (lw_S q874 q754 q76 q755) (by decide +kernel) (by decide) (Nat.le_of_ble_eq_true rfl) dX1_fewest_15 ?_
    refine V_if_eq 25 dX1_fewest_18 (by decide) (fun c6 => ?_) (fun c6 => ?_)
    · replace h := it_t c6 h
      refine V_sub [0, 1, 2] rfl ?_
      exact v_X1_fewest_25 hst h
    · replace h := it_f c6 h
      refine V_iconst (v := 1) dX1_fewest_21 (by decide) ?_
      refine V_goto 26 dX1_fewest_22 (by decide) ?_
      refine V_sub [0, 1, 2] rfl ?_
      exact v_X1_fewest_26 hst h

abbrev VV_X0_fewest (l : Launch) (G : Gx) (σ0 : Hp) (o : Oc) (σe : Hp) (Se : Ms) := V l G RX0 cX0_fewest 5 (some .int) (tableOf [(0, 10, 13, 13)]) false 33 818 σ0 o σe Se
def f_X0_fewest (σ : Hp) (a0 : Nat) (x1 : Int32) (x2 : Int32) (a3 : Nat) : Option (Int32 × Hp) :=
  bd (gk σ 1 a0) fun e1 => bp (f_X1_fewest σ a0 x1 x2) fun r3 σ4 => ex r3 (fun y6 => bd (stI σ4 103 a3 (0 : Int32) y6) fun σ10 => some ((0 : Int32), σ10)) (fun e8 => if e8.1 = "java/lang/IllegalArgumentException" then some ((1 : Int32), σ4) else none)
set_option maxHeartbeats 4000000 in
theorem v_X0_fewest (l : Launch) (G : Gx) (hst : l.stackTraces = false) (S : Ms) {σ σe : Hp} {a0 : Nat} {x1 : Int32} {x2 : Int32} {a3 : Nat} {r : Int32} (h : f_X0_fewest σ a0 x1 x2 a3 = some (r, σe)) : MT l G yX0_fewest (wsW_ yX0_fewest cX0_fewest 5 (some .int) [(0, 10, 13, 13)]) 33 818 [pR a0, pI x1, pI x2, pR a3] σ S (.inl (some (pI r))) σe S := by
  refine MT_ofH (own := RX0) (nL := 5) (ini := false) (by decide +kernel) rfl (Nat.le_of_ble_eq_true rfl) (fun h => by cases h) hst ?_
  show VV_X0_fewest l G σ (.inl (some (pI r))) σe S 0 [(0, pR a0), (1, pI x1), (2, pI x2), (3, pR a3)] [] σ S
  unfold f_X0_fewest at h
  refine V_aload_n (i := 3) 3 dX0_fewest_0 rfl rfl ?_
  refine V_iconst (v := 0) dX0_fewest_1 (by decide) ?_
  refine V_aload_n (i := 0) 0 dX0_fewest_2 rfl rfl ?_
  refine V_iload_n (i := 1) 1 dX0_fewest_3 rfl rfl ?_
  refine V_iload_n (i := 2) 2 dX0_fewest_4 rfl rfl ?_
  obtain ⟨e1, e2, h⟩ := bd_s h
  obtain ⟨r3, σ4, e5, h⟩ := bp_s h
  refine V_callVxI (n9 := 2) (c := 0) (r := (RX1, TX1, 4)) [pI (0 : Int32), pR a3] (v_X1_fewest l G hst _ e5) rfl rfl (lw_V q1936 q1937 q1938 q76 q1939) (by decide +kernel) (by decide) (Nat.le_of_ble_eq_true rfl) (gk_k e2 rfl) rfl dX0_fewest_5 (fun y6 e7 => ?_) (fun e8 e9 => ?_)
  · subst e7
    replace h := ex_l h
    refine V_i2l dX0_fewest_8 ?_
    obtain ⟨σ10, e11, h⟩ := bd_s h
    refine V_stI3 e11 dX0_fewest_9 ?_
    refine V_goto 17 dX0_fewest_10 (by decide) ?_
    refine V_iconst (v := 0) dX0_fewest_17 (by decide) ?_
    cases h
    exact V_iret rfl dX0_fewest_18
  · subst e9
    replace h := ex_r h
    by_cases e12 : e8.1 = "java/lang/IllegalArgumentException"
    · replace h := (if_pos e12).symm.trans h
      rw [e12]
      refine VX_catch (E := "java/lang/IllegalArgumentException") (nm := "java/lang/IllegalArgumentException") (tableOf []) ⟨0, 10, 13, 13⟩ (tableOf []) rfl (fun y hy => by cases hy) (by decide) (by decide) q867 (by decide +kernel) ?_
      refine V_astore (i := 4) (L' := [(4, pR (e8.2)), (0, pR a0), (1, pI x1), (2, pI x2), (3, pR a3)]) dX0_fewest_13 (by decide) rfl ?_
      refine V_iconst (v := 1) dX0_fewest_15 (by decide) ?_
      cases h
      exact V_iret rfl dX0_fewest_16
    replace h := (if_neg e12).symm.trans h
    cases h

abbrev VV_X1_oldWay (l : Launch) (G : Gx) (σ0 : Hp) (o : Oc) (σe : Hp) (Se : Ms) := V l G RX1 cX1_oldWay 4 (some .int) [] false 7 139 σ0 o σe Se
def f_X1_oldWay_72 (σ : Hp) (s0 : Int32) : Option (Ex Int32 × Hp) :=
  some (.inl s0, σ)
set_option maxHeartbeats 4000000 in
theorem v_X1_oldWay_72 {l : Launch} {G : Gx} (hst : l.stackTraces = false) {σ0 σe : Hp} {Se : Ms} {r : Ex Int32} {σ : Hp} {s0 : Int32} (h : f_X1_oldWay_72 σ s0 = some (r, σe)) : VV_X1_oldWay l G σ0 (tOI r) σe Se 72 [] [pI s0] σ Se := by
  unfold f_X1_oldWay_72 at h
  cases h
  exact V_iret rfl dX1_oldWay_72
def f_X1_oldWay_71 (σ : Hp) (x3 : Int32) : Option (Ex Int32 × Hp) :=
  f_X1_oldWay_72 σ x3
set_option maxHeartbeats 4000000 in
theorem v_X1_oldWay_71 {l : Launch} {G : Gx} (hst : l.stackTraces = false) {σ0 σe : Hp} {Se : Ms} {r : Ex Int32} {σ : Hp} {x3 : Int32} (h : f_X1_oldWay_71 σ x3 = some (r, σe)) : VV_X1_oldWay l G σ0 (tOI r) σe Se 71 [(3, pI x3)] [] σ Se := by
  unfold f_X1_oldWay_71 at h
  refine V_iload_n (i := 3) 0 dX1_oldWay_71 rfl rfl ?_
  refine V_sub [] rfl ?_
  exact v_X1_oldWay_72 hst h
def f_X1_oldWay_51 (σ : Hp) (x2 : Int32) (s0 : Int32) (t1 : Nat) : Option (Ex Int32 × Hp) :=
  bd (gk σ 4 t1) fun e1 => bp (f_X5_oldWay σ t1 s0) fun y3 σ4 => if x2 = (0 : Int32) then (if y3 = (-1 : Int32) then (f_X1_oldWay_71 σ4 y3) else (bd (f_J23_bitCount y3) fun y8 => f_X1_oldWay_72 σ4 y8)) else (f_X1_oldWay_71 σ4 y3)
set_option maxHeartbeats 4000000 in
theorem v_X1_oldWay_51 {l : Launch} {G : Gx} (hst : l.stackTraces = false) {σ0 σe : Hp} {Se : Ms} {r : Ex Int32} {σ : Hp} {x2 : Int32} {s0 : Int32} {t1 : Nat} (h : f_X1_oldWay_51 σ x2 s0 t1 = some (r, σe)) : VV_X1_oldWay l G σ0 (tOI r) σe Se 51 [(2, pI x2)] [pI s0, pR t1] σ Se := by
  unfold f_X1_oldWay_51 at h
  obtain ⟨e1, e2, h⟩ := bd_s h
  obtain ⟨y3, σ4, e5, h⟩ := bp_s h
  refine V_callV_v (n9 := 1) (c := 3) (r := (RX5, TX5, 5)) [] (v_X5_oldWay l G hst _ e5) rfl rfl (lw_V q1956 q1957 q1958 q101 q1959) (by decide +kernel) (by decide) (Nat.le_of_ble_eq_true rfl) (gk_k e2 rfl) rfl dX1_oldWay_51 ?_
  refine V_istore_n (i := 3) (L' := [(3, pI y3), (2, pI x2)]) dX1_oldWay_54 rfl (by decide) rfl ?_
  refine V_iload_n (i := 2) 1 dX1_oldWay_55 rfl rfl ?_
  refine V_if_ne 71 dX1_oldWay_56 (by decide) (fun c6 => ?_) (fun c6 => ?_)
  · replace h := it_f c6 h
    refine V_sub [0] rfl ?_
    exact v_X1_oldWay_71 hst h
  · replace h := it_t c6 h
    refine V_iload_n (i := 3) 0 dX1_oldWay_59 rfl rfl ?_
    refine V_iconst (v := (-1)) dX1_oldWay_60 (by decide) ?_
    refine V_icmp_eq 71 dX1_oldWay_61 (by decide) (fun c7 => ?_) (fun c7 => ?_)
    · replace h := it_t c7 h
      refine V_sub [0] rfl ?_
      exact v_X1_oldWay_71 hst h
    · replace h := it_f c7 h
      refine V_iload_n (i := 3) 0 dX1_oldWay_64 rfl rfl ?_
      obtain ⟨y8, e9, h⟩ := bd_s h
      refine V_callS_v (n9 := 1) [] (v_J23_bitCount l G hst _ _ e9) rfl rfl (lw_S q1943 q1944 q105 q1945) (by decide +kernel) (by decide) (Nat.le_of_ble_eq_true rfl) dX1_oldWay_65 ?_
      refine V_goto 72 dX1_oldWay_68 (by decide) ?_
      refine V_sub [] rfl ?_
      exact v_X1_oldWay_72 hst h
def f_X1_oldWay_26 (σ : Hp) (a0 : Nat) (x1 : Int32) (x2 : Int32) (s0 : Int32) : Option (Ex Int32 × Hp) :=
  bp (f_X1_require σ s0) fun r1 σ2 => ex r1 (fun e4 => bd (rdR (nC σ2 4 5) 1 a0 10) fun b8 => bd (gz (nC σ2 4 5) (hN σ2)) fun e10 => bp (f_X5_init (nC σ2 4 5) (hN σ2) b8 x1) fun e12 σ13 => if x2 = (2 : Int32) then (f_X1_oldWay_51 σ13 x2 (1 : Int32) (hN σ2)) else (f_X1_oldWay_51 σ13 x2 (0 : Int32) (hN σ2))) (fun e6 => some (.inr e6, σ2))
set_option maxHeartbeats 4000000 in
theorem v_X1_oldWay_26 {l : Launch} {G : Gx} (hst : l.stackTraces = false) {σ0 σe : Hp} {Se : Ms} {r : Ex Int32} {σ : Hp} {a0 : Nat} {x1 : Int32} {x2 : Int32} {s0 : Int32} (h : f_X1_oldWay_26 σ a0 x1 x2 s0 = some (r, σe)) : VV_X1_oldWay l G σ0 (tOI r) σe Se 26 [(0, pR a0), (1, pI x1), (2, pI x2)] [pI s0] σ Se := by
  unfold f_X1_oldWay_26 at h
  obtain ⟨r1, σ2, e3, h⟩ := bp_s h
  refine V_callSxV (n9 := 1) [] (v_X1_require l G hst _ e3) rfl rfl (lw_S q875 q876 q76 q877) (by decide +kernel) (by decide) (Nat.le_of_ble_eq_true rfl) dX1_oldWay_26 (fun e4 e5 => ?_) (fun e6 e7 => ?_)
  · subst e5
    replace h := ex_l h
    refine V_new (n := 5) ci_3 (by decide +kernel) q1940 q1180 q101 dX1_oldWay_29 ?_
    refine V_dup dX1_oldWay_32 rfl ?_
    refine V_aload_n (i := 0) 0 dX1_oldWay_33 rfl rfl ?_
    obtain ⟨b8, e9, h⟩ := bd_s h
    refine V_rdR gf_X1_10 rfl rfl rfl e9 dX1_oldWay_34 ?_
    refine V_iload_n (i := 1) 1 dX1_oldWay_37 rfl rfl ?_
    obtain ⟨e10, e11, h⟩ := bd_s h
    obtain ⟨e12, σ13, e14, h⟩ := bp_s h
    refine V_callI_0 (n9 := 2) [pR (hN σ2)] (v_X5_init l G hst _ e14) rfl rfl q1183 q101 q1941 q1182 rfl (by decide +kernel) (by decide) (Nat.le_of_ble_eq_true rfl) (gz_n e11) dX1_oldWay_38 ?_
    refine V_iload_n (i := 2) 2 dX1_oldWay_41 rfl rfl ?_
    refine V_iconst (v := 2) dX1_oldWay_42 (by decide) ?_
    refine V_icmp_ne 50 dX1_oldWay_43 (by decide) (fun c15 => ?_) (fun c15 => ?_)
    · replace h := it_f c15 h
      refine V_iconst (v := 0) dX1_oldWay_50 (by decide) ?_
      refine V_sub [2] rfl ?_
      exact v_X1_oldWay_51 hst h
    · replace h := it_t c15 h
      refine V_iconst (v := 1) dX1_oldWay_46 (by decide) ?_
      refine V_goto 51 dX1_oldWay_47 (by decide) ?_
      refine V_sub [2] rfl ?_
      exact v_X1_oldWay_51 hst h
  · subst e7
    replace h := ex_r h
    cases h
    exact VX_out (by decide)
def f_X1_oldWay_25 (σ : Hp) (a0 : Nat) (x1 : Int32) (x2 : Int32) : Option (Ex Int32 × Hp) :=
  f_X1_oldWay_26 σ a0 x1 x2 (0 : Int32)
set_option maxHeartbeats 4000000 in
theorem v_X1_oldWay_25 {l : Launch} {G : Gx} (hst : l.stackTraces = false) {σ0 σe : Hp} {Se : Ms} {r : Ex Int32} {σ : Hp} {a0 : Nat} {x1 : Int32} {x2 : Int32} (h : f_X1_oldWay_25 σ a0 x1 x2 = some (r, σe)) : VV_X1_oldWay l G σ0 (tOI r) σe Se 25 [(0, pR a0), (1, pI x1), (2, pI x2)] [] σ Se := by
  unfold f_X1_oldWay_25 at h
  refine V_iconst (v := 0) dX1_oldWay_25 (by decide) ?_
  refine V_sub [0, 1, 2] rfl ?_
  exact v_X1_oldWay_26 hst h
def f_X1_oldWay (σ : Hp) (a0 : Nat) (x1 : Int32) (x2 : Int32) : Option (Ex Int32 × Hp) :=
  bd (f_X1_isIn x1 (500 : Int32) (600000 : Int32)) fun y1 => if y1 = (0 : Int32) then (f_X1_oldWay_25 σ a0 x1 x2) else (bd (f_X1_isIn x2 (0 : Int32) (2 : Int32)) fun y4 => if y4 = (0 : Int32) then (f_X1_oldWay_25 σ a0 x1 x2) else (f_X1_oldWay_26 σ a0 x1 x2 (1 : Int32)))
set_option maxHeartbeats 4000000 in
theorem v_X1_oldWay (l : Launch) (G : Gx) (hst : l.stackTraces = false) (S : Ms) {σ σe : Hp} {a0 : Nat} {x1 : Int32} {x2 : Int32} {r : Ex Int32} (h : f_X1_oldWay σ a0 x1 x2 = some (r, σe)) : MT l G yX1_oldWay (ws_ yX1_oldWay cX1_oldWay 4 (some .int)) 7 139 [pR a0, pI x1, pI x2] σ S (tOI r) σe S := by
  refine MT_of (own := RX1) (nL := 4) (ini := false) (by decide +kernel) rfl (Nat.le_of_ble_eq_true rfl) (fun h => by cases h) hst ?_
  show VV_X1_oldWay l G σ (tOI r) σe S 0 [(0, pR a0), (1, pI x1), (2, pI x2)] [] σ S
  unfold f_X1_oldWay at h
  refine V_iload_n (i := 1) 1 dX1_oldWay_0 rfl rfl ?_
  refine V_sipush (v := 500) dX1_oldWay_1 (by decide) ?_
  refine V_ldc dX1_oldWay_4 q1174 ?_
  obtain ⟨y1, e2, h⟩ := bd_s h
  refine V_callS_v (n9 := 3) [] (v_X1_isIn l G hst _ _ e2) rfl rfl (lw_S q874 q754 q76 q755) (by decide +kernel) (by decide) (Nat.le_of_ble_eq_true rfl) dX1_oldWay_6 ?_
  refine V_if_eq 25 dX1_oldWay_9 (by decide) (fun c3 => ?_) (fun c3 => ?_)
  · replace h := it_t c3 h
    refine V_sub [0, 1, 2] rfl ?_
    exact v_X1_oldWay_25 hst h
  · replace h := it_f c3 h
    refine V_iload_n (i := 2) 2 dX1_oldWay_12 rfl rfl ?_
    refine V_iconst (v := 0) dX1_oldWay_13 (by decide) ?_
    refine V_iconst (v := 2) dX1_oldWay_14 (by decide) ?_
    obtain ⟨y4, e5, h⟩ := bd_s h
    refine V_callS_v (n9 := 3) [] (v_X1_isIn l G hst _ _ e5) rfl rfl (lw_S q874 q754 q76 q755) (by decide +kernel) (by decide) (Nat.le_of_ble_eq_true rfl) dX1_oldWay_15 ?_
    refine V_if_eq 25 dX1_oldWay_18 (by decide) (fun c6 => ?_) (fun c6 => ?_)
    · replace h := it_t c6 h
      refine V_sub [0, 1, 2] rfl ?_
      exact v_X1_oldWay_25 hst h
    · replace h := it_f c6 h
      refine V_iconst (v := 1) dX1_oldWay_21 (by decide) ?_
      refine V_goto 26 dX1_oldWay_22 (by decide) ?_
      refine V_sub [0, 1, 2] rfl ?_
      exact v_X1_oldWay_26 hst h

abbrev VV_X0_oldWay (l : Launch) (G : Gx) (σ0 : Hp) (o : Oc) (σe : Hp) (Se : Ms) := V l G RX0 cX0_oldWay 5 (some .int) (tableOf [(0, 10, 13, 13)]) false 8 162 σ0 o σe Se
def f_X0_oldWay (σ : Hp) (a0 : Nat) (x1 : Int32) (x2 : Int32) (a3 : Nat) : Option (Int32 × Hp) :=
  bd (gk σ 1 a0) fun e1 => bp (f_X1_oldWay σ a0 x1 x2) fun r3 σ4 => ex r3 (fun y6 => bd (stI σ4 103 a3 (0 : Int32) y6) fun σ10 => some ((0 : Int32), σ10)) (fun e8 => if e8.1 = "java/lang/IllegalArgumentException" then some ((1 : Int32), σ4) else none)
set_option maxHeartbeats 4000000 in
theorem v_X0_oldWay (l : Launch) (G : Gx) (hst : l.stackTraces = false) (S : Ms) {σ σe : Hp} {a0 : Nat} {x1 : Int32} {x2 : Int32} {a3 : Nat} {r : Int32} (h : f_X0_oldWay σ a0 x1 x2 a3 = some (r, σe)) : MT l G yX0_oldWay (wsW_ yX0_oldWay cX0_oldWay 5 (some .int) [(0, 10, 13, 13)]) 8 162 [pR a0, pI x1, pI x2, pR a3] σ S (.inl (some (pI r))) σe S := by
  refine MT_ofH (own := RX0) (nL := 5) (ini := false) (by decide +kernel) rfl (Nat.le_of_ble_eq_true rfl) (fun h => by cases h) hst ?_
  show VV_X0_oldWay l G σ (.inl (some (pI r))) σe S 0 [(0, pR a0), (1, pI x1), (2, pI x2), (3, pR a3)] [] σ S
  unfold f_X0_oldWay at h
  refine V_aload_n (i := 3) 3 dX0_oldWay_0 rfl rfl ?_
  refine V_iconst (v := 0) dX0_oldWay_1 (by decide) ?_
  refine V_aload_n (i := 0) 0 dX0_oldWay_2 rfl rfl ?_
  refine V_iload_n (i := 1) 1 dX0_oldWay_3 rfl rfl ?_
  refine V_iload_n (i := 2) 2 dX0_oldWay_4 rfl rfl ?_
  obtain ⟨e1, e2, h⟩ := bd_s h
  obtain ⟨r3, σ4, e5, h⟩ := bp_s h
  refine V_callVxI (n9 := 2) (c := 0) (r := (RX1, TX1, 4)) [pI (0 : Int32), pR a3] (v_X1_oldWay l G hst _ e5) rfl rfl (lw_V q1952 q1953 q1954 q76 q1955) (by decide +kernel) (by decide) (Nat.le_of_ble_eq_true rfl) (gk_k e2 rfl) rfl dX0_oldWay_5 (fun y6 e7 => ?_) (fun e8 e9 => ?_)
  · subst e7
    replace h := ex_l h
    refine V_i2l dX0_oldWay_8 ?_
    obtain ⟨σ10, e11, h⟩ := bd_s h
    refine V_stI3 e11 dX0_oldWay_9 ?_
    refine V_goto 17 dX0_oldWay_10 (by decide) ?_
    refine V_iconst (v := 0) dX0_oldWay_17 (by decide) ?_
    cases h
    exact V_iret rfl dX0_oldWay_18
  · subst e9
    replace h := ex_r h
    by_cases e12 : e8.1 = "java/lang/IllegalArgumentException"
    · replace h := (if_pos e12).symm.trans h
      rw [e12]
      refine VX_catch (E := "java/lang/IllegalArgumentException") (nm := "java/lang/IllegalArgumentException") (tableOf []) ⟨0, 10, 13, 13⟩ (tableOf []) rfl (fun y hy => by cases hy) (by decide) (by decide) q867 (by decide +kernel) ?_
      refine V_astore (i := 4) (L' := [(4, pR (e8.2)), (0, pR a0), (1, pI x1), (2, pI x2), (3, pR a3)]) dX0_oldWay_13 (by decide) rfl ?_
      refine V_iconst (v := 1) dX0_oldWay_15 (by decide) ?_
      cases h
      exact V_iret rfl dX0_oldWay_16
    replace h := (if_neg e12).symm.trans h
    cases h

abbrev VV_X1_nearest (l : Launch) (G : Gx) (σ0 : Hp) (o : Oc) (σe : Hp) (Se : Ms) := V l G RX1 cX1_nearest 2 (some .int) [] false 7 139 σ0 o σe Se
def f_X1_nearest (σ : Hp) (a0 : Nat) (x1 : Int32) : Option (Ex Int32 × Hp) :=
  bd (f_X1_isIn x1 (500 : Int32) (600000 : Int32)) fun y1 => bp (f_X1_require σ y1) fun r3 σ4 => ex r3 (fun e6 => bd (rdR (nC σ4 4 5) 1 a0 10) fun b10 => bd (gz (nC σ4 4 5) (hN σ4)) fun e12 => bp (f_X5_init (nC σ4 4 5) (hN σ4) b10 x1) fun e14 σ15 => bd (gk σ15 4 (hN σ4)) fun e17 => bp (f_X5_nearest σ15 (hN σ4)) fun y19 σ20 => some (.inl y19, σ20)) (fun e8 => some (.inr e8, σ4))
set_option maxHeartbeats 4000000 in
theorem v_X1_nearest (l : Launch) (G : Gx) (hst : l.stackTraces = false) (S : Ms) {σ σe : Hp} {a0 : Nat} {x1 : Int32} {r : Ex Int32} (h : f_X1_nearest σ a0 x1 = some (r, σe)) : MT l G yX1_nearest (ws_ yX1_nearest cX1_nearest 2 (some .int)) 7 139 [pR a0, pI x1] σ S (tOI r) σe S := by
  refine MT_of (own := RX1) (nL := 2) (ini := false) (by decide +kernel) rfl (Nat.le_of_ble_eq_true rfl) (fun h => by cases h) hst ?_
  show VV_X1_nearest l G σ (tOI r) σe S 0 [(0, pR a0), (1, pI x1)] [] σ S
  unfold f_X1_nearest at h
  refine V_iload_n (i := 1) 1 dX1_nearest_0 rfl rfl ?_
  refine V_sipush (v := 500) dX1_nearest_1 (by decide) ?_
  refine V_ldc dX1_nearest_4 q1174 ?_
  obtain ⟨y1, e2, h⟩ := bd_s h
  refine V_callS_v (n9 := 3) [] (v_X1_isIn l G hst _ _ e2) rfl rfl (lw_S q874 q754 q76 q755) (by decide +kernel) (by decide) (Nat.le_of_ble_eq_true rfl) dX1_nearest_6 ?_
  obtain ⟨r3, σ4, e5, h⟩ := bp_s h
  refine V_callSxV (n9 := 1) [] (v_X1_require l G hst _ e5) rfl rfl (lw_S q875 q876 q76 q877) (by decide +kernel) (by decide) (Nat.le_of_ble_eq_true rfl) dX1_nearest_9 (fun e6 e7 => ?_) (fun e8 e9 => ?_)
  · subst e7
    replace h := ex_l h
    refine V_new (n := 5) ci_3 (by decide +kernel) q1940 q1180 q101 dX1_nearest_12 ?_
    refine V_dup dX1_nearest_15 rfl ?_
    refine V_aload_n (i := 0) 0 dX1_nearest_16 rfl rfl ?_
    obtain ⟨b10, e11, h⟩ := bd_s h
    refine V_rdR gf_X1_10 rfl rfl rfl e11 dX1_nearest_17 ?_
    refine V_iload_n (i := 1) 1 dX1_nearest_20 rfl rfl ?_
    obtain ⟨e12, e13, h⟩ := bd_s h
    obtain ⟨e14, σ15, e16, h⟩ := bp_s h
    refine V_callI_0 (n9 := 2) [pR (hN σ4)] (v_X5_init l G hst _ e16) rfl rfl q1183 q101 q1941 q1182 rfl (by decide +kernel) (by decide) (Nat.le_of_ble_eq_true rfl) (gz_n e13) dX1_nearest_21 ?_
    obtain ⟨e17, e18, h⟩ := bd_s h
    obtain ⟨y19, σ20, e21, h⟩ := bp_s h
    refine V_callV_v (n9 := 0) (c := 3) (r := (RX5, TX5, 5)) [] (v_X5_nearest l G hst _ e21) rfl rfl (lw_V q1972 q1973 q1974 q101 q1975) (by decide +kernel) (by decide) (Nat.le_of_ble_eq_true rfl) (gk_k e18 rfl) rfl dX1_nearest_24 ?_
    cases h
    exact V_iret rfl dX1_nearest_27
  · subst e9
    replace h := ex_r h
    cases h
    exact VX_out (by decide)

abbrev VV_X0_nearest (l : Launch) (G : Gx) (σ0 : Hp) (o : Oc) (σe : Hp) (Se : Ms) := V l G RX0 cX0_nearest 4 (some .int) (tableOf [(0, 9, 12, 13)]) false 8 160 σ0 o σe Se
def f_X0_nearest (σ : Hp) (a0 : Nat) (x1 : Int32) (a2 : Nat) : Option (Int32 × Hp) :=
  bd (gk σ 1 a0) fun e1 => bp (f_X1_nearest σ a0 x1) fun r3 σ4 => ex r3 (fun y6 => bd (stI σ4 103 a2 (0 : Int32) y6) fun σ10 => some ((0 : Int32), σ10)) (fun e8 => if e8.1 = "java/lang/IllegalArgumentException" then some ((1 : Int32), σ4) else none)
set_option maxHeartbeats 4000000 in
theorem v_X0_nearest (l : Launch) (G : Gx) (hst : l.stackTraces = false) (S : Ms) {σ σe : Hp} {a0 : Nat} {x1 : Int32} {a2 : Nat} {r : Int32} (h : f_X0_nearest σ a0 x1 a2 = some (r, σe)) : MT l G yX0_nearest (wsW_ yX0_nearest cX0_nearest 4 (some .int) [(0, 9, 12, 13)]) 8 160 [pR a0, pI x1, pR a2] σ S (.inl (some (pI r))) σe S := by
  refine MT_ofH (own := RX0) (nL := 4) (ini := false) (by decide +kernel) rfl (Nat.le_of_ble_eq_true rfl) (fun h => by cases h) hst ?_
  show VV_X0_nearest l G σ (.inl (some (pI r))) σe S 0 [(0, pR a0), (1, pI x1), (2, pR a2)] [] σ S
  unfold f_X0_nearest at h
  refine V_aload_n (i := 2) 2 dX0_nearest_0 rfl rfl ?_
  refine V_iconst (v := 0) dX0_nearest_1 (by decide) ?_
  refine V_aload_n (i := 0) 0 dX0_nearest_2 rfl rfl ?_
  refine V_iload_n (i := 1) 1 dX0_nearest_3 rfl rfl ?_
  obtain ⟨e1, e2, h⟩ := bd_s h
  obtain ⟨r3, σ4, e5, h⟩ := bp_s h
  refine V_callVxI (n9 := 1) (c := 0) (r := (RX1, TX1, 4)) [pI (0 : Int32), pR a2] (v_X1_nearest l G hst _ e5) rfl rfl (lw_V q1968 q1969 q1970 q76 q1971) (by decide +kernel) (by decide) (Nat.le_of_ble_eq_true rfl) (gk_k e2 rfl) rfl dX0_nearest_4 (fun y6 e7 => ?_) (fun e8 e9 => ?_)
  · subst e7
    replace h := ex_l h
    refine V_i2l dX0_nearest_7 ?_
    obtain ⟨σ10, e11, h⟩ := bd_s h
    refine V_stI3 e11 dX0_nearest_8 ?_
    refine V_goto 15 dX0_nearest_9 (by decide) ?_
    refine V_iconst (v := 0) dX0_nearest_15 (by decide) ?_
    cases h
    exact V_iret rfl dX0_nearest_16
  · subst e9
    replace h := ex_r h
    by_cases e12 : e8.1 = "java/lang/IllegalArgumentException"
    · replace h := (if_pos e12).symm.trans h
      rw [e12]
      refine VX_catch (E := "java/lang/IllegalArgumentException") (nm := "java/lang/IllegalArgumentException") (tableOf []) ⟨0, 9, 12, 13⟩ (tableOf []) rfl (fun y hy => by cases hy) (by decide) (by decide) q867 (by decide +kernel) ?_
      refine V_astore_n (i := 3) (L' := [(3, pR (e8.2)), (0, pR a0), (1, pI x1), (2, pR a2)]) dX0_nearest_12 rfl (by decide) rfl ?_
      refine V_iconst (v := 1) dX0_nearest_13 (by decide) ?_
      cases h
      exact V_iret rfl dX0_nearest_14
    replace h := (if_neg e12).symm.trans h
    cases h

abbrev VV_X1_coolIn (l : Launch) (G : Gx) (σ0 : Hp) (o : Oc) (σe : Hp) (Se : Ms) := V l G RX1 cX1_coolIn 4 (some .int) [] false 8 141 σ0 o σe Se
def f_X1_coolIn_11_b (k11 : Hp → Int32 → Int32 → Nat → Option (Ex Int32 × Hp)) (σ : Hp) (x3 : Int32) (x2 : Int32) (a0 : Nat) : Option (Ex Int32 × Hp) :=
  bd (rdR σ 1 a0 10) fun b1 => bd (rdR σ 2 b1 22) fun b3 => bd (elI σ 101 b3 (1 : Int32)) fun y5 => if x2 ≤ y5 then (some (.inl x3, σ)) else (bd (f_X1_cooled x2) fun y8 => k11 σ (x3 + (1 : Int32)) y8 a0)
set_option maxHeartbeats 4000000 in
theorem v_X1_coolIn_11_b {l : Launch} {G : Gx} (hst : l.stackTraces = false) {σ0 σe : Hp} {Se : Ms} {r : Ex Int32} {k11 : Hp → Int32 → Int32 → Nat → Option (Ex Int32 × Hp)} (hk11 : ∀ (σ : Hp) (x3 : Int32) (x2 : Int32) (a0 : Nat), k11 σ x3 x2 a0 = some (r, σe) → VV_X1_coolIn l G σ0 (tOI r) σe Se 11 [(3, pI x3), (2, pI x2), (0, pR a0)] [] σ Se) {σ : Hp} {x3 : Int32} {x2 : Int32} {a0 : Nat} (h : f_X1_coolIn_11_b k11 σ x3 x2 a0 = some (r, σe)) : VV_X1_coolIn l G σ0 (tOI r) σe Se 11 [(3, pI x3), (2, pI x2), (0, pR a0)] [] σ Se := by
  unfold f_X1_coolIn_11_b at h
  refine V_iload_n (i := 2) 1 dX1_coolIn_11 rfl rfl ?_
  refine V_aload_n (i := 0) 2 dX1_coolIn_12 rfl rfl ?_
  obtain ⟨b1, e2, h⟩ := bd_s h
  refine V_rdR gf_X1_10 rfl rfl rfl e2 dX1_coolIn_13 ?_
  obtain ⟨b3, e4, h⟩ := bd_s h
  refine V_rdR gf_X1_123 rfl rfl rfl e4 dX1_coolIn_16 ?_
  refine V_iconst (v := 1) dX1_coolIn_19 (by decide) ?_
  obtain ⟨y5, e6, h⟩ := bd_s h
  refine V_elI1 e6 dX1_coolIn_20 ?_
  refine V_icmp_le 35 dX1_coolIn_21 (by decide) (fun c7 => ?_) (fun c7 => ?_)
  · replace h := it_t c7 h
    refine V_iload_n (i := 3) 0 dX1_coolIn_35 rfl rfl ?_
    cases h
    exact V_iret rfl dX1_coolIn_36
  · replace h := it_f c7 h
    refine V_iload_n (i := 2) 1 dX1_coolIn_24 rfl rfl ?_
    obtain ⟨y8, e9, h⟩ := bd_s h
    refine V_callS_v (n9 := 1) [] (v_X1_cooled l G hst _ _ e9) rfl rfl (lw_S q1984 q1110 q76 q1111) (by decide +kernel) (by decide) (Nat.le_of_ble_eq_true rfl) dX1_coolIn_25 ?_
    refine V_istore_n (i := 2) (L' := [(2, pI y8), (3, pI x3), (0, pR a0)]) dX1_coolIn_28 rfl (by decide) rfl ?_
    refine V_iinc (v := (x3 + (1 : Int32))) (L' := [(3, pI (x3 + (1 : Int32))), (2, pI y8), (0, pR a0)]) 1 dX1_coolIn_29 rfl rfl (by decide) rfl ?_
    refine V_goto 11 dX1_coolIn_32 (by decide) ?_
    refine V_sub [0, 1, 2] rfl ?_
    exact hk11 _ _ _ _ h
def f_X1_coolIn_11 : Nat → Hp → Int32 → Int32 → Nat → Option (Ex Int32 × Hp)
  | 0, _, _, _, _ => none
  | n + 1, σ, x3, x2, a0 => f_X1_coolIn_11_b (f_X1_coolIn_11 n) σ x3 x2 a0
theorem v_X1_coolIn_11 {l : Launch} {G : Gx} (hst : l.stackTraces = false) {σ0 σe : Hp} {Se : Ms} {r : Ex Int32} : ∀ (n : Nat) (σ : Hp) (x3 : Int32) (x2 : Int32) (a0 : Nat), f_X1_coolIn_11 n σ x3 x2 a0 = some (r, σe) → VV_X1_coolIn l G σ0 (tOI r) σe Se 11 [(3, pI x3), (2, pI x2), (0, pR a0)] [] σ Se
  | 0, _, _, _, _, h => by cases h
  | n + 1, _, _, _, _, h => v_X1_coolIn_11_b hst (v_X1_coolIn_11 hst n) h
def f_X1_coolIn (σ : Hp) (a0 : Nat) (x1 : Int32) : Option (Ex Int32 × Hp) :=
  bd (gk σ 1 a0) fun e1 => bp (f_X1_blockAt σ a0 x1) fun r3 σ4 => ex r3 (fun b6 => bd (rdI σ4 3 b6 33) fun y10 => f_X1_coolIn_11 FU σ4 (0 : Int32) y10 a0) (fun e8 => some (.inr e8, σ4))
set_option maxHeartbeats 4000000 in
theorem v_X1_coolIn (l : Launch) (G : Gx) (hst : l.stackTraces = false) (S : Ms) {σ σe : Hp} {a0 : Nat} {x1 : Int32} {r : Ex Int32} (h : f_X1_coolIn σ a0 x1 = some (r, σe)) : MT l G yX1_coolIn (ws_ yX1_coolIn cX1_coolIn 4 (some .int)) 8 141 [pR a0, pI x1] σ S (tOI r) σe S := by
  refine MT_of (own := RX1) (nL := 4) (ini := false) (by decide +kernel) rfl (Nat.le_of_ble_eq_true rfl) (fun h => by cases h) hst ?_
  show VV_X1_coolIn l G σ (tOI r) σe S 0 [(0, pR a0), (1, pI x1)] [] σ S
  unfold f_X1_coolIn at h
  refine V_aload_n (i := 0) 0 dX1_coolIn_0 rfl rfl ?_
  refine V_iload_n (i := 1) 1 dX1_coolIn_1 rfl rfl ?_
  obtain ⟨e1, e2, h⟩ := bd_s h
  obtain ⟨r3, σ4, e5, h⟩ := bp_s h
  refine V_callVxR (n9 := 1) (c := 0) (r := (RX1, TX1, 4)) [] (v_X1_blockAt l G hst _ e5) rfl rfl (lw_V q1032 q1034 qs13 q76 q1035) (by decide +kernel) (by decide) (Nat.le_of_ble_eq_true rfl) (gk_k e2 rfl) rfl dX1_coolIn_2 (fun b6 e7 => ?_) (fun e8 e9 => ?_)
  · subst e7
    replace h := ex_l h
    obtain ⟨y10, e11, h⟩ := bd_s h
    refine V_rdI gf_X1_115 rfl rfl rfl e11 dX1_coolIn_5 ?_
    refine V_istore_n (i := 2) (L' := [(2, pI y10), (0, pR a0), (1, pI x1)]) dX1_coolIn_8 rfl (by decide) rfl ?_
    refine V_iconst (v := 0) dX1_coolIn_9 (by decide) ?_
    refine V_istore_n (i := 3) (L' := [(3, pI (0 : Int32)), (2, pI y10), (0, pR a0), (1, pI x1)]) dX1_coolIn_10 rfl (by decide) rfl ?_
    refine V_sub [0, 1, 2] rfl ?_
    exact v_X1_coolIn_11 hst FU _ _ _ _ h
  · subst e9
    replace h := ex_r h
    cases h
    exact VX_out (by decide)
