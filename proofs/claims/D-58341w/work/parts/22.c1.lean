/-! the component and the JDK, decompiled: written by gen/dec.py -/
set_option maxRecDepth 100000
abbrev VV_X2_add (l : Launch) (G : Gx) (σ0 : Hp) (o : Oc) (σe : Hp) (Se : Ms) := V l G RX2 cX2_add 3 (some .int) [] false 7 211 σ0 o σe Se
def f_X2_add (σ : Hp) (a0 : Nat) (x1 : Int32) (x2 : Int32) : Option (Int32 × Hp) :=
  bd (rdR σ 2 a0 20) fun b1 => bd (gz (nC σ 3 6) (hN σ)) fun e3 => bp (f_X4_init (nC σ 3 6) (hN σ) x1 x2) fun e5 σ6 => bd (gk σ6 10 b1) fun e8 => bp (f_J2_add σ6 b1 (hN σ)) fun y10 σ11 => bd (rdR σ11 2 a0 20) fun b13 => bd (gk σ11 10 b13) fun e15 => bp (f_J2_size σ11 b13) fun y17 σ18 => some ((y17 - (1 : Int32)), σ18)
set_option maxHeartbeats 4000000 in
theorem v_X2_add (l : Launch) (G : Gx) (hst : l.stackTraces = false) (S : Ms) {σ σe : Hp} {a0 : Nat} {x1 : Int32} {x2 : Int32} {r : Int32} (h : f_X2_add σ a0 x1 x2 = some (r, σe)) : MT l G yX2_add (ws_ yX2_add cX2_add 3 (some .int)) 7 211 [pR a0, pI x1, pI x2] σ S (.inl (some (pI r))) σe S := by
  refine MT_of (own := RX2) (nL := 3) (ini := false) (by decide +kernel) rfl (Nat.le_of_ble_eq_true rfl) (fun h => by cases h) hst ?_
  show VV_X2_add l G σ (.inl (some (pI r))) σe S 0 [(0, pR a0), (1, pI x1), (2, pI x2)] [] σ S
  unfold f_X2_add at h
  refine V_aload_n (i := 0) 0 dX2_add_0 rfl rfl ?_
  obtain ⟨b1, e2, h⟩ := bd_s h
  refine V_rdR gf_X2_12 rfl rfl rfl e2 dX2_add_1 ?_
  refine V_new (n := 6) ci_2 (by decide +kernel) q948 q954 q98 dX2_add_4 ?_
  refine V_dup dX2_add_7 rfl ?_
  refine V_iload_n (i := 1) 1 dX2_add_8 rfl rfl ?_
  refine V_iload_n (i := 2) 2 dX2_add_9 rfl rfl ?_
  obtain ⟨e3, e4, h⟩ := bd_s h
  obtain ⟨e5, σ6, e7, h⟩ := bp_s h
  refine V_callI_0 (n9 := 2) [pR (hN σ), pR b1] (v_X4_init l G hst _ e7) rfl rfl q957 q98 q1021 q956 rfl (by decide +kernel) (by decide) (Nat.le_of_ble_eq_true rfl) (gz_n e4) dX2_add_10 ?_
  obtain ⟨e8, e9, h⟩ := bd_s h
  obtain ⟨y10, σ11, e12, h⟩ := bp_s h
  refine V_callV_v (n9 := 1) (c := 9) (r := (RJ2, TJ2, 3)) [] (v_J2_add l G hst _ e12) rfl rfl (lw_V q168 q169 q170 q80 q171) (by decide +kernel) (by decide) (Nat.le_of_ble_eq_true rfl) (gk_k e9 rfl) rfl dX2_add_13 ?_
  refine V_pop dX2_add_16 rfl ?_
  refine V_aload_n (i := 0) 0 dX2_add_17 rfl rfl ?_
  obtain ⟨b13, e14, h⟩ := bd_s h
  refine V_rdR gf_X2_12 rfl rfl rfl e14 dX2_add_18 ?_
  obtain ⟨e15, e16, h⟩ := bd_s h
  obtain ⟨y17, σ18, e19, h⟩ := bp_s h
  refine V_callV_v (n9 := 0) (c := 9) (r := (RJ2, TJ2, 3)) [] (v_J2_size l G hst _ e19) rfl rfl (lw_V q935 q861 q862 q80 q863) (by decide +kernel) (by decide) (Nat.le_of_ble_eq_true rfl) (gk_k e16 rfl) rfl dX2_add_21 ?_
  refine V_iconst (v := 1) dX2_add_24 (by decide) ?_
  refine V_isub dX2_add_25 ?_
  cases h
  exact V_iret rfl dX2_add_26

abbrev VV_X1_cooled (l : Launch) (G : Gx) (σ0 : Hp) (o : Oc) (σe : Hp) (Se : Ms) := V l G RX1 cX1_cooled 1 (some .int) [] false 1 30 σ0 o σe Se
def f_X1_cooled (x0 : Int32) : Option Int32 :=
  bd (dvI (x0 + (9 : Int32)) (10 : Int32)) fun y1 => some (x0 - y1)
set_option maxHeartbeats 4000000 in
theorem v_X1_cooled (l : Launch) (G : Gx) (hst : l.stackTraces = false) (σ : Hp) (S : Ms) {x0 : Int32} {r : Int32} (h : f_X1_cooled x0 = some r) : MT l G yX1_cooled (ws_ yX1_cooled cX1_cooled 1 (some .int)) 1 30 [pI x0] σ S (.inl (some (pI r))) σ S := by
  refine MT_of (own := RX1) (nL := 1) (ini := false) (by decide +kernel) rfl (Nat.le_of_ble_eq_true rfl) (fun h => by cases h) hst ?_
  show VV_X1_cooled l G σ (.inl (some (pI r))) σ S 0 [(0, pI x0)] [] σ S
  unfold f_X1_cooled at h
  refine V_iload_n (i := 0) 0 dX1_cooled_0 rfl rfl ?_
  refine V_iload_n (i := 0) 0 dX1_cooled_1 rfl rfl ?_
  refine V_bipush (v := 9) dX1_cooled_2 (by decide) ?_
  refine V_iadd dX1_cooled_4 ?_
  refine V_bipush (v := 10) dX1_cooled_5 (by decide) ?_
  obtain ⟨y1, e2, h⟩ := bd_s h
  refine V_div e2 dX1_cooled_7 ?_
  refine V_isub dX1_cooled_8 ?_
  cases h
  exact V_iret rfl dX1_cooled_9

abbrev VV_X2_warmest (l : Launch) (G : Gx) (σ0 : Hp) (o : Oc) (σe : Hp) (Se : Ms) := V l G RX2 cX2_warmest 3 (some .int) [] false 4 94 σ0 o σe Se
def f_X2_warmest_4_b (k4 : Hp → Int32 → Int32 → Nat → Option (Int32 × Hp)) (σ : Hp) (x2 : Int32) (x1 : Int32) (a0 : Nat) : Option (Int32 × Hp) :=
  bd (rdR σ 2 a0 20) fun b1 => bd (gk σ 10 b1) fun e3 => bp (f_J2_size σ b1) fun y5 σ6 => if y5 ≤ x2 then (some (x1, σ6)) else (bd (rdR σ6 2 a0 20) fun b9 => bd (gk σ6 10 b9) fun e11 => bp (f_J2_get σ6 b9 x2) fun b13 σ14 => bd (ckC σ14 3 b13) fun e16 => bd (rdI σ14 3 b13 33) fun y18 => k4 σ14 (x2 + (1 : Int32)) (if x1 < y18 then y18 else x1) a0)
set_option maxHeartbeats 4000000 in
theorem v_X2_warmest_4_b {l : Launch} {G : Gx} (hst : l.stackTraces = false) {σ0 σe : Hp} {Se : Ms} {r : Int32} {k4 : Hp → Int32 → Int32 → Nat → Option (Int32 × Hp)} (hk4 : ∀ (σ : Hp) (x2 : Int32) (x1 : Int32) (a0 : Nat), k4 σ x2 x1 a0 = some (r, σe) → VV_X2_warmest l G σ0 (.inl (some (pI r))) σe Se 4 [(2, pI x2), (1, pI x1), (0, pR a0)] [] σ Se) {σ : Hp} {x2 : Int32} {x1 : Int32} {a0 : Nat} (h : f_X2_warmest_4_b k4 σ x2 x1 a0 = some (r, σe)) : VV_X2_warmest l G σ0 (.inl (some (pI r))) σe Se 4 [(2, pI x2), (1, pI x1), (0, pR a0)] [] σ Se := by
  unfold f_X2_warmest_4_b at h
  refine V_iload_n (i := 2) 0 dX2_warmest_4 rfl rfl ?_
  refine V_aload_n (i := 0) 2 dX2_warmest_5 rfl rfl ?_
  obtain ⟨b1, e2, h⟩ := bd_s h
  refine V_rdR gf_X2_12 rfl rfl rfl e2 dX2_warmest_6 ?_
  obtain ⟨e3, e4, h⟩ := bd_s h
  obtain ⟨y5, σ6, e7, h⟩ := bp_s h
  refine V_callV_v (n9 := 0) (c := 9) (r := (RJ2, TJ2, 3)) [pI x2] (v_J2_size l G hst _ e7) rfl rfl (lw_V q935 q861 q862 q80 q863) (by decide +kernel) (by decide) (Nat.le_of_ble_eq_true rfl) (gk_k e4 rfl) rfl dX2_warmest_9 ?_
  refine V_icmp_ge 40 dX2_warmest_12 (by decide) (fun c8 => ?_) (fun c8 => ?_)
  · replace h := it_t c8 h
    refine V_iload_n (i := 1) 1 dX2_warmest_40 rfl rfl ?_
    cases h
    exact V_iret rfl dX2_warmest_41
  · replace h := it_f c8 h
    refine V_iload_n (i := 1) 1 dX2_warmest_15 rfl rfl ?_
    refine V_aload_n (i := 0) 2 dX2_warmest_16 rfl rfl ?_
    obtain ⟨b9, e10, h⟩ := bd_s h
    refine V_rdR gf_X2_12 rfl rfl rfl e10 dX2_warmest_17 ?_
    refine V_iload_n (i := 2) 0 dX2_warmest_20 rfl rfl ?_
    obtain ⟨e11, e12, h⟩ := bd_s h
    obtain ⟨b13, σ14, e15, h⟩ := bp_s h
    refine V_callV_v (n9 := 1) (c := 9) (r := (RJ2, TJ2, 3)) [pI x1] (v_J2_get l G hst _ e15) rfl rfl (lw_V q936 q937 q938 q80 q939) (by decide +kernel) (by decide) (Nat.le_of_ble_eq_true rfl) (gk_k e12 rfl) rfl dX2_warmest_21 ?_
    obtain ⟨e16, e17, h⟩ := bd_s h
    refine V_ckC (c := 2) e17 q948 rfl (Or.inl rfl) dX2_warmest_24 ?_
    obtain ⟨y18, e19, h⟩ := bd_s h
    refine V_rdI gf_X2_71 rfl rfl rfl e19 dX2_warmest_27 ?_
    refine V_mmax q1116 q188 q82 q189 (by decide) (Nat.le_of_ble_eq_true rfl) dX2_warmest_30 ?_
    refine V_istore_n (i := 1) (L' := [(1, pI (if x1 < y18 then y18 else x1)), (2, pI x2), (0, pR a0)]) dX2_warmest_33 rfl (by decide) rfl ?_
    refine V_iinc (v := (x2 + (1 : Int32))) (L' := [(2, pI (x2 + (1 : Int32))), (1, pI (if x1 < y18 then y18 else x1)), (0, pR a0)]) 1 dX2_warmest_34 rfl rfl (by decide) rfl ?_
    refine V_goto 4 dX2_warmest_37 (by decide) ?_
    refine V_sub [0, 1, 2] rfl ?_
    exact hk4 _ _ _ _ h
def f_X2_warmest_4 : Nat → Hp → Int32 → Int32 → Nat → Option (Int32 × Hp)
  | 0, _, _, _, _ => none
  | n + 1, σ, x2, x1, a0 => f_X2_warmest_4_b (f_X2_warmest_4 n) σ x2 x1 a0
theorem v_X2_warmest_4 {l : Launch} {G : Gx} (hst : l.stackTraces = false) {σ0 σe : Hp} {Se : Ms} {r : Int32} : ∀ (n : Nat) (σ : Hp) (x2 : Int32) (x1 : Int32) (a0 : Nat), f_X2_warmest_4 n σ x2 x1 a0 = some (r, σe) → VV_X2_warmest l G σ0 (.inl (some (pI r))) σe Se 4 [(2, pI x2), (1, pI x1), (0, pR a0)] [] σ Se
  | 0, _, _, _, _, h => by cases h
  | n + 1, _, _, _, _, h => v_X2_warmest_4_b hst (v_X2_warmest_4 hst n) h
def f_X2_warmest (σ : Hp) (a0 : Nat) : Option (Int32 × Hp) :=
  f_X2_warmest_4 FU σ (0 : Int32) (0 : Int32) a0
set_option maxHeartbeats 4000000 in
theorem v_X2_warmest (l : Launch) (G : Gx) (hst : l.stackTraces = false) (S : Ms) {σ σe : Hp} {a0 : Nat} {r : Int32} (h : f_X2_warmest σ a0 = some (r, σe)) : MT l G yX2_warmest (ws_ yX2_warmest cX2_warmest 3 (some .int)) 4 94 [pR a0] σ S (.inl (some (pI r))) σe S := by
  refine MT_of (own := RX2) (nL := 3) (ini := false) (by decide +kernel) rfl (Nat.le_of_ble_eq_true rfl) (fun h => by cases h) hst ?_
  show VV_X2_warmest l G σ (.inl (some (pI r))) σe S 0 [(0, pR a0)] [] σ S
  unfold f_X2_warmest at h
  refine V_iconst (v := 0) dX2_warmest_0 (by decide) ?_
  refine V_istore_n (i := 1) (L' := [(1, pI (0 : Int32)), (0, pR a0)]) dX2_warmest_1 rfl (by decide) rfl ?_
  refine V_iconst (v := 0) dX2_warmest_2 (by decide) ?_
  refine V_istore_n (i := 2) (L' := [(2, pI (0 : Int32)), (1, pI (0 : Int32)), (0, pR a0)]) dX2_warmest_3 rfl (by decide) rfl ?_
  refine V_sub [0, 1, 2] rfl ?_
  exact v_X2_warmest_4 hst FU _ _ _ _ h

abbrev VV_X2_rest (l : Launch) (G : Gx) (σ0 : Hp) (o : Oc) (σe : Hp) (Se : Ms) := V l G RX2 cX2_rest 5 (some .int) [] false 5 116 σ0 o σe Se
def f_X2_rest_9_b (k2 : Hp → Int32 → Nat → Int32 → Option (Int32 × Hp)) (k9 : Hp → Int32 → Int32 → Nat → Int32 → Option (Int32 × Hp)) (σ : Hp) (x3 : Int32) (x2 : Int32) (a0 : Nat) (x1 : Int32) : Option (Int32 × Hp) :=
  bd (rdR σ 2 a0 20) fun b1 => bd (gk σ 10 b1) fun e3 => bp (f_J2_size σ b1) fun y5 σ6 => if y5 ≤ x3 then (k2 σ6 (x2 + (1 : Int32)) a0 x1) else (bd (rdR σ6 2 a0 20) fun b9 => bd (gk σ6 10 b9) fun e11 => bp (f_J2_get σ6 b9 x3) fun b13 σ14 => bd (ckC σ14 3 b13) fun e16 => bd (rdI σ14 3 b13 33) fun y18 => bd (f_X1_cooled y18) fun y20 => bd (wrI σ14 3 b13 33 y20) fun σ22 => k9 σ22 (x3 + (1 : Int32)) x2 a0 x1)
set_option maxHeartbeats 4000000 in
theorem v_X2_rest_9_b {l : Launch} {G : Gx} (hst : l.stackTraces = false) {σ0 σe : Hp} {Se : Ms} {r : Int32} {k2 : Hp → Int32 → Nat → Int32 → Option (Int32 × Hp)} {k9 : Hp → Int32 → Int32 → Nat → Int32 → Option (Int32 × Hp)} (hk2 : ∀ (σ : Hp) (x2 : Int32) (a0 : Nat) (x1 : Int32), k2 σ x2 a0 x1 = some (r, σe) → VV_X2_rest l G σ0 (.inl (some (pI r))) σe Se 2 [(2, pI x2), (0, pR a0), (1, pI x1)] [] σ Se) (hk9 : ∀ (σ : Hp) (x3 : Int32) (x2 : Int32) (a0 : Nat) (x1 : Int32), k9 σ x3 x2 a0 x1 = some (r, σe) → VV_X2_rest l G σ0 (.inl (some (pI r))) σe Se 9 [(3, pI x3), (2, pI x2), (0, pR a0), (1, pI x1)] [] σ Se) {σ : Hp} {x3 : Int32} {x2 : Int32} {a0 : Nat} {x1 : Int32} (h : f_X2_rest_9_b k2 k9 σ x3 x2 a0 x1 = some (r, σe)) : VV_X2_rest l G σ0 (.inl (some (pI r))) σe Se 9 [(3, pI x3), (2, pI x2), (0, pR a0), (1, pI x1)] [] σ Se := by
  unfold f_X2_rest_9_b at h
  refine V_iload_n (i := 3) 0 dX2_rest_9 rfl rfl ?_
  refine V_aload_n (i := 0) 2 dX2_rest_10 rfl rfl ?_
  obtain ⟨b1, e2, h⟩ := bd_s h
  refine V_rdR gf_X2_12 rfl rfl rfl e2 dX2_rest_11 ?_
  obtain ⟨e3, e4, h⟩ := bd_s h
  obtain ⟨y5, σ6, e7, h⟩ := bp_s h
  refine V_callV_v (n9 := 0) (c := 9) (r := (RJ2, TJ2, 3)) [pI x3] (v_J2_size l G hst _ e7) rfl rfl (lw_V q935 q861 q862 q80 q863) (by decide +kernel) (by decide) (Nat.le_of_ble_eq_true rfl) (gk_k e4 rfl) rfl dX2_rest_14 ?_
  refine V_icmp_ge 52 dX2_rest_17 (by decide) (fun c8 => ?_) (fun c8 => ?_)
  · replace h := it_t c8 h
    refine V_iinc (v := (x2 + (1 : Int32))) (L' := [(2, pI (x2 + (1 : Int32))), (3, pI x3), (0, pR a0), (1, pI x1)]) 1 dX2_rest_52 rfl rfl (by decide) rfl ?_
    refine V_goto 2 dX2_rest_55 (by decide) ?_
    refine V_sub [0, 2, 3] rfl ?_
    exact hk2 _ _ _ _ h
  · replace h := it_f c8 h
    refine V_aload_n (i := 0) 2 dX2_rest_20 rfl rfl ?_
    obtain ⟨b9, e10, h⟩ := bd_s h
    refine V_rdR gf_X2_12 rfl rfl rfl e10 dX2_rest_21 ?_
    refine V_iload_n (i := 3) 0 dX2_rest_24 rfl rfl ?_
    obtain ⟨e11, e12, h⟩ := bd_s h
    obtain ⟨b13, σ14, e15, h⟩ := bp_s h
    refine V_callV_v (n9 := 1) (c := 9) (r := (RJ2, TJ2, 3)) [] (v_J2_get l G hst _ e15) rfl rfl (lw_V q936 q937 q938 q80 q939) (by decide +kernel) (by decide) (Nat.le_of_ble_eq_true rfl) (gk_k e12 rfl) rfl dX2_rest_25 ?_
    obtain ⟨e16, e17, h⟩ := bd_s h
    refine V_ckC (c := 2) e17 q948 rfl (Or.inl rfl) dX2_rest_28 ?_
    refine V_astore (i := 4) (L' := [(4, pR b13), (3, pI x3), (2, pI x2), (0, pR a0), (1, pI x1)]) dX2_rest_31 (by decide) rfl ?_
    refine V_aload (i := 4) 0 dX2_rest_33 rfl ?_
    refine V_aload (i := 4) 0 dX2_rest_35 rfl ?_
    obtain ⟨y18, e19, h⟩ := bd_s h
    refine V_rdI gf_X2_71 rfl rfl rfl e19 dX2_rest_37 ?_
    obtain ⟨y20, e21, h⟩ := bd_s h
    refine V_callSN_v (n9 := 1) (host := "GaugeBlocks") [pR b13] (v_X1_cooled l G hst _ _ e21) rfl rfl q1111 q1110 q76 (by decide +kernel) (by decide +kernel) (by decide) (Nat.le_of_ble_eq_true rfl) dX2_rest_40 ?_
    obtain ⟨σ22, e23, h⟩ := bd_s h
    refine V_wrI gw_X2_71 rfl rfl rfl e23 dX2_rest_43 ?_
    refine V_iinc (v := (x3 + (1 : Int32))) (L' := [(3, pI (x3 + (1 : Int32))), (4, pR b13), (2, pI x2), (0, pR a0), (1, pI x1)]) 1 dX2_rest_46 rfl rfl (by decide) rfl ?_
    refine V_goto 9 dX2_rest_49 (by decide) ?_
    refine V_sub [0, 2, 3, 4] rfl ?_
    exact hk9 _ _ _ _ _ h
def f_X2_rest_9 (k2 : Hp → Int32 → Nat → Int32 → Option (Int32 × Hp)) : Nat → Hp → Int32 → Int32 → Nat → Int32 → Option (Int32 × Hp)
  | 0, _, _, _, _, _ => none
  | n + 1, σ, x3, x2, a0, x1 => f_X2_rest_9_b k2 (f_X2_rest_9 k2 n) σ x3 x2 a0 x1
theorem v_X2_rest_9 {l : Launch} {G : Gx} (hst : l.stackTraces = false) {σ0 σe : Hp} {Se : Ms} {r : Int32} {k2 : Hp → Int32 → Nat → Int32 → Option (Int32 × Hp)} (hk2 : ∀ (σ : Hp) (x2 : Int32) (a0 : Nat) (x1 : Int32), k2 σ x2 a0 x1 = some (r, σe) → VV_X2_rest l G σ0 (.inl (some (pI r))) σe Se 2 [(2, pI x2), (0, pR a0), (1, pI x1)] [] σ Se) : ∀ (n : Nat) (σ : Hp) (x3 : Int32) (x2 : Int32) (a0 : Nat) (x1 : Int32), f_X2_rest_9 k2 n σ x3 x2 a0 x1 = some (r, σe) → VV_X2_rest l G σ0 (.inl (some (pI r))) σe Se 9 [(3, pI x3), (2, pI x2), (0, pR a0), (1, pI x1)] [] σ Se
  | 0, _, _, _, _, _, h => by cases h
  | n + 1, _, _, _, _, _, h => v_X2_rest_9_b hst hk2 (v_X2_rest_9 hst hk2 n) h
def f_X2_rest_2_b (k2 : Hp → Int32 → Nat → Int32 → Option (Int32 × Hp)) (σ : Hp) (x2 : Int32) (a0 : Nat) (x1 : Int32) : Option (Int32 × Hp) :=
  if x1 ≤ x2 then (bd (rdI σ 2 a0 23) fun y2 => bd (wrI σ 2 a0 23 (y2 + x1)) fun σ4 => bd (gk σ4 2 a0) fun e6 => bp (f_X2_warmest σ4 a0) fun y8 σ9 => some (y8, σ9)) else (f_X2_rest_9 k2 FU σ (0 : Int32) x2 a0 x1)
set_option maxHeartbeats 4000000 in
theorem v_X2_rest_2_b {l : Launch} {G : Gx} (hst : l.stackTraces = false) {σ0 σe : Hp} {Se : Ms} {r : Int32} {k2 : Hp → Int32 → Nat → Int32 → Option (Int32 × Hp)} (hk2 : ∀ (σ : Hp) (x2 : Int32) (a0 : Nat) (x1 : Int32), k2 σ x2 a0 x1 = some (r, σe) → VV_X2_rest l G σ0 (.inl (some (pI r))) σe Se 2 [(2, pI x2), (0, pR a0), (1, pI x1)] [] σ Se) {σ : Hp} {x2 : Int32} {a0 : Nat} {x1 : Int32} (h : f_X2_rest_2_b k2 σ x2 a0 x1 = some (r, σe)) : VV_X2_rest l G σ0 (.inl (some (pI r))) σe Se 2 [(2, pI x2), (0, pR a0), (1, pI x1)] [] σ Se := by
  unfold f_X2_rest_2_b at h
  refine V_iload_n (i := 2) 0 dX2_rest_2 rfl rfl ?_
  refine V_iload_n (i := 1) 2 dX2_rest_3 rfl rfl ?_
  refine V_icmp_ge 58 dX2_rest_4 (by decide) (fun c1 => ?_) (fun c1 => ?_)
  · replace h := it_t c1 h
    refine V_aload_n (i := 0) 1 dX2_rest_58 rfl rfl ?_
    refine V_dup dX2_rest_59 rfl ?_
    obtain ⟨y2, e3, h⟩ := bd_s h
    refine V_rdI gf_X2_48 rfl rfl rfl e3 dX2_rest_60 ?_
    refine V_iload_n (i := 1) 2 dX2_rest_63 rfl rfl ?_
    refine V_iadd dX2_rest_64 ?_
    obtain ⟨σ4, e5, h⟩ := bd_s h
    refine V_wrI gw_X2_48 rfl rfl rfl e5 dX2_rest_65 ?_
    refine V_aload_n (i := 0) 1 dX2_rest_68 rfl rfl ?_
    obtain ⟨e6, e7, h⟩ := bd_s h
    obtain ⟨y8, σ9, e10, h⟩ := bp_s h
    refine V_callV_v (n9 := 0) (c := 1) (r := (RX2, TX2, 7)) [] (v_X2_warmest l G hst _ e10) rfl rfl (lw_V q1112 q1113 q1114 q77 q1115) (by decide +kernel) (by decide) (Nat.le_of_ble_eq_true rfl) (gk_k e7 rfl) rfl dX2_rest_69 ?_
    cases h
    exact V_iret rfl dX2_rest_72
  · replace h := it_f c1 h
    refine V_iconst (v := 0) dX2_rest_7 (by decide) ?_
    refine V_istore_n (i := 3) (L' := [(3, pI (0 : Int32)), (2, pI x2), (0, pR a0), (1, pI x1)]) dX2_rest_8 rfl (by decide) rfl ?_
    refine V_sub [0, 1, 2, 3] rfl ?_
    exact v_X2_rest_9 hst hk2 FU _ _ _ _ _ h
def f_X2_rest_2 : Nat → Hp → Int32 → Nat → Int32 → Option (Int32 × Hp)
  | 0, _, _, _, _ => none
  | n + 1, σ, x2, a0, x1 => f_X2_rest_2_b (f_X2_rest_2 n) σ x2 a0 x1
theorem v_X2_rest_2 {l : Launch} {G : Gx} (hst : l.stackTraces = false) {σ0 σe : Hp} {Se : Ms} {r : Int32} : ∀ (n : Nat) (σ : Hp) (x2 : Int32) (a0 : Nat) (x1 : Int32), f_X2_rest_2 n σ x2 a0 x1 = some (r, σe) → VV_X2_rest l G σ0 (.inl (some (pI r))) σe Se 2 [(2, pI x2), (0, pR a0), (1, pI x1)] [] σ Se
  | 0, _, _, _, _, h => by cases h
  | n + 1, _, _, _, _, h => v_X2_rest_2_b hst (v_X2_rest_2 hst n) h
def f_X2_rest (σ : Hp) (a0 : Nat) (x1 : Int32) : Option (Int32 × Hp) :=
  f_X2_rest_2 FU σ (0 : Int32) a0 x1
set_option maxHeartbeats 4000000 in
theorem v_X2_rest (l : Launch) (G : Gx) (hst : l.stackTraces = false) (S : Ms) {σ σe : Hp} {a0 : Nat} {x1 : Int32} {r : Int32} (h : f_X2_rest σ a0 x1 = some (r, σe)) : MT l G yX2_rest (ws_ yX2_rest cX2_rest 5 (some .int)) 5 116 [pR a0, pI x1] σ S (.inl (some (pI r))) σe S := by
  refine MT_of (own := RX2) (nL := 5) (ini := false) (by decide +kernel) rfl (Nat.le_of_ble_eq_true rfl) (fun h => by cases h) hst ?_
  show VV_X2_rest l G σ (.inl (some (pI r))) σe S 0 [(0, pR a0), (1, pI x1)] [] σ S
  unfold f_X2_rest at h
  refine V_iconst (v := 0) dX2_rest_0 (by decide) ?_
  refine V_istore_n (i := 2) (L' := [(2, pI (0 : Int32)), (0, pR a0), (1, pI x1)]) dX2_rest_1 rfl (by decide) rfl ?_
  refine V_sub [0, 1, 2] rfl ?_
  exact v_X2_rest_2 hst FU _ _ _ _ h

abbrev VV_X2_refusal (l : Launch) (G : Gx) (σ0 : Hp) (o : Oc) (σe : Hp) (Se : Ms) := V l G RX2 cX2_refusal 4 (some .int) [] false 4 94 σ0 o σe Se
def f_X2_refusal_72 (σ : Hp) (s0 : Int32) : Option (Int32 × Hp) :=
  some (s0, σ)
set_option maxHeartbeats 4000000 in
theorem v_X2_refusal_72 {l : Launch} {G : Gx} (hst : l.stackTraces = false) {σ0 σe : Hp} {Se : Ms} {r : Int32} {σ : Hp} {s0 : Int32} (h : f_X2_refusal_72 σ s0 = some (r, σe)) : VV_X2_refusal l G σ0 (.inl (some (pI r))) σe Se 72 [] [pI s0] σ Se := by
  unfold f_X2_refusal_72 at h
  cases h
  exact V_iret rfl dX2_refusal_72
def f_X2_refusal (σ : Hp) (a0 : Nat) (x1 : Int32) (x2 : Int32) : Option (Int32 × Hp) :=
  bd (rdR σ 2 a0 20) fun b1 => bd (gk σ 10 b1) fun e3 => bp (f_J2_get σ b1 x2) fun b5 σ6 => bd (ckC σ6 3 b5) fun e8 => bd (gk σ6 3 b5) fun e10 => bp (f_X4_isFree σ6 b5) fun y12 σ13 => if y12 = (0 : Int32) then (some ((1 : Int32), σ13)) else (bd (rdR σ13 2 a0 21) fun b16 => bd (gk σ13 10 b16) fun e18 => bp (f_J2_get σ13 b16 x1) fun b20 σ21 => bd (ckC σ21 10 b20) fun e23 => bd (gk σ21 10 b20) fun e25 => bp (f_J2_size σ21 b20) fun y27 σ28 => if y27 = (6 : Int32) then (some ((2 : Int32), σ28)) else (bd (rdI σ28 3 b5 33) fun y31 => bd (rdR σ28 2 a0 22) fun b33 => bd (elI σ28 101 b33 (1 : Int32)) fun y35 => if y31 ≤ y35 then (bd (gk σ28 3 b5) fun e38 => bp (f_X4_grade σ28 b5) fun y40 σ41 => if y40 = (3 : Int32) then (f_X2_refusal_72 σ41 (4 : Int32)) else (f_X2_refusal_72 σ41 (0 : Int32))) else (f_X2_refusal_72 σ28 (3 : Int32))))
set_option maxHeartbeats 4000000 in
theorem v_X2_refusal (l : Launch) (G : Gx) (hst : l.stackTraces = false) (S : Ms) {σ σe : Hp} {a0 : Nat} {x1 : Int32} {x2 : Int32} {r : Int32} (h : f_X2_refusal σ a0 x1 x2 = some (r, σe)) : MT l G yX2_refusal (ws_ yX2_refusal cX2_refusal 4 (some .int)) 4 94 [pR a0, pI x1, pI x2] σ S (.inl (some (pI r))) σe S := by
  refine MT_of (own := RX2) (nL := 4) (ini := false) (by decide +kernel) rfl (Nat.le_of_ble_eq_true rfl) (fun h => by cases h) hst ?_
  show VV_X2_refusal l G σ (.inl (some (pI r))) σe S 0 [(0, pR a0), (1, pI x1), (2, pI x2)] [] σ S
  unfold f_X2_refusal at h
  refine V_aload_n (i := 0) 0 dX2_refusal_0 rfl rfl ?_
  obtain ⟨b1, e2, h⟩ := bd_s h
  refine V_rdR gf_X2_12 rfl rfl rfl e2 dX2_refusal_1 ?_
  refine V_iload_n (i := 2) 2 dX2_refusal_4 rfl rfl ?_
  obtain ⟨e3, e4, h⟩ := bd_s h
  obtain ⟨b5, σ6, e7, h⟩ := bp_s h
  refine V_callV_v (n9 := 1) (c := 9) (r := (RJ2, TJ2, 3)) [] (v_J2_get l G hst _ e7) rfl rfl (lw_V q936 q937 q938 q80 q939) (by decide +kernel) (by decide) (Nat.le_of_ble_eq_true rfl) (gk_k e4 rfl) rfl dX2_refusal_5 ?_
  obtain ⟨e8, e9, h⟩ := bd_s h
  refine V_ckC (c := 2) e9 q948 rfl (Or.inl rfl) dX2_refusal_8 ?_
  refine V_astore_n (i := 3) (L' := [(3, pR b5), (0, pR a0), (1, pI x1), (2, pI x2)]) dX2_refusal_11 rfl (by decide) rfl ?_
  refine V_aload_n (i := 3) 0 dX2_refusal_12 rfl rfl ?_
  obtain ⟨e10, e11, h⟩ := bd_s h
  obtain ⟨y12, σ13, e14, h⟩ := bp_s h
  refine V_callV_v (n9 := 0) (c := 2) (r := (RX4, TX4, 6)) [] (v_X4_isFree l G hst _ e14) rfl rfl (lw_V q1142 q1056 q1057 q98 q1058) (by decide +kernel) (by decide) (Nat.le_of_ble_eq_true rfl) (gk_k e11 rfl) rfl dX2_refusal_13 ?_
  refine V_if_ne 21 dX2_refusal_16 (by decide) (fun c15 => ?_) (fun c15 => ?_)
  · replace h := it_f c15 h
    refine V_aload_n (i := 0) 1 dX2_refusal_21 rfl rfl ?_
    obtain ⟨b16, e17, h⟩ := bd_s h
    refine V_rdR gf_X2_18 rfl rfl rfl e17 dX2_refusal_22 ?_
    refine V_iload_n (i := 1) 2 dX2_refusal_25 rfl rfl ?_
    obtain ⟨e18, e19, h⟩ := bd_s h
    obtain ⟨b20, σ21, e22, h⟩ := bp_s h
    refine V_callV_v (n9 := 1) (c := 9) (r := (RJ2, TJ2, 3)) [] (v_J2_get l G hst _ e22) rfl rfl (lw_V q936 q937 q938 q80 q939) (by decide +kernel) (by decide) (Nat.le_of_ble_eq_true rfl) (gk_k e19 rfl) rfl dX2_refusal_26 ?_
    obtain ⟨e23, e24, h⟩ := bd_s h
    refine V_ckC (c := 9) e24 q139 rfl (Or.inl rfl) dX2_refusal_29 ?_
    obtain ⟨e25, e26, h⟩ := bd_s h
    obtain ⟨y27, σ28, e29, h⟩ := bp_s h
    refine V_callV_v (n9 := 0) (c := 9) (r := (RJ2, TJ2, 3)) [] (v_J2_size l G hst _ e29) rfl rfl (lw_V q935 q861 q862 q80 q863) (by decide +kernel) (by decide) (Nat.le_of_ble_eq_true rfl) (gk_k e26 rfl) rfl dX2_refusal_32 ?_
    refine V_bipush (v := 6) dX2_refusal_35 (by decide) ?_
    refine V_icmp_ne 42 dX2_refusal_37 (by decide) (fun c30 => ?_) (fun c30 => ?_)
    · replace h := it_f c30 h
      refine V_aload_n (i := 3) 0 dX2_refusal_42 rfl rfl ?_
      obtain ⟨y31, e32, h⟩ := bd_s h
      refine V_rdI gf_X2_71 rfl rfl rfl e32 dX2_refusal_43 ?_
      refine V_aload_n (i := 0) 1 dX2_refusal_46 rfl rfl ?_
      obtain ⟨b33, e34, h⟩ := bd_s h
      refine V_rdR gf_X2_21 rfl rfl rfl e34 dX2_refusal_47 ?_
      refine V_iconst (v := 1) dX2_refusal_50 (by decide) ?_
      obtain ⟨y35, e36, h⟩ := bd_s h
      refine V_elI1 e36 dX2_refusal_51 ?_
      refine V_icmp_le 59 dX2_refusal_52 (by decide) (fun c37 => ?_) (fun c37 => ?_)
      · replace h := it_t c37 h
        refine V_aload_n (i := 3) 0 dX2_refusal_59 rfl rfl ?_
        obtain ⟨e38, e39, h⟩ := bd_s h
        obtain ⟨y40, σ41, e42, h⟩ := bp_s h
        refine V_callV_v (n9 := 0) (c := 2) (r := (RX4, TX4, 6)) [] (v_X4_grade l G hst _ e42) rfl rfl (lw_V q1143 q1082 q1083 q98 q1084) (by decide +kernel) (by decide) (Nat.le_of_ble_eq_true rfl) (gk_k e39 rfl) rfl dX2_refusal_60 ?_
        refine V_iconst (v := 3) dX2_refusal_63 (by decide) ?_
        refine V_icmp_ne 71 dX2_refusal_64 (by decide) (fun c43 => ?_) (fun c43 => ?_)
        · replace h := it_f c43 h
          refine V_iconst (v := 0) dX2_refusal_71 (by decide) ?_
          refine V_sub [] rfl ?_
          exact v_X2_refusal_72 hst h
        · replace h := it_t c43 h
          refine V_iconst (v := 4) dX2_refusal_67 (by decide) ?_
          refine V_goto 72 dX2_refusal_68 (by decide) ?_
          refine V_sub [] rfl ?_
          exact v_X2_refusal_72 hst h
      · replace h := it_f c37 h
        refine V_iconst (v := 3) dX2_refusal_55 (by decide) ?_
        refine V_goto 72 dX2_refusal_56 (by decide) ?_
        refine V_sub [] rfl ?_
        exact v_X2_refusal_72 hst h
    · replace h := it_t c30 h
      refine V_iconst (v := 2) dX2_refusal_40 (by decide) ?_
      cases h
      exact V_iret rfl dX2_refusal_41
  · replace h := it_t c15 h
    refine V_iconst (v := 1) dX2_refusal_19 (by decide) ?_
    cases h
    exact V_iret rfl dX2_refusal_20

abbrev VV_J2_isEmpty (l : Launch) (G : Gx) (σ0 : Hp) (o : Oc) (σe : Hp) (Se : Ms) := V l G RJ2 cJ2_isEmpty 1 (some .boolean) [] false 1 30 σ0 o σe Se
def f_J2_isEmpty_12 (σ : Hp) (s0 : Int32) : Option (Int32 × Hp) :=
  bd (okZ s0) fun e1 => some (s0, σ)
set_option maxHeartbeats 4000000 in
theorem v_J2_isEmpty_12 {l : Launch} {G : Gx} (hst : l.stackTraces = false) {σ0 σe : Hp} {Se : Ms} {r : Int32} {σ : Hp} {s0 : Int32} (h : f_J2_isEmpty_12 σ s0 = some (r, σe)) : VV_J2_isEmpty l G σ0 (.inl (some (pI r))) σe Se 12 [] [pI s0] σ Se := by
  unfold f_J2_isEmpty_12 at h
  obtain ⟨e1, e2, h⟩ := bd_s h
  cases h
  exact V_retZ e2 rfl dJ2_isEmpty_12
def f_J2_isEmpty (σ : Hp) (a0 : Nat) : Option (Int32 × Hp) :=
  bd (rdI σ 10 a0 102) fun y1 => if y1 = (0 : Int32) then (f_J2_isEmpty_12 σ (1 : Int32)) else (f_J2_isEmpty_12 σ (0 : Int32))
set_option maxHeartbeats 4000000 in
theorem v_J2_isEmpty (l : Launch) (G : Gx) (hst : l.stackTraces = false) (S : Ms) {σ σe : Hp} {a0 : Nat} {r : Int32} (h : f_J2_isEmpty σ a0 = some (r, σe)) : MT l G yJ2_isEmpty (ws_ yJ2_isEmpty cJ2_isEmpty 1 (some .boolean)) 1 30 [pR a0] σ S (.inl (some (pI r))) σe S := by
  refine MT_of (own := RJ2) (nL := 1) (ini := false) (by decide +kernel) rfl (Nat.le_of_ble_eq_true rfl) (fun h => by cases h) hst ?_
  show VV_J2_isEmpty l G σ (.inl (some (pI r))) σe S 0 [(0, pR a0)] [] σ S
  unfold f_J2_isEmpty at h
  refine V_aload_n (i := 0) 0 dJ2_isEmpty_0 rfl rfl ?_
  obtain ⟨y1, e2, h⟩ := bd_s h
  refine V_rdI gf_J2_48 rfl rfl rfl e2 dJ2_isEmpty_1 ?_
  refine V_if_ne 11 dJ2_isEmpty_4 (by decide) (fun c3 => ?_) (fun c3 => ?_)
  · replace h := it_f c3 h
    refine V_iconst (v := 0) dJ2_isEmpty_11 (by decide) ?_
    refine V_sub [] rfl ?_
    exact v_J2_isEmpty_12 hst h
  · replace h := it_t c3 h
    refine V_iconst (v := 1) dJ2_isEmpty_7 (by decide) ?_
    refine V_goto 12 dJ2_isEmpty_8 (by decide) ?_
    refine V_sub [] rfl ?_
    exact v_J2_isEmpty_12 hst h

abbrev VV_X2_top (l : Launch) (G : Gx) (σ0 : Hp) (o : Oc) (σe : Hp) (Se : Ms) := V l G RX2 cX2_top 3 (some (.object "GaugeBlocks$Block")) [] false 4 94 σ0 o σe Se
def f_X2_top_36 (σ : Hp) (t0 : Nat) : Option (Nat × Hp) :=
  some (t0, σ)
set_option maxHeartbeats 4000000 in
theorem v_X2_top_36 {l : Launch} {G : Gx} (hst : l.stackTraces = false) {σ0 σe : Hp} {Se : Ms} {r : Nat} {σ : Hp} {t0 : Nat} (h : f_X2_top_36 σ t0 = some (r, σe)) : VV_X2_top l G σ0 (.inl (some (pR r))) σe Se 36 [] [pR t0] σ Se := by
  unfold f_X2_top_36 at h
  cases h
  exact V_aret rfl (Or.inl ⟨_, rfl⟩) dX2_top_36
def f_X2_top (σ : Hp) (a0 : Nat) (x1 : Int32) : Option (Nat × Hp) :=
  bd (rdR σ 2 a0 21) fun b1 => bd (gk σ 10 b1) fun e3 => bp (f_J2_get σ b1 x1) fun b5 σ6 => bd (ckC σ6 10 b5) fun e8 => bd (gk σ6 10 b5) fun e10 => bp (f_J2_isEmpty σ6 b5) fun y12 σ13 => if y12 = (0 : Int32) then (bd (gk σ13 10 b5) fun e16 => bp (f_J2_size σ13 b5) fun y18 σ19 => bd (gk σ19 10 b5) fun e21 => bp (f_J2_get σ19 b5 (y18 - (1 : Int32))) fun b23 σ24 => bd (ckC σ24 3 b23) fun e26 => f_X2_top_36 σ24 b23) else (f_X2_top_36 σ13 0)
set_option maxHeartbeats 4000000 in
theorem v_X2_top (l : Launch) (G : Gx) (hst : l.stackTraces = false) (S : Ms) {σ σe : Hp} {a0 : Nat} {x1 : Int32} {r : Nat} (h : f_X2_top σ a0 x1 = some (r, σe)) : MT l G yX2_top (ws_ yX2_top cX2_top 3 (some (.object "GaugeBlocks$Block"))) 4 94 [pR a0, pI x1] σ S (.inl (some (pR r))) σe S := by
  refine MT_of (own := RX2) (nL := 3) (ini := false) (by decide +kernel) rfl (Nat.le_of_ble_eq_true rfl) (fun h => by cases h) hst ?_
  show VV_X2_top l G σ (.inl (some (pR r))) σe S 0 [(0, pR a0), (1, pI x1)] [] σ S
  unfold f_X2_top at h
  refine V_aload_n (i := 0) 0 dX2_top_0 rfl rfl ?_
  obtain ⟨b1, e2, h⟩ := bd_s h
  refine V_rdR gf_X2_18 rfl rfl rfl e2 dX2_top_1 ?_
  refine V_iload_n (i := 1) 1 dX2_top_4 rfl rfl ?_
  obtain ⟨e3, e4, h⟩ := bd_s h
  obtain ⟨b5, σ6, e7, h⟩ := bp_s h
  refine V_callV_v (n9 := 1) (c := 9) (r := (RJ2, TJ2, 3)) [] (v_J2_get l G hst _ e7) rfl rfl (lw_V q936 q937 q938 q80 q939) (by decide +kernel) (by decide) (Nat.le_of_ble_eq_true rfl) (gk_k e4 rfl) rfl dX2_top_5 ?_
  obtain ⟨e8, e9, h⟩ := bd_s h
  refine V_ckC (c := 9) e9 q139 rfl (Or.inl rfl) dX2_top_8 ?_
  refine V_astore_n (i := 2) (L' := [(2, pR b5), (0, pR a0), (1, pI x1)]) dX2_top_11 rfl (by decide) rfl ?_
  refine V_aload_n (i := 2) 0 dX2_top_12 rfl rfl ?_
  obtain ⟨e10, e11, h⟩ := bd_s h
  obtain ⟨y12, σ13, e14, h⟩ := bp_s h
  refine V_callV_v (n9 := 0) (c := 9) (r := (RJ2, TJ2, 3)) [] (v_J2_isEmpty l G hst _ e14) rfl rfl (lw_V q1148 q857 q858 q80 q859) (by decide +kernel) (by decide) (Nat.le_of_ble_eq_true rfl) (gk_k e11 rfl) rfl dX2_top_13 ?_
  refine V_if_eq 23 dX2_top_16 (by decide) (fun c15 => ?_) (fun c15 => ?_)
  · replace h := it_t c15 h
    refine V_aload_n (i := 2) 0 dX2_top_23 rfl rfl ?_
    refine V_aload_n (i := 2) 0 dX2_top_24 rfl rfl ?_
    obtain ⟨e16, e17, h⟩ := bd_s h
    obtain ⟨y18, σ19, e20, h⟩ := bp_s h
    refine V_callV_v (n9 := 0) (c := 9) (r := (RJ2, TJ2, 3)) [pR b5] (v_J2_size l G hst _ e20) rfl rfl (lw_V q935 q861 q862 q80 q863) (by decide +kernel) (by decide) (Nat.le_of_ble_eq_true rfl) (gk_k e17 rfl) rfl dX2_top_25 ?_
    refine V_iconst (v := 1) dX2_top_28 (by decide) ?_
    refine V_isub dX2_top_29 ?_
    obtain ⟨e21, e22, h⟩ := bd_s h
    obtain ⟨b23, σ24, e25, h⟩ := bp_s h
    refine V_callV_v (n9 := 1) (c := 9) (r := (RJ2, TJ2, 3)) [] (v_J2_get l G hst _ e25) rfl rfl (lw_V q936 q937 q938 q80 q939) (by decide +kernel) (by decide) (Nat.le_of_ble_eq_true rfl) (gk_k e22 rfl) rfl dX2_top_30 ?_
    obtain ⟨e26, e27, h⟩ := bd_s h
    refine V_ckC (c := 2) e27 q948 rfl (Or.inl rfl) dX2_top_33 ?_
    refine V_sub [] rfl ?_
    exact v_X2_top_36 hst h
  · replace h := it_f c15 h
    refine V_null dX2_top_19 ?_
    refine V_goto 36 dX2_top_20 (by decide) ?_
    refine V_sub [] rfl ?_
    exact v_X2_top_36 hst h

abbrev VV_X2_touch (l : Launch) (G : Gx) (σ0 : Hp) (o : Oc) (σe : Hp) (Se : Ms) := V l G RX2 cX2_touch 3 none [] false 2 51 σ0 o σe Se
def f_X2_touch_44 (σ : Hp) : Option (Unit × Hp) :=
  some ((), σ)
set_option maxHeartbeats 4000000 in
theorem v_X2_touch_44 {l : Launch} {G : Gx} (hst : l.stackTraces = false) {σ0 σe : Hp} {Se : Ms} {r : Unit} {σ : Hp} (h : f_X2_touch_44 σ  = some (r, σe)) : VV_X2_touch l G σ0 (.inl none) σe Se 44 [] [] σ Se := by
  unfold f_X2_touch_44 at h
  cases h
  exact V_vret rfl dX2_touch_44
def f_X2_touch (σ : Hp) (a0 : Nat) (a1 : Nat) (a2 : Nat) : Option (Unit × Hp) :=
  bd (rdR σ 2 a0 22) fun b1 => bd (elI σ 101 b1 (3 : Int32)) fun y3 => bd (gk σ 3 a1) fun e5 => bp (f_X4_warm σ a1 y3) fun e7 σ8 => if a2 = 0 then (f_X2_touch_44 σ8 ) else (bd (rdI σ8 3 a1 32) fun y11 => bd (rdR σ8 2 a0 22) fun b13 => bd (elI σ8 101 b13 (2 : Int32)) fun y15 => bd (wrI σ8 3 a1 32 (y11 + y15)) fun σ17 => bd (rdI σ17 3 a2 32) fun y19 => bd (rdR σ17 2 a0 22) fun b21 => bd (elI σ17 101 b21 (2 : Int32)) fun y23 => bd (wrI σ17 3 a2 32 (y19 + y23)) fun σ25 => f_X2_touch_44 σ25 )
set_option maxHeartbeats 4000000 in
theorem v_X2_touch (l : Launch) (G : Gx) (hst : l.stackTraces = false) (S : Ms) {σ σe : Hp} {a0 : Nat} {a1 : Nat} {a2 : Nat} {r : Unit} (h : f_X2_touch σ a0 a1 a2 = some (r, σe)) : MT l G yX2_touch (ws_ yX2_touch cX2_touch 3 none) 2 51 [pR a0, pR a1, pR a2] σ S (.inl none) σe S := by
  refine MT_of (own := RX2) (nL := 3) (ini := false) (by decide +kernel) rfl (Nat.le_of_ble_eq_true rfl) (fun h => by cases h) hst ?_
  show VV_X2_touch l G σ (.inl none) σe S 0 [(0, pR a0), (1, pR a1), (2, pR a2)] [] σ S
  unfold f_X2_touch at h
  refine V_aload_n (i := 1) 1 dX2_touch_0 rfl rfl ?_
  refine V_aload_n (i := 0) 0 dX2_touch_1 rfl rfl ?_
  obtain ⟨b1, e2, h⟩ := bd_s h
  refine V_rdR gf_X2_21 rfl rfl rfl e2 dX2_touch_2 ?_
  refine V_iconst (v := 3) dX2_touch_5 (by decide) ?_
  obtain ⟨y3, e4, h⟩ := bd_s h
  refine V_elI1 e4 dX2_touch_6 ?_
  obtain ⟨e5, e6, h⟩ := bd_s h
  obtain ⟨e7, σ8, e9, h⟩ := bp_s h
  refine V_callV_0 (n9 := 1) (c := 2) (r := (RX4, TX4, 6)) [] (v_X4_warm l G hst _ e9) rfl rfl (lw_V q1153 q1094 q1095 q98 q1096) (by decide +kernel) (by decide) (Nat.le_of_ble_eq_true rfl) (gk_k e6 rfl) rfl dX2_touch_7 ?_
  refine V_aload_n (i := 2) 2 dX2_touch_10 rfl rfl ?_
  refine V_ifnull 44 dX2_touch_11 (by decide) (fun c10 => ?_) (fun c10 => ?_)
  · replace h := it_t c10 h
    refine V_sub [] rfl ?_
    exact v_X2_touch_44 hst h
  · replace h := it_f c10 h
    refine V_aload_n (i := 1) 1 dX2_touch_14 rfl rfl ?_
    refine V_dup dX2_touch_15 rfl ?_
    obtain ⟨y11, e12, h⟩ := bd_s h
    refine V_rdI gf_X2_81 rfl rfl rfl e12 dX2_touch_16 ?_
    refine V_aload_n (i := 0) 0 dX2_touch_19 rfl rfl ?_
    obtain ⟨b13, e14, h⟩ := bd_s h
    refine V_rdR gf_X2_21 rfl rfl rfl e14 dX2_touch_20 ?_
    refine V_iconst (v := 2) dX2_touch_23 (by decide) ?_
    obtain ⟨y15, e16, h⟩ := bd_s h
    refine V_elI1 e16 dX2_touch_24 ?_
    refine V_iadd dX2_touch_25 ?_
    obtain ⟨σ17, e18, h⟩ := bd_s h
    refine V_wrI gw_X2_81 rfl rfl rfl e18 dX2_touch_26 ?_
    refine V_aload_n (i := 2) 2 dX2_touch_29 rfl rfl ?_
    refine V_dup dX2_touch_30 rfl ?_
    obtain ⟨y19, e20, h⟩ := bd_s h
    refine V_rdI gf_X2_81 rfl rfl rfl e20 dX2_touch_31 ?_
    refine V_aload_n (i := 0) 0 dX2_touch_34 rfl rfl ?_
    obtain ⟨b21, e22, h⟩ := bd_s h
    refine V_rdR gf_X2_21 rfl rfl rfl e22 dX2_touch_35 ?_
    refine V_iconst (v := 2) dX2_touch_38 (by decide) ?_
    obtain ⟨y23, e24, h⟩ := bd_s h
    refine V_elI1 e24 dX2_touch_39 ?_
    refine V_iadd dX2_touch_40 ?_
    obtain ⟨σ25, e26, h⟩ := bd_s h
    refine V_wrI gw_X2_81 rfl rfl rfl e26 dX2_touch_41 ?_
    refine V_sub [] rfl ?_
    exact v_X2_touch_44 hst h

abbrev VV_X2_wring (l : Launch) (G : Gx) (σ0 : Hp) (o : Oc) (σe : Hp) (Se : Ms) := V l G RX2 cX2_wring 5 (some .int) [] false 7 211 σ0 o σe Se
def f_X2_wring (σ : Hp) (a0 : Nat) (x1 : Int32) (x2 : Int32) : Option (Int32 × Hp) :=
  bd (gk σ 2 a0) fun e1 => bp (f_X2_refusal σ a0 x1 x2) fun y3 σ4 => if y3 ≤ (0 : Int32) then (bd (rdR σ4 2 a0 20) fun b7 => bd (gk σ4 10 b7) fun e9 => bp (f_J2_get σ4 b7 x2) fun b11 σ12 => bd (ckC σ12 3 b11) fun e14 => bd (gk σ12 2 a0) fun e16 => bp (f_X2_top σ12 a0 x1) fun b18 σ19 => bd (gk σ19 2 a0) fun e21 => bp (f_X2_touch σ19 a0 b11 b18) fun e23 σ24 => bd (rdR σ24 2 a0 21) fun b26 => bd (gk σ24 10 b26) fun e28 => bp (f_J2_get σ24 b26 x1) fun b30 σ31 => bd (ckC σ31 10 b30) fun e33 => bd (gk σ31 10 b30) fun e35 => bp (f_J2_add σ31 b30 b11) fun y37 σ38 => bd (wrI σ38 3 b11 35 x1) fun σ40 => bd (rdI σ40 3 b11 34) fun y42 => bd (wrI σ40 3 b11 34 (y42 + (1 : Int32))) fun σ44 => bd (rdI σ44 2 a0 24) fun y46 => bd (wrI σ44 2 a0 24 (y46 + (1 : Int32))) fun σ48 => some ((0 : Int32), σ48)) else (bd (rdI σ4 2 a0 26) fun y50 => bd (wrI σ4 2 a0 26 (y50 + (1 : Int32))) fun σ52 => some (y3, σ52))
set_option maxHeartbeats 4000000 in
theorem v_X2_wring (l : Launch) (G : Gx) (hst : l.stackTraces = false) (S : Ms) {σ σe : Hp} {a0 : Nat} {x1 : Int32} {x2 : Int32} {r : Int32} (h : f_X2_wring σ a0 x1 x2 = some (r, σe)) : MT l G yX2_wring (ws_ yX2_wring cX2_wring 5 (some .int)) 7 211 [pR a0, pI x1, pI x2] σ S (.inl (some (pI r))) σe S := by
  refine MT_of (own := RX2) (nL := 5) (ini := false) (by decide +kernel) rfl (Nat.le_of_ble_eq_true rfl) (fun h => by cases h) hst ?_
  show VV_X2_wring l G σ (.inl (some (pI r))) σe S 0 [(0, pR a0), (1, pI x1), (2, pI x2)] [] σ S
  unfold f_X2_wring at h
  refine V_aload_n (i := 0) 0 dX2_wring_0 rfl rfl ?_
  refine V_iload_n (i := 1) 1 dX2_wring_1 rfl rfl ?_
  refine V_iload_n (i := 2) 2 dX2_wring_2 rfl rfl ?_
  obtain ⟨e1, e2, h⟩ := bd_s h
  obtain ⟨y3, σ4, e5, h⟩ := bp_s h
  refine V_callV_v (n9 := 2) (c := 1) (r := (RX2, TX2, 7)) [] (v_X2_refusal l G hst _ e5) rfl rfl (lw_V q1138 q1139 q1140 q77 q1141) (by decide +kernel) (by decide) (Nat.le_of_ble_eq_true rfl) (gk_k e2 rfl) rfl dX2_wring_3 ?_
  refine V_istore_n (i := 3) (L' := [(3, pI y3), (0, pR a0), (1, pI x1), (2, pI x2)]) dX2_wring_6 rfl (by decide) rfl ?_
  refine V_iload_n (i := 3) 0 dX2_wring_7 rfl rfl ?_
  refine V_if_le 23 dX2_wring_8 (by decide) (fun c6 => ?_) (fun c6 => ?_)
  · replace h := it_t c6 h
    refine V_aload_n (i := 0) 1 dX2_wring_23 rfl rfl ?_
    obtain ⟨b7, e8, h⟩ := bd_s h
    refine V_rdR gf_X2_12 rfl rfl rfl e8 dX2_wring_24 ?_
    refine V_iload_n (i := 2) 3 dX2_wring_27 rfl rfl ?_
    obtain ⟨e9, e10, h⟩ := bd_s h
    obtain ⟨b11, σ12, e13, h⟩ := bp_s h
    refine V_callV_v (n9 := 1) (c := 9) (r := (RJ2, TJ2, 3)) [] (v_J2_get l G hst _ e13) rfl rfl (lw_V q936 q937 q938 q80 q939) (by decide +kernel) (by decide) (Nat.le_of_ble_eq_true rfl) (gk_k e10 rfl) rfl dX2_wring_28 ?_
    obtain ⟨e14, e15, h⟩ := bd_s h
    refine V_ckC (c := 2) e15 q948 rfl (Or.inl rfl) dX2_wring_31 ?_
    refine V_astore (i := 4) (L' := [(4, pR b11), (3, pI y3), (0, pR a0), (1, pI x1), (2, pI x2)]) dX2_wring_34 (by decide) rfl ?_
    refine V_aload_n (i := 0) 2 dX2_wring_36 rfl rfl ?_
    refine V_aload (i := 4) 0 dX2_wring_37 rfl ?_
    refine V_aload_n (i := 0) 2 dX2_wring_39 rfl rfl ?_
    refine V_iload_n (i := 1) 3 dX2_wring_40 rfl rfl ?_
    obtain ⟨e16, e17, h⟩ := bd_s h
    obtain ⟨b18, σ19, e20, h⟩ := bp_s h
    refine V_callV_v (n9 := 1) (c := 1) (r := (RX2, TX2, 7)) [pR b11, pR a0] (v_X2_top l G hst _ e20) rfl rfl (lw_V q1144 q1145 q1146 q77 q1147) (by decide +kernel) (by decide) (Nat.le_of_ble_eq_true rfl) (gk_k e17 rfl) rfl dX2_wring_41 ?_
    obtain ⟨e21, e22, h⟩ := bd_s h
    obtain ⟨e23, σ24, e25, h⟩ := bp_s h
    refine V_callV_0 (n9 := 2) (c := 1) (r := (RX2, TX2, 7)) [] (v_X2_touch l G hst _ e25) rfl rfl (lw_V q1149 q1151 qs15 q77 q1152) (by decide +kernel) (by decide) (Nat.le_of_ble_eq_true rfl) (gk_k e22 rfl) rfl dX2_wring_44 ?_
    refine V_aload_n (i := 0) 2 dX2_wring_47 rfl rfl ?_
    obtain ⟨b26, e27, h⟩ := bd_s h
    refine V_rdR gf_X2_18 rfl rfl rfl e27 dX2_wring_48 ?_
    refine V_iload_n (i := 1) 3 dX2_wring_51 rfl rfl ?_
    obtain ⟨e28, e29, h⟩ := bd_s h
    obtain ⟨b30, σ31, e32, h⟩ := bp_s h
    refine V_callV_v (n9 := 1) (c := 9) (r := (RJ2, TJ2, 3)) [] (v_J2_get l G hst _ e32) rfl rfl (lw_V q936 q937 q938 q80 q939) (by decide +kernel) (by decide) (Nat.le_of_ble_eq_true rfl) (gk_k e29 rfl) rfl dX2_wring_52 ?_
    obtain ⟨e33, e34, h⟩ := bd_s h
    refine V_ckC (c := 9) e34 q139 rfl (Or.inl rfl) dX2_wring_55 ?_
    refine V_aload (i := 4) 0 dX2_wring_58 rfl ?_
    obtain ⟨e35, e36, h⟩ := bd_s h
    obtain ⟨y37, σ38, e39, h⟩ := bp_s h
    refine V_callV_v (n9 := 1) (c := 9) (r := (RJ2, TJ2, 3)) [] (v_J2_add l G hst _ e39) rfl rfl (lw_V q168 q169 q170 q80 q171) (by decide +kernel) (by decide) (Nat.le_of_ble_eq_true rfl) (gk_k e36 rfl) rfl dX2_wring_60 ?_
    refine V_pop dX2_wring_63 rfl ?_
    refine V_aload (i := 4) 0 dX2_wring_64 rfl ?_
    refine V_iload_n (i := 1) 3 dX2_wring_66 rfl rfl ?_
    obtain ⟨σ40, e41, h⟩ := bd_s h
    refine V_wrI gw_X2_96 rfl rfl rfl e41 dX2_wring_67 ?_
    refine V_aload (i := 4) 0 dX2_wring_70 rfl ?_
    refine V_dup dX2_wring_72 rfl ?_
    obtain ⟨y42, e43, h⟩ := bd_s h
    refine V_rdI gf_X2_99 rfl rfl rfl e43 dX2_wring_73 ?_
    refine V_iconst (v := 1) dX2_wring_76 (by decide) ?_
    refine V_iadd dX2_wring_77 ?_
    obtain ⟨σ44, e45, h⟩ := bd_s h
    refine V_wrI gw_X2_99 rfl rfl rfl e45 dX2_wring_78 ?_
    refine V_aload_n (i := 0) 2 dX2_wring_81 rfl rfl ?_
    refine V_dup dX2_wring_82 rfl ?_
    obtain ⟨y46, e47, h⟩ := bd_s h
    refine V_rdI gf_X2_52 rfl rfl rfl e47 dX2_wring_83 ?_
    refine V_iconst (v := 1) dX2_wring_86 (by decide) ?_
    refine V_iadd dX2_wring_87 ?_
    obtain ⟨σ48, e49, h⟩ := bd_s h
    refine V_wrI gw_X2_52 rfl rfl rfl e49 dX2_wring_88 ?_
    refine V_iconst (v := 0) dX2_wring_91 (by decide) ?_
    cases h
    exact V_iret rfl dX2_wring_92
  · replace h := it_f c6 h
    refine V_aload_n (i := 0) 1 dX2_wring_11 rfl rfl ?_
    refine V_dup dX2_wring_12 rfl ?_
    obtain ⟨y50, e51, h⟩ := bd_s h
    refine V_rdI gf_X2_58 rfl rfl rfl e51 dX2_wring_13 ?_
    refine V_iconst (v := 1) dX2_wring_16 (by decide) ?_
    refine V_iadd dX2_wring_17 ?_
    obtain ⟨σ52, e53, h⟩ := bd_s h
    refine V_wrI gw_X2_58 rfl rfl rfl e53 dX2_wring_18 ?_
    refine V_iload_n (i := 3) 0 dX2_wring_21 rfl rfl ?_
    cases h
    exact V_iret rfl dX2_wring_22

abbrev VV_J2_fastRemove (l : Launch) (G : Gx) (σ0 : Hp) (o : Oc) (σe : Hp) (Se : Ms) := V l G RJ2 cJ2_fastRemove 4 none [] false 1 80 σ0 o σe Se
def f_J2_fastRemove_34 (σ : Hp) (x3 : Int32) (a0 : Nat) (a1 : Nat) : Option (Unit × Hp) :=
  bd (wrI σ 10 a0 102 x3) fun σ1 => bd (stR σ1 105 a1 x3 0) fun σ3 => some ((), σ3)
set_option maxHeartbeats 4000000 in
theorem v_J2_fastRemove_34 {l : Launch} {G : Gx} (hst : l.stackTraces = false) {σ0 σe : Hp} {Se : Ms} {r : Unit} {σ : Hp} {x3 : Int32} {a0 : Nat} {a1 : Nat} (h : f_J2_fastRemove_34 σ x3 a0 a1 = some (r, σe)) : VV_J2_fastRemove l G σ0 (.inl none) σe Se 34 [(3, pI x3), (0, pR a0), (1, pR a1)] [] σ Se := by
  unfold f_J2_fastRemove_34 at h
  refine V_aload_n (i := 1) 2 dJ2_fastRemove_34 rfl rfl ?_
  refine V_aload_n (i := 0) 1 dJ2_fastRemove_35 rfl rfl ?_
  refine V_iload_n (i := 3) 0 dJ2_fastRemove_36 rfl rfl ?_
  refine V_dup_x1 dJ2_fastRemove_37 rfl rfl ?_
  obtain ⟨σ1, e2, h⟩ := bd_s h
  refine V_wrI gw_J2_48 rfl rfl rfl e2 dJ2_fastRemove_38 ?_
  refine V_null dJ2_fastRemove_41 ?_
  obtain ⟨σ3, e4, h⟩ := bd_s h
  refine V_stR5 e4 dJ2_fastRemove_42 ?_
  cases h
  exact V_vret rfl dJ2_fastRemove_43
def f_J2_fastRemove (σ : Hp) (a0 : Nat) (a1 : Nat) (x2 : Int32) : Option (Unit × Hp) :=
  bd (rdI σ 10 a0 100) fun y1 => bd (wrI σ 10 a0 100 (y1 + (1 : Int32))) fun σ3 => bd (rdI σ3 10 a0 102) fun y5 => if (y5 - (1 : Int32)) ≤ x2 then (f_J2_fastRemove_34 σ3 (y5 - (1 : Int32)) a0 a1) else (bd (cpR σ3 a1 (x2 + (1 : Int32)) a1 x2 ((y5 - (1 : Int32)) - x2)) fun σ8 => f_J2_fastRemove_34 σ8 (y5 - (1 : Int32)) a0 a1)
set_option maxHeartbeats 4000000 in
theorem v_J2_fastRemove (l : Launch) (G : Gx) (hst : l.stackTraces = false) (S : Ms) {σ σe : Hp} {a0 : Nat} {a1 : Nat} {x2 : Int32} {r : Unit} (h : f_J2_fastRemove σ a0 a1 x2 = some (r, σe)) : MT l G yJ2_fastRemove (ws_ yJ2_fastRemove cJ2_fastRemove 4 none) 1 80 [pR a0, pR a1, pI x2] σ S (.inl none) σe S := by
  refine MT_of (own := RJ2) (nL := 4) (ini := false) (by decide +kernel) rfl (Nat.le_of_ble_eq_true rfl) (fun h => by cases h) hst ?_
  show VV_J2_fastRemove l G σ (.inl none) σe S 0 [(0, pR a0), (1, pR a1), (2, pI x2)] [] σ S
  unfold f_J2_fastRemove at h
  refine V_aload_n (i := 0) 0 dJ2_fastRemove_0 rfl rfl ?_
  refine V_dup dJ2_fastRemove_1 rfl ?_
  obtain ⟨y1, e2, h⟩ := bd_s h
  refine V_rdI gf_J2_63 rfl rfl rfl e2 dJ2_fastRemove_2 ?_
  refine V_iconst (v := 1) dJ2_fastRemove_5 (by decide) ?_
  refine V_iadd dJ2_fastRemove_6 ?_
  obtain ⟨σ3, e4, h⟩ := bd_s h
  refine V_wrI gw_J2_63 rfl rfl rfl e4 dJ2_fastRemove_7 ?_
  refine V_aload_n (i := 0) 0 dJ2_fastRemove_10 rfl rfl ?_
  obtain ⟨y5, e6, h⟩ := bd_s h
  refine V_rdI gf_J2_48 rfl rfl rfl e6 dJ2_fastRemove_11 ?_
  refine V_iconst (v := 1) dJ2_fastRemove_14 (by decide) ?_
  refine V_isub dJ2_fastRemove_15 ?_
  refine V_dup dJ2_fastRemove_16 rfl ?_
  refine V_istore_n (i := 3) (L' := [(3, pI (y5 - (1 : Int32))), (0, pR a0), (1, pR a1), (2, pI x2)]) dJ2_fastRemove_17 rfl (by decide) rfl ?_
  refine V_iload_n (i := 2) 3 dJ2_fastRemove_18 rfl rfl ?_
  refine V_icmp_le 34 dJ2_fastRemove_19 (by decide) (fun c7 => ?_) (fun c7 => ?_)
  · replace h := it_t c7 h
    refine V_sub [0, 1, 2] rfl ?_
    exact v_J2_fastRemove_34 hst h
  · replace h := it_f c7 h
    refine V_aload_n (i := 1) 2 dJ2_fastRemove_22 rfl rfl ?_
    refine V_iload_n (i := 2) 3 dJ2_fastRemove_23 rfl rfl ?_
    refine V_iconst (v := 1) dJ2_fastRemove_24 (by decide) ?_
    refine V_iadd dJ2_fastRemove_25 ?_
    refine V_aload_n (i := 1) 2 dJ2_fastRemove_26 rfl rfl ?_
    refine V_iload_n (i := 2) 3 dJ2_fastRemove_27 rfl rfl ?_
    refine V_iload_n (i := 3) 0 dJ2_fastRemove_28 rfl rfl ?_
    refine V_iload_n (i := 2) 3 dJ2_fastRemove_29 rfl rfl ?_
    refine V_isub dJ2_fastRemove_30 ?_
    obtain ⟨σ8, e9, h⟩ := bd_s h
    refine V_cpR e9 q1067 (by decide) (Nat.le_of_ble_eq_true rfl) dJ2_fastRemove_31 ?_
    refine V_sub [0, 1, 2] rfl ?_
    exact v_J2_fastRemove_34 hst h

abbrev VV_J2_remove (l : Launch) (G : Gx) (σ0 : Hp) (o : Oc) (σe : Hp) (Se : Ms) := V l G RJ2 cJ2_remove 4 (some (.object "java/lang/Object")) [] false 3 103 σ0 o σe Se
def f_J2_remove (σ : Hp) (a0 : Nat) (x1 : Int32) : Option (Nat × Hp) :=
  bd (rdI σ 10 a0 102) fun y1 => bd (f_J16_checkIndex x1 y1) fun y3 => bd (rdR σ 10 a0 101) fun b5 => bd (elR σ 105 b5 x1) fun b7 => bd (gk σ 10 a0) fun e9 => bp (f_J2_fastRemove σ a0 b5 x1) fun e11 σ12 => some (b7, σ12)
set_option maxHeartbeats 4000000 in
theorem v_J2_remove (l : Launch) (G : Gx) (hst : l.stackTraces = false) (S : Ms) {σ σe : Hp} {a0 : Nat} {x1 : Int32} {r : Nat} (h : f_J2_remove σ a0 x1 = some (r, σe)) : MT l G yJ2_remove (ws_ yJ2_remove cJ2_remove 4 (some (.object "java/lang/Object"))) 3 103 [pR a0, pI x1] σ S (.inl (some (pR r))) σe S := by
  refine MT_of (own := RJ2) (nL := 4) (ini := false) (by decide +kernel) rfl (Nat.le_of_ble_eq_true rfl) (fun h => by cases h) hst ?_
  show VV_J2_remove l G σ (.inl (some (pR r))) σe S 0 [(0, pR a0), (1, pI x1)] [] σ S
  unfold f_J2_remove at h
  refine V_iload_n (i := 1) 1 dJ2_remove_0 rfl rfl ?_
  refine V_aload_n (i := 0) 0 dJ2_remove_1 rfl rfl ?_
  obtain ⟨y1, e2, h⟩ := bd_s h
  refine V_rdI gf_J2_48 rfl rfl rfl e2 dJ2_remove_2 ?_
  obtain ⟨y3, e4, h⟩ := bd_s h
  refine V_callS_v (n9 := 2) [] (v_J16_checkIndex l G hst _ _ e4) rfl rfl (lw_S q940 q941 q96 q942) (by decide +kernel) (by decide) (Nat.le_of_ble_eq_true rfl) dJ2_remove_5 ?_
  refine V_pop dJ2_remove_8 rfl ?_
  refine V_aload_n (i := 0) 0 dJ2_remove_9 rfl rfl ?_
  obtain ⟨b5, e6, h⟩ := bd_s h
  refine V_rdR gf_J2_9 rfl rfl rfl e6 dJ2_remove_10 ?_
  refine V_astore_n (i := 2) (L' := [(2, pR b5), (0, pR a0), (1, pI x1)]) dJ2_remove_13 rfl (by decide) rfl ?_
  refine V_aload_n (i := 2) 0 dJ2_remove_14 rfl rfl ?_
  refine V_iload_n (i := 1) 2 dJ2_remove_15 rfl rfl ?_
  obtain ⟨b7, e8, h⟩ := bd_s h
  refine V_elR5 e8 dJ2_remove_16 ?_
  refine V_astore_n (i := 3) (L' := [(3, pR b7), (2, pR b5), (0, pR a0), (1, pI x1)]) dJ2_remove_17 rfl (by decide) rfl ?_
  refine V_aload_n (i := 0) 2 dJ2_remove_18 rfl rfl ?_
  refine V_aload_n (i := 2) 1 dJ2_remove_19 rfl rfl ?_
  refine V_iload_n (i := 1) 3 dJ2_remove_20 rfl rfl ?_
  obtain ⟨e9, e10, h⟩ := bd_s h
  obtain ⟨e11, σ12, e13, h⟩ := bp_s h
  refine V_callV_0 (n9 := 2) (c := 9) (r := (RJ2, TJ2, 3)) [] (v_J2_fastRemove l G hst _ e13) rfl rfl (lw_V q1063 q1065 qs14 q80 q1066) (by decide +kernel) (by decide) (Nat.le_of_ble_eq_true rfl) (gk_k e10 rfl) rfl dJ2_remove_21 ?_
  refine V_aload_n (i := 3) 0 dJ2_remove_24 rfl rfl ?_
  cases h
  exact V_aret rfl (Or.inl ⟨_, rfl⟩) dJ2_remove_25

abbrev VV_X2_takeOff (l : Launch) (G : Gx) (σ0 : Hp) (o : Oc) (σe : Hp) (Se : Ms) := V l G RX2 cX2_takeOff 4 (some .int) [] false 5 126 σ0 o σe Se
def f_X2_takeOff (σ : Hp) (a0 : Nat) (x1 : Int32) : Option (Int32 × Hp) :=
  bd (rdR σ 2 a0 21) fun b1 => bd (gk σ 10 b1) fun e3 => bp (f_J2_get σ b1 x1) fun b5 σ6 => bd (ckC σ6 10 b5) fun e8 => bd (gk σ6 10 b5) fun e10 => bp (f_J2_size σ6 b5) fun y12 σ13 => bd (gk σ13 10 b5) fun e15 => bp (f_J2_remove σ13 b5 (y12 - (1 : Int32))) fun b17 σ18 => bd (ckC σ18 3 b17) fun e20 => bd (gk σ18 2 a0) fun e22 => bp (f_X2_top σ18 a0 x1) fun b24 σ25 => bd (gk σ25 2 a0) fun e27 => bp (f_X2_touch σ25 a0 b17 b24) fun e29 σ30 => bd (wrI σ30 3 b17 35 (-1 : Int32)) fun σ32 => bd (rdI σ32 2 a0 25) fun y34 => bd (wrI σ32 2 a0 25 (y34 + (1 : Int32))) fun σ36 => bd (gk σ36 2 a0) fun e38 => bp (f_X2_numberOf σ36 a0 b17) fun y40 σ41 => some (y40, σ41)
set_option maxHeartbeats 4000000 in
theorem v_X2_takeOff (l : Launch) (G : Gx) (hst : l.stackTraces = false) (S : Ms) {σ σe : Hp} {a0 : Nat} {x1 : Int32} {r : Int32} (h : f_X2_takeOff σ a0 x1 = some (r, σe)) : MT l G yX2_takeOff (ws_ yX2_takeOff cX2_takeOff 4 (some .int)) 5 126 [pR a0, pI x1] σ S (.inl (some (pI r))) σe S := by
  refine MT_of (own := RX2) (nL := 4) (ini := false) (by decide +kernel) rfl (Nat.le_of_ble_eq_true rfl) (fun h => by cases h) hst ?_
  show VV_X2_takeOff l G σ (.inl (some (pI r))) σe S 0 [(0, pR a0), (1, pI x1)] [] σ S
  unfold f_X2_takeOff at h
  refine V_aload_n (i := 0) 0 dX2_takeOff_0 rfl rfl ?_
  obtain ⟨b1, e2, h⟩ := bd_s h
  refine V_rdR gf_X2_18 rfl rfl rfl e2 dX2_takeOff_1 ?_
  refine V_iload_n (i := 1) 1 dX2_takeOff_4 rfl rfl ?_
  obtain ⟨e3, e4, h⟩ := bd_s h
  obtain ⟨b5, σ6, e7, h⟩ := bp_s h
  refine V_callV_v (n9 := 1) (c := 9) (r := (RJ2, TJ2, 3)) [] (v_J2_get l G hst _ e7) rfl rfl (lw_V q936 q937 q938 q80 q939) (by decide +kernel) (by decide) (Nat.le_of_ble_eq_true rfl) (gk_k e4 rfl) rfl dX2_takeOff_5 ?_
  obtain ⟨e8, e9, h⟩ := bd_s h
  refine V_ckC (c := 9) e9 q139 rfl (Or.inl rfl) dX2_takeOff_8 ?_
  refine V_astore_n (i := 2) (L' := [(2, pR b5), (0, pR a0), (1, pI x1)]) dX2_takeOff_11 rfl (by decide) rfl ?_
  refine V_aload_n (i := 2) 0 dX2_takeOff_12 rfl rfl ?_
  refine V_aload_n (i := 2) 0 dX2_takeOff_13 rfl rfl ?_
  obtain ⟨e10, e11, h⟩ := bd_s h
  obtain ⟨y12, σ13, e14, h⟩ := bp_s h
  refine V_callV_v (n9 := 0) (c := 9) (r := (RJ2, TJ2, 3)) [pR b5] (v_J2_size l G hst _ e14) rfl rfl (lw_V q935 q861 q862 q80 q863) (by decide +kernel) (by decide) (Nat.le_of_ble_eq_true rfl) (gk_k e11 rfl) rfl dX2_takeOff_14 ?_
  refine V_iconst (v := 1) dX2_takeOff_17 (by decide) ?_
  refine V_isub dX2_takeOff_18 ?_
  obtain ⟨e15, e16, h⟩ := bd_s h
  obtain ⟨b17, σ18, e19, h⟩ := bp_s h
  refine V_callV_v (n9 := 1) (c := 9) (r := (RJ2, TJ2, 3)) [] (v_J2_remove l G hst _ e19) rfl rfl (lw_V q1166 q1060 q1061 q80 q1062) (by decide +kernel) (by decide) (Nat.le_of_ble_eq_true rfl) (gk_k e16 rfl) rfl dX2_takeOff_19 ?_
  obtain ⟨e20, e21, h⟩ := bd_s h
  refine V_ckC (c := 2) e21 q948 rfl (Or.inl rfl) dX2_takeOff_22 ?_
  refine V_astore_n (i := 3) (L' := [(3, pR b17), (2, pR b5), (0, pR a0), (1, pI x1)]) dX2_takeOff_25 rfl (by decide) rfl ?_
  refine V_aload_n (i := 0) 2 dX2_takeOff_26 rfl rfl ?_
  refine V_aload_n (i := 3) 0 dX2_takeOff_27 rfl rfl ?_
  refine V_aload_n (i := 0) 2 dX2_takeOff_28 rfl rfl ?_
  refine V_iload_n (i := 1) 3 dX2_takeOff_29 rfl rfl ?_
  obtain ⟨e22, e23, h⟩ := bd_s h
  obtain ⟨b24, σ25, e26, h⟩ := bp_s h
  refine V_callV_v (n9 := 1) (c := 1) (r := (RX2, TX2, 7)) [pR b17, pR a0] (v_X2_top l G hst _ e26) rfl rfl (lw_V q1144 q1145 q1146 q77 q1147) (by decide +kernel) (by decide) (Nat.le_of_ble_eq_true rfl) (gk_k e23 rfl) rfl dX2_takeOff_30 ?_
  obtain ⟨e27, e28, h⟩ := bd_s h
  obtain ⟨e29, σ30, e31, h⟩ := bp_s h
  refine V_callV_0 (n9 := 2) (c := 1) (r := (RX2, TX2, 7)) [] (v_X2_touch l G hst _ e31) rfl rfl (lw_V q1149 q1151 qs15 q77 q1152) (by decide +kernel) (by decide) (Nat.le_of_ble_eq_true rfl) (gk_k e28 rfl) rfl dX2_takeOff_33 ?_
  refine V_aload_n (i := 3) 0 dX2_takeOff_36 rfl rfl ?_
  refine V_iconst (v := (-1)) dX2_takeOff_37 (by decide) ?_
  obtain ⟨σ32, e33, h⟩ := bd_s h
  refine V_wrI gw_X2_96 rfl rfl rfl e33 dX2_takeOff_38 ?_
  refine V_aload_n (i := 0) 2 dX2_takeOff_41 rfl rfl ?_
  refine V_dup dX2_takeOff_42 rfl ?_
  obtain ⟨y34, e35, h⟩ := bd_s h
  refine V_rdI gf_X2_55 rfl rfl rfl e35 dX2_takeOff_43 ?_
  refine V_iconst (v := 1) dX2_takeOff_46 (by decide) ?_
  refine V_iadd dX2_takeOff_47 ?_
  obtain ⟨σ36, e37, h⟩ := bd_s h
  refine V_wrI gw_X2_55 rfl rfl rfl e37 dX2_takeOff_48 ?_
  refine V_aload_n (i := 0) 2 dX2_takeOff_51 rfl rfl ?_
  refine V_aload_n (i := 3) 0 dX2_takeOff_52 rfl rfl ?_
  obtain ⟨e38, e39, h⟩ := bd_s h
  obtain ⟨y40, σ41, e42, h⟩ := bp_s h
  refine V_callV_v (n9 := 1) (c := 1) (r := (RX2, TX2, 7)) [] (v_X2_numberOf l G hst _ e42) rfl rfl (lw_V q991 q992 q993 q77 q994) (by decide +kernel) (by decide) (Nat.le_of_ble_eq_true rfl) (gk_k e39 rfl) rfl dX2_takeOff_53 ?_
  cases h
  exact V_iret rfl dX2_takeOff_56

abbrev VV_X2_make (l : Launch) (G : Gx) (σ0 : Hp) (o : Oc) (σe : Hp) (Se : Ms) := V l G RX2 cX2_make 7 (some .int) [] false 32 795 σ0 o σe Se
def f_X2_make_93 (σ : Hp) (x4 : Int32) : Option (Int32 × Hp) :=
  some (x4, σ)
set_option maxHeartbeats 4000000 in
theorem v_X2_make_93 {l : Launch} {G : Gx} (hst : l.stackTraces = false) {σ0 σe : Hp} {Se : Ms} {r : Int32} {σ : Hp} {x4 : Int32} (h : f_X2_make_93 σ x4 = some (r, σe)) : VV_X2_make l G σ0 (.inl (some (pI r))) σe Se 93 [(4, pI x4)] [] σ Se := by
  unfold f_X2_make_93 at h
  refine V_iload (i := 4) 0 dX2_make_93 rfl ?_
  cases h
  exact V_iret rfl dX2_make_95
def f_X2_make_87 (k28 : Hp → Int32 → Int32 → Int32 → Int32 → Nat → Int32 → Option (Int32 × Hp)) (σ : Hp) (x6 : Int32) (x5 : Int32) (x4 : Int32) (x3 : Int32) (a0 : Nat) (x1 : Int32) : Option (Int32 × Hp) :=
  k28 σ (x6 + (1 : Int32)) x5 x4 x3 a0 x1
set_option maxHeartbeats 4000000 in
theorem v_X2_make_87 {l : Launch} {G : Gx} (hst : l.stackTraces = false) {σ0 σe : Hp} {Se : Ms} {r : Int32} {k28 : Hp → Int32 → Int32 → Int32 → Int32 → Nat → Int32 → Option (Int32 × Hp)} (hk28 : ∀ (σ : Hp) (x6 : Int32) (x5 : Int32) (x4 : Int32) (x3 : Int32) (a0 : Nat) (x1 : Int32), k28 σ x6 x5 x4 x3 a0 x1 = some (r, σe) → VV_X2_make l G σ0 (.inl (some (pI r))) σe Se 28 [(6, pI x6), (5, pI x5), (4, pI x4), (3, pI x3), (0, pR a0), (1, pI x1)] [] σ Se) {σ : Hp} {x6 : Int32} {x5 : Int32} {x4 : Int32} {x3 : Int32} {a0 : Nat} {x1 : Int32} (h : f_X2_make_87 k28 σ x6 x5 x4 x3 a0 x1 = some (r, σe)) : VV_X2_make l G σ0 (.inl (some (pI r))) σe Se 87 [(6, pI x6), (5, pI x5), (4, pI x4), (3, pI x3), (0, pR a0), (1, pI x1)] [] σ Se := by
  unfold f_X2_make_87 at h
  refine V_iinc (v := (x6 + (1 : Int32))) (L' := [(6, pI (x6 + (1 : Int32))), (5, pI x5), (4, pI x4), (3, pI x3), (0, pR a0), (1, pI x1)]) 0 dX2_make_87 rfl rfl (by decide) rfl ?_
  refine V_goto 28 dX2_make_90 (by decide) ?_
  refine V_sub [0, 1, 2, 3, 4, 5] rfl ?_
  exact hk28 _ _ _ _ _ _ _ h
def f_X2_make_84 (k28 : Hp → Int32 → Int32 → Int32 → Int32 → Nat → Int32 → Option (Int32 × Hp)) (σ : Hp) (x5 : Int32) (x6 : Int32) (x3 : Int32) (a0 : Nat) (x1 : Int32) (s0 : Int32) (s1 : Int32) : Option (Int32 × Hp) :=
  f_X2_make_87 k28 σ x6 x5 (s1 + s0) x3 a0 x1
set_option maxHeartbeats 4000000 in
theorem v_X2_make_84 {l : Launch} {G : Gx} (hst : l.stackTraces = false) {σ0 σe : Hp} {Se : Ms} {r : Int32} {k28 : Hp → Int32 → Int32 → Int32 → Int32 → Nat → Int32 → Option (Int32 × Hp)} (hk28 : ∀ (σ : Hp) (x6 : Int32) (x5 : Int32) (x4 : Int32) (x3 : Int32) (a0 : Nat) (x1 : Int32), k28 σ x6 x5 x4 x3 a0 x1 = some (r, σe) → VV_X2_make l G σ0 (.inl (some (pI r))) σe Se 28 [(6, pI x6), (5, pI x5), (4, pI x4), (3, pI x3), (0, pR a0), (1, pI x1)] [] σ Se) {σ : Hp} {x5 : Int32} {x6 : Int32} {x3 : Int32} {a0 : Nat} {x1 : Int32} {s0 : Int32} {s1 : Int32} (h : f_X2_make_84 k28 σ x5 x6 x3 a0 x1 s0 s1 = some (r, σe)) : VV_X2_make l G σ0 (.inl (some (pI r))) σe Se 84 [(5, pI x5), (6, pI x6), (3, pI x3), (0, pR a0), (1, pI x1)] [pI s0, pI s1] σ Se := by
  unfold f_X2_make_84 at h
  refine V_iadd dX2_make_84 ?_
  refine V_istore (i := 4) (L' := [(4, pI (s1 + s0)), (5, pI x5), (6, pI x6), (3, pI x3), (0, pR a0), (1, pI x1)]) dX2_make_85 (by decide) rfl ?_
  refine V_sub [2, 1, 0, 3, 4, 5] rfl ?_
  exact v_X2_make_87 hst hk28 h
def f_X2_make_70 (k28 : Hp → Int32 → Int32 → Int32 → Int32 → Nat → Int32 → Option (Int32 × Hp)) (σ : Hp) (x6 : Int32) (x4 : Int32) (x3 : Int32) (a0 : Nat) (x1 : Int32) (s0 : Int32) : Option (Int32 × Hp) :=
  if s0 = (0 : Int32) then (f_X2_make_84 k28 σ s0 x6 x3 a0 x1 (0 : Int32) x4) else (f_X2_make_84 k28 σ s0 x6 x3 a0 x1 (1 : Int32) x4)
set_option maxHeartbeats 4000000 in
theorem v_X2_make_70 {l : Launch} {G : Gx} (hst : l.stackTraces = false) {σ0 σe : Hp} {Se : Ms} {r : Int32} {k28 : Hp → Int32 → Int32 → Int32 → Int32 → Nat → Int32 → Option (Int32 × Hp)} (hk28 : ∀ (σ : Hp) (x6 : Int32) (x5 : Int32) (x4 : Int32) (x3 : Int32) (a0 : Nat) (x1 : Int32), k28 σ x6 x5 x4 x3 a0 x1 = some (r, σe) → VV_X2_make l G σ0 (.inl (some (pI r))) σe Se 28 [(6, pI x6), (5, pI x5), (4, pI x4), (3, pI x3), (0, pR a0), (1, pI x1)] [] σ Se) {σ : Hp} {x6 : Int32} {x4 : Int32} {x3 : Int32} {a0 : Nat} {x1 : Int32} {s0 : Int32} (h : f_X2_make_70 k28 σ x6 x4 x3 a0 x1 s0 = some (r, σe)) : VV_X2_make l G σ0 (.inl (some (pI r))) σe Se 70 [(6, pI x6), (4, pI x4), (3, pI x3), (0, pR a0), (1, pI x1)] [pI s0] σ Se := by
  unfold f_X2_make_70 at h
  refine V_istore (i := 5) (L' := [(5, pI s0), (6, pI x6), (4, pI x4), (3, pI x3), (0, pR a0), (1, pI x1)]) dX2_make_70 (by decide) rfl ?_
  refine V_iload (i := 4) 2 dX2_make_72 rfl ?_
  refine V_iload (i := 5) 0 dX2_make_74 rfl ?_
  refine V_if_eq 83 dX2_make_76 (by decide) (fun c1 => ?_) (fun c1 => ?_)
  · replace h := it_t c1 h
    refine V_iconst (v := 0) dX2_make_83 (by decide) ?_
    refine V_sub [0, 1, 3, 4, 5] rfl ?_
    exact v_X2_make_84 hst hk28 h
  · replace h := it_f c1 h
    refine V_iconst (v := 1) dX2_make_79 (by decide) ?_
    refine V_goto 84 dX2_make_80 (by decide) ?_
    refine V_sub [0, 1, 3, 4, 5] rfl ?_
    exact v_X2_make_84 hst hk28 h
def f_X2_make_28_b (k28 : Hp → Int32 → Int32 → Int32 → Int32 → Nat → Int32 → Option (Int32 × Hp)) (σ : Hp) (x6 : Int32) (x5 : Int32) (x4 : Int32) (x3 : Int32) (a0 : Nat) (x1 : Int32) : Option (Int32 × Hp) :=
  bd (rdR σ 2 a0 20) fun b1 => bd (gk σ 10 b1) fun e3 => bp (f_J2_size σ b1) fun y5 σ6 => if y5 ≤ x6 then (f_X2_make_93 σ6 x4) else (if x5 = (0 : Int32) then (f_X2_make_93 σ6 x4) else (if ((x3 >>> (x6 &&& 31)) &&& (1 : Int32)) = (1 : Int32) then (bd (gk σ6 2 a0) fun e11 => bp (f_X2_wring σ6 a0 x1 x6) fun y13 σ14 => if y13 = (0 : Int32) then (f_X2_make_70 k28 σ14 x6 x4 x3 a0 x1 (1 : Int32)) else (f_X2_make_70 k28 σ14 x6 x4 x3 a0 x1 (0 : Int32))) else (f_X2_make_87 k28 σ6 x6 x5 x4 x3 a0 x1)))
set_option maxHeartbeats 4000000 in
theorem v_X2_make_28_b {l : Launch} {G : Gx} (hst : l.stackTraces = false) {σ0 σe : Hp} {Se : Ms} {r : Int32} {k28 : Hp → Int32 → Int32 → Int32 → Int32 → Nat → Int32 → Option (Int32 × Hp)} (hk28 : ∀ (σ : Hp) (x6 : Int32) (x5 : Int32) (x4 : Int32) (x3 : Int32) (a0 : Nat) (x1 : Int32), k28 σ x6 x5 x4 x3 a0 x1 = some (r, σe) → VV_X2_make l G σ0 (.inl (some (pI r))) σe Se 28 [(6, pI x6), (5, pI x5), (4, pI x4), (3, pI x3), (0, pR a0), (1, pI x1)] [] σ Se) {σ : Hp} {x6 : Int32} {x5 : Int32} {x4 : Int32} {x3 : Int32} {a0 : Nat} {x1 : Int32} (h : f_X2_make_28_b k28 σ x6 x5 x4 x3 a0 x1 = some (r, σe)) : VV_X2_make l G σ0 (.inl (some (pI r))) σe Se 28 [(6, pI x6), (5, pI x5), (4, pI x4), (3, pI x3), (0, pR a0), (1, pI x1)] [] σ Se := by
  unfold f_X2_make_28_b at h
  refine V_iload (i := 6) 0 dX2_make_28 rfl ?_
  refine V_aload_n (i := 0) 4 dX2_make_30 rfl rfl ?_
  obtain ⟨b1, e2, h⟩ := bd_s h
  refine V_rdR gf_X2_12 rfl rfl rfl e2 dX2_make_31 ?_
  obtain ⟨e3, e4, h⟩ := bd_s h
  obtain ⟨y5, σ6, e7, h⟩ := bp_s h
  refine V_callV_v (n9 := 0) (c := 9) (r := (RJ2, TJ2, 3)) [pI x6] (v_J2_size l G hst _ e7) rfl rfl (lw_V q935 q861 q862 q80 q863) (by decide +kernel) (by decide) (Nat.le_of_ble_eq_true rfl) (gk_k e4 rfl) rfl dX2_make_34 ?_
  refine V_icmp_ge 93 dX2_make_37 (by decide) (fun c8 => ?_) (fun c8 => ?_)
  · replace h := it_t c8 h
    refine V_sub [2] rfl ?_
    exact v_X2_make_93 hst h
  · replace h := it_f c8 h
    refine V_iload (i := 5) 1 dX2_make_40 rfl ?_
    refine V_if_eq 93 dX2_make_42 (by decide) (fun c9 => ?_) (fun c9 => ?_)
    · replace h := it_t c9 h
      refine V_sub [2] rfl ?_
      exact v_X2_make_93 hst h
    · replace h := it_f c9 h
      refine V_iload_n (i := 3) 3 dX2_make_45 rfl rfl ?_
      refine V_iload (i := 6) 0 dX2_make_46 rfl ?_
      refine V_ishr dX2_make_48 ?_
      refine V_iconst (v := 1) dX2_make_49 (by decide) ?_
      refine V_iand dX2_make_50 ?_
      refine V_iconst (v := 1) dX2_make_51 (by decide) ?_
      refine V_icmp_ne 87 dX2_make_52 (by decide) (fun c10 => ?_) (fun c10 => ?_)
      · replace h := it_f c10 h
        refine V_sub [0, 1, 2, 3, 4, 5] rfl ?_
        exact v_X2_make_87 hst hk28 h
      · replace h := it_t c10 h
        refine V_aload_n (i := 0) 4 dX2_make_55 rfl rfl ?_
        refine V_iload_n (i := 1) 5 dX2_make_56 rfl rfl ?_
        refine V_iload (i := 6) 0 dX2_make_57 rfl ?_
        obtain ⟨e11, e12, h⟩ := bd_s h
        obtain ⟨y13, σ14, e15, h⟩ := bp_s h
        refine V_callV_v (n9 := 2) (c := 1) (r := (RX2, TX2, 7)) [] (v_X2_wring l G hst _ e15) rfl rfl (lw_V q1216 q1135 q1136 q77 q1137) (by decide +kernel) (by decide) (Nat.le_of_ble_eq_true rfl) (gk_k e12 rfl) rfl dX2_make_59 ?_
        refine V_if_ne 69 dX2_make_62 (by decide) (fun c16 => ?_) (fun c16 => ?_)
        · replace h := it_f c16 h
          refine V_iconst (v := 0) dX2_make_69 (by decide) ?_
          refine V_sub [0, 2, 3, 4, 5] rfl ?_
          exact v_X2_make_70 hst hk28 h
        · replace h := it_t c16 h
          refine V_iconst (v := 1) dX2_make_65 (by decide) ?_
          refine V_goto 70 dX2_make_66 (by decide) ?_
          refine V_sub [0, 2, 3, 4, 5] rfl ?_
          exact v_X2_make_70 hst hk28 h
def f_X2_make_28 : Nat → Hp → Int32 → Int32 → Int32 → Int32 → Nat → Int32 → Option (Int32 × Hp)
  | 0, _, _, _, _, _, _, _ => none
  | n + 1, σ, x6, x5, x4, x3, a0, x1 => f_X2_make_28_b (f_X2_make_28 n) σ x6 x5 x4 x3 a0 x1
theorem v_X2_make_28 {l : Launch} {G : Gx} (hst : l.stackTraces = false) {σ0 σe : Hp} {Se : Ms} {r : Int32} : ∀ (n : Nat) (σ : Hp) (x6 : Int32) (x5 : Int32) (x4 : Int32) (x3 : Int32) (a0 : Nat) (x1 : Int32), f_X2_make_28 n σ x6 x5 x4 x3 a0 x1 = some (r, σe) → VV_X2_make l G σ0 (.inl (some (pI r))) σe Se 28 [(6, pI x6), (5, pI x5), (4, pI x4), (3, pI x3), (0, pR a0), (1, pI x1)] [] σ Se
  | 0, _, _, _, _, _, _, _, h => by cases h
  | n + 1, _, _, _, _, _, _, _, h => v_X2_make_28_b hst (v_X2_make_28 hst n) h
def f_X2_make (σ : Hp) (a0 : Nat) (x1 : Int32) (x2 : Int32) : Option (Int32 × Hp) :=
  bd (gz (nC σ 4 5) (hN σ)) fun e1 => bp (f_X5_init (nC σ 4 5) (hN σ) a0 x2) fun e3 σ4 => bd (gk σ4 4 (hN σ)) fun e6 => bp (f_X5_fewest σ4 (hN σ)) fun y8 σ9 => if y8 = (0 : Int32) then (some ((-1 : Int32), σ9)) else (f_X2_make_28 FU σ9 (0 : Int32) (1 : Int32) (0 : Int32) y8 a0 x1)
set_option maxHeartbeats 4000000 in
theorem v_X2_make (l : Launch) (G : Gx) (hst : l.stackTraces = false) (S : Ms) {σ σe : Hp} {a0 : Nat} {x1 : Int32} {x2 : Int32} {r : Int32} (h : f_X2_make σ a0 x1 x2 = some (r, σe)) : MT l G yX2_make (ws_ yX2_make cX2_make 7 (some .int)) 32 795 [pR a0, pI x1, pI x2] σ S (.inl (some (pI r))) σe S := by
  refine MT_of (own := RX2) (nL := 7) (ini := false) (by decide +kernel) rfl (Nat.le_of_ble_eq_true rfl) (fun h => by cases h) hst ?_
  show VV_X2_make l G σ (.inl (some (pI r))) σe S 0 [(0, pR a0), (1, pI x1), (2, pI x2)] [] σ S
  unfold f_X2_make at h
  refine V_new (n := 5) ci_3 (by decide +kernel) q1179 q1180 q101 dX2_make_0 ?_
  refine V_dup dX2_make_3 rfl ?_
  refine V_aload_n (i := 0) 0 dX2_make_4 rfl rfl ?_
  refine V_iload_n (i := 2) 2 dX2_make_5 rfl rfl ?_
  obtain ⟨e1, e2, h⟩ := bd_s h
  obtain ⟨e3, σ4, e5, h⟩ := bp_s h
  refine V_callI_0 (n9 := 2) [pR (hN σ)] (v_X5_init l G hst _ e5) rfl rfl q1183 q101 q1181 q1182 rfl (by decide +kernel) (by decide) (Nat.le_of_ble_eq_true rfl) (gz_n e2) dX2_make_6 ?_
  obtain ⟨e6, e7, h⟩ := bd_s h
  obtain ⟨y8, σ9, e10, h⟩ := bp_s h
  refine V_callV_v (n9 := 0) (c := 3) (r := (RX5, TX5, 5)) [] (v_X5_fewest l G hst _ e10) rfl rfl (lw_V q1208 q1209 q1210 q101 q1211) (by decide +kernel) (by decide) (Nat.le_of_ble_eq_true rfl) (gk_k e7 rfl) rfl dX2_make_9 ?_
  refine V_istore_n (i := 3) (L' := [(3, pI y8), (0, pR a0), (1, pI x1), (2, pI x2)]) dX2_make_12 rfl (by decide) rfl ?_
  refine V_iload_n (i := 3) 0 dX2_make_13 rfl rfl ?_
  refine V_if_ne 19 dX2_make_14 (by decide) (fun c11 => ?_) (fun c11 => ?_)
  · replace h := it_f c11 h
    refine V_iconst (v := 0) dX2_make_19 (by decide) ?_
    refine V_istore (i := 4) (L' := [(4, pI (0 : Int32)), (3, pI y8), (0, pR a0), (1, pI x1), (2, pI x2)]) dX2_make_20 (by decide) rfl ?_
    refine V_iconst (v := 1) dX2_make_22 (by decide) ?_
    refine V_istore (i := 5) (L' := [(5, pI (1 : Int32)), (4, pI (0 : Int32)), (3, pI y8), (0, pR a0), (1, pI x1), (2, pI x2)]) dX2_make_23 (by decide) rfl ?_
    refine V_iconst (v := 0) dX2_make_25 (by decide) ?_
    refine V_istore (i := 6) (L' := [(6, pI (0 : Int32)), (5, pI (1 : Int32)), (4, pI (0 : Int32)), (3, pI y8), (0, pR a0), (1, pI x1), (2, pI x2)]) dX2_make_26 (by decide) rfl ?_
    refine V_sub [0, 1, 2, 3, 4, 5] rfl ?_
    exact v_X2_make_28 hst FU _ _ _ _ _ _ _ h
  · replace h := it_t c11 h
    refine V_iconst (v := (-1)) dX2_make_17 (by decide) ?_
    cases h
    exact V_iret rfl dX2_make_18

abbrev VV_X2_nominal (l : Launch) (G : Gx) (σ0 : Hp) (o : Oc) (σe : Hp) (Se : Ms) := V l G RX2 cX2_nominal 4 (some .int) [] false 4 94 σ0 o σe Se
def f_X2_nominal_4_b (k4 : Hp → Int32 → Int32 → Nat → Int32 → Option (Int32 × Hp)) (σ : Hp) (x3 : Int32) (x2 : Int32) (a0 : Nat) (x1 : Int32) : Option (Int32 × Hp) :=
  bd (rdR σ 2 a0 21) fun b1 => bd (gk σ 10 b1) fun e3 => bp (f_J2_get σ b1 x1) fun b5 σ6 => bd (ckC σ6 10 b5) fun e8 => bd (gk σ6 10 b5) fun e10 => bp (f_J2_size σ6 b5) fun y12 σ13 => if y12 ≤ x3 then (some (x2, σ13)) else (bd (rdR σ13 2 a0 21) fun b16 => bd (gk σ13 10 b16) fun e18 => bp (f_J2_get σ13 b16 x1) fun b20 σ21 => bd (ckC σ21 10 b20) fun e23 => bd (gk σ21 10 b20) fun e25 => bp (f_J2_get σ21 b20 x3) fun b27 σ28 => bd (ckC σ28 3 b27) fun e30 => bd (rdI σ28 3 b27 30) fun y32 => k4 σ28 (x3 + (1 : Int32)) (x2 + y32) a0 x1)
set_option maxHeartbeats 4000000 in
theorem v_X2_nominal_4_b {l : Launch} {G : Gx} (hst : l.stackTraces = false) {σ0 σe : Hp} {Se : Ms} {r : Int32} {k4 : Hp → Int32 → Int32 → Nat → Int32 → Option (Int32 × Hp)} (hk4 : ∀ (σ : Hp) (x3 : Int32) (x2 : Int32) (a0 : Nat) (x1 : Int32), k4 σ x3 x2 a0 x1 = some (r, σe) → VV_X2_nominal l G σ0 (.inl (some (pI r))) σe Se 4 [(3, pI x3), (2, pI x2), (0, pR a0), (1, pI x1)] [] σ Se) {σ : Hp} {x3 : Int32} {x2 : Int32} {a0 : Nat} {x1 : Int32} (h : f_X2_nominal_4_b k4 σ x3 x2 a0 x1 = some (r, σe)) : VV_X2_nominal l G σ0 (.inl (some (pI r))) σe Se 4 [(3, pI x3), (2, pI x2), (0, pR a0), (1, pI x1)] [] σ Se := by
  unfold f_X2_nominal_4_b at h
  refine V_iload_n (i := 3) 0 dX2_nominal_4 rfl rfl ?_
  refine V_aload_n (i := 0) 2 dX2_nominal_5 rfl rfl ?_
  obtain ⟨b1, e2, h⟩ := bd_s h
  refine V_rdR gf_X2_18 rfl rfl rfl e2 dX2_nominal_6 ?_
  refine V_iload_n (i := 1) 3 dX2_nominal_9 rfl rfl ?_
  obtain ⟨e3, e4, h⟩ := bd_s h
  obtain ⟨b5, σ6, e7, h⟩ := bp_s h
  refine V_callV_v (n9 := 1) (c := 9) (r := (RJ2, TJ2, 3)) [pI x3] (v_J2_get l G hst _ e7) rfl rfl (lw_V q936 q937 q938 q80 q939) (by decide +kernel) (by decide) (Nat.le_of_ble_eq_true rfl) (gk_k e4 rfl) rfl dX2_nominal_10 ?_
  obtain ⟨e8, e9, h⟩ := bd_s h
  refine V_ckC (c := 9) e9 q139 rfl (Or.inl rfl) dX2_nominal_13 ?_
  obtain ⟨e10, e11, h⟩ := bd_s h
  obtain ⟨y12, σ13, e14, h⟩ := bp_s h
  refine V_callV_v (n9 := 0) (c := 9) (r := (RJ2, TJ2, 3)) [pI x3] (v_J2_size l G hst _ e14) rfl rfl (lw_V q935 q861 q862 q80 q863) (by decide +kernel) (by decide) (Nat.le_of_ble_eq_true rfl) (gk_k e11 rfl) rfl dX2_nominal_16 ?_
  refine V_icmp_ge 52 dX2_nominal_19 (by decide) (fun c15 => ?_) (fun c15 => ?_)
  · replace h := it_t c15 h
    refine V_iload_n (i := 2) 1 dX2_nominal_52 rfl rfl ?_
    cases h
    exact V_iret rfl dX2_nominal_53
  · replace h := it_f c15 h
    refine V_iload_n (i := 2) 1 dX2_nominal_22 rfl rfl ?_
    refine V_aload_n (i := 0) 2 dX2_nominal_23 rfl rfl ?_
    obtain ⟨b16, e17, h⟩ := bd_s h
    refine V_rdR gf_X2_18 rfl rfl rfl e17 dX2_nominal_24 ?_
    refine V_iload_n (i := 1) 3 dX2_nominal_27 rfl rfl ?_
    obtain ⟨e18, e19, h⟩ := bd_s h
    obtain ⟨b20, σ21, e22, h⟩ := bp_s h
    refine V_callV_v (n9 := 1) (c := 9) (r := (RJ2, TJ2, 3)) [pI x2] (v_J2_get l G hst _ e22) rfl rfl (lw_V q936 q937 q938 q80 q939) (by decide +kernel) (by decide) (Nat.le_of_ble_eq_true rfl) (gk_k e19 rfl) rfl dX2_nominal_28 ?_
    obtain ⟨e23, e24, h⟩ := bd_s h
    refine V_ckC (c := 9) e24 q139 rfl (Or.inl rfl) dX2_nominal_31 ?_
    refine V_iload_n (i := 3) 0 dX2_nominal_34 rfl rfl ?_
    obtain ⟨e25, e26, h⟩ := bd_s h
    obtain ⟨b27, σ28, e29, h⟩ := bp_s h
    refine V_callV_v (n9 := 1) (c := 9) (r := (RJ2, TJ2, 3)) [pI x2] (v_J2_get l G hst _ e29) rfl rfl (lw_V q936 q937 q938 q80 q939) (by decide +kernel) (by decide) (Nat.le_of_ble_eq_true rfl) (gk_k e26 rfl) rfl dX2_nominal_35 ?_
    obtain ⟨e30, e31, h⟩ := bd_s h
    refine V_ckC (c := 2) e31 q948 rfl (Or.inl rfl) dX2_nominal_38 ?_
    obtain ⟨y32, e33, h⟩ := bd_s h
    refine V_rdI gf_X2_129 rfl rfl rfl e33 dX2_nominal_41 ?_
    refine V_iadd dX2_nominal_44 ?_
    refine V_istore_n (i := 2) (L' := [(2, pI (x2 + y32)), (3, pI x3), (0, pR a0), (1, pI x1)]) dX2_nominal_45 rfl (by decide) rfl ?_
    refine V_iinc (v := (x3 + (1 : Int32))) (L' := [(3, pI (x3 + (1 : Int32))), (2, pI (x2 + y32)), (0, pR a0), (1, pI x1)]) 1 dX2_nominal_46 rfl rfl (by decide) rfl ?_
    refine V_goto 4 dX2_nominal_49 (by decide) ?_
    refine V_sub [0, 1, 2, 3] rfl ?_
    exact hk4 _ _ _ _ _ h
def f_X2_nominal_4 : Nat → Hp → Int32 → Int32 → Nat → Int32 → Option (Int32 × Hp)
  | 0, _, _, _, _, _ => none
  | n + 1, σ, x3, x2, a0, x1 => f_X2_nominal_4_b (f_X2_nominal_4 n) σ x3 x2 a0 x1
theorem v_X2_nominal_4 {l : Launch} {G : Gx} (hst : l.stackTraces = false) {σ0 σe : Hp} {Se : Ms} {r : Int32} : ∀ (n : Nat) (σ : Hp) (x3 : Int32) (x2 : Int32) (a0 : Nat) (x1 : Int32), f_X2_nominal_4 n σ x3 x2 a0 x1 = some (r, σe) → VV_X2_nominal l G σ0 (.inl (some (pI r))) σe Se 4 [(3, pI x3), (2, pI x2), (0, pR a0), (1, pI x1)] [] σ Se
  | 0, _, _, _, _, _, h => by cases h
  | n + 1, _, _, _, _, _, h => v_X2_nominal_4_b hst (v_X2_nominal_4 hst n) h
def f_X2_nominal (σ : Hp) (a0 : Nat) (x1 : Int32) : Option (Int32 × Hp) :=
  f_X2_nominal_4 FU σ (0 : Int32) (0 : Int32) a0 x1
set_option maxHeartbeats 4000000 in
theorem v_X2_nominal (l : Launch) (G : Gx) (hst : l.stackTraces = false) (S : Ms) {σ σe : Hp} {a0 : Nat} {x1 : Int32} {r : Int32} (h : f_X2_nominal σ a0 x1 = some (r, σe)) : MT l G yX2_nominal (ws_ yX2_nominal cX2_nominal 4 (some .int)) 4 94 [pR a0, pI x1] σ S (.inl (some (pI r))) σe S := by
  refine MT_of (own := RX2) (nL := 4) (ini := false) (by decide +kernel) rfl (Nat.le_of_ble_eq_true rfl) (fun h => by cases h) hst ?_
  show VV_X2_nominal l G σ (.inl (some (pI r))) σe S 0 [(0, pR a0), (1, pI x1)] [] σ S
  unfold f_X2_nominal at h
  refine V_iconst (v := 0) dX2_nominal_0 (by decide) ?_
  refine V_istore_n (i := 2) (L' := [(2, pI (0 : Int32)), (0, pR a0), (1, pI x1)]) dX2_nominal_1 rfl (by decide) rfl ?_
  refine V_iconst (v := 0) dX2_nominal_2 (by decide) ?_
  refine V_istore_n (i := 3) (L' := [(3, pI (0 : Int32)), (2, pI (0 : Int32)), (0, pR a0), (1, pI x1)]) dX2_nominal_3 rfl (by decide) rfl ?_
  refine V_sub [0, 1, 2, 3] rfl ?_
  exact v_X2_nominal_4 hst FU _ _ _ _ _ h

abbrev VV_X2_lengthIn (l : Launch) (G : Gx) (σ0 : Hp) (o : Oc) (σe : Hp) (Se : Ms) := V l G RX2 cX2_lengthIn 8 (some .int) [] false 4 94 σ0 o σe Se
def f_X2_lengthIn_99 (k18 : Hp → Int32 → Int32 → Nat → Nat → Int32 → Option (Int32 × Hp)) (σ : Hp) (x5 : Int32) (a3 : Nat) (a0 : Nat) (x2 : Int32) (s0 : Int32) (s1 : Int32) (s2 : Int32) : Option (Int32 × Hp) :=
  k18 σ (x5 + (1 : Int32)) (s2 + (s1 + s0)) a3 a0 x2
set_option maxHeartbeats 4000000 in
theorem v_X2_lengthIn_99 {l : Launch} {G : Gx} (hst : l.stackTraces = false) {σ0 σe : Hp} {Se : Ms} {r : Int32} {k18 : Hp → Int32 → Int32 → Nat → Nat → Int32 → Option (Int32 × Hp)} (hk18 : ∀ (σ : Hp) (x5 : Int32) (x4 : Int32) (a3 : Nat) (a0 : Nat) (x2 : Int32), k18 σ x5 x4 a3 a0 x2 = some (r, σe) → VV_X2_lengthIn l G σ0 (.inl (some (pI r))) σe Se 18 [(5, pI x5), (4, pI x4), (3, pR a3), (0, pR a0), (2, pI x2)] [] σ Se) {σ : Hp} {x5 : Int32} {a3 : Nat} {a0 : Nat} {x2 : Int32} {s0 : Int32} {s1 : Int32} {s2 : Int32} (h : f_X2_lengthIn_99 k18 σ x5 a3 a0 x2 s0 s1 s2 = some (r, σe)) : VV_X2_lengthIn l G σ0 (.inl (some (pI r))) σe Se 99 [(5, pI x5), (3, pR a3), (0, pR a0), (2, pI x2)] [pI s0, pI s1, pI s2] σ Se := by
  unfold f_X2_lengthIn_99 at h
  refine V_iadd dX2_lengthIn_99 ?_
  refine V_iadd dX2_lengthIn_100 ?_
  refine V_istore (i := 4) (L' := [(4, pI (s2 + (s1 + s0))), (5, pI x5), (3, pR a3), (0, pR a0), (2, pI x2)]) dX2_lengthIn_101 (by decide) rfl ?_
  refine V_iinc (v := (x5 + (1 : Int32))) (L' := [(5, pI (x5 + (1 : Int32))), (4, pI (s2 + (s1 + s0))), (3, pR a3), (0, pR a0), (2, pI x2)]) 1 dX2_lengthIn_103 rfl rfl (by decide) rfl ?_
  refine V_goto 18 dX2_lengthIn_106 (by decide) ?_
  refine V_sub [0, 1, 2, 3, 4] rfl ?_
  exact hk18 _ _ _ _ _ _ h
def f_X2_lengthIn_68 (k18 : Hp → Int32 → Int32 → Nat → Nat → Int32 → Option (Int32 × Hp)) (σ : Hp) (x6 : Int32) (x5 : Int32) (x4 : Int32) (a3 : Nat) (a0 : Nat) (x2 : Int32) : Option (Int32 × Hp) :=
  bd (gk σ 10 a3) fun e1 => bp (f_J2_get σ a3 x5) fun b3 σ4 => bd (ckC σ4 3 b3) fun e6 => bd (gk σ4 3 b3) fun e8 => bp (f_X4_lengthAt σ4 b3 x6) fun y10 σ11 => if x5 ≤ (0 : Int32) then (f_X2_lengthIn_99 k18 σ11 x5 a3 a0 x2 (0 : Int32) y10 x4) else (bd (rdR σ11 2 a0 22) fun b14 => bd (elI σ11 101 b14 (0 : Int32)) fun y16 => f_X2_lengthIn_99 k18 σ11 x5 a3 a0 x2 y16 y10 x4)
set_option maxHeartbeats 4000000 in
theorem v_X2_lengthIn_68 {l : Launch} {G : Gx} (hst : l.stackTraces = false) {σ0 σe : Hp} {Se : Ms} {r : Int32} {k18 : Hp → Int32 → Int32 → Nat → Nat → Int32 → Option (Int32 × Hp)} (hk18 : ∀ (σ : Hp) (x5 : Int32) (x4 : Int32) (a3 : Nat) (a0 : Nat) (x2 : Int32), k18 σ x5 x4 a3 a0 x2 = some (r, σe) → VV_X2_lengthIn l G σ0 (.inl (some (pI r))) σe Se 18 [(5, pI x5), (4, pI x4), (3, pR a3), (0, pR a0), (2, pI x2)] [] σ Se) {σ : Hp} {x6 : Int32} {x5 : Int32} {x4 : Int32} {a3 : Nat} {a0 : Nat} {x2 : Int32} (h : f_X2_lengthIn_68 k18 σ x6 x5 x4 a3 a0 x2 = some (r, σe)) : VV_X2_lengthIn l G σ0 (.inl (some (pI r))) σe Se 68 [(6, pI x6), (5, pI x5), (4, pI x4), (3, pR a3), (0, pR a0), (2, pI x2)] [] σ Se := by
  unfold f_X2_lengthIn_68 at h
  refine V_iload (i := 4) 2 dX2_lengthIn_68 rfl ?_
  refine V_aload_n (i := 3) 3 dX2_lengthIn_70 rfl rfl ?_
  refine V_iload (i := 5) 1 dX2_lengthIn_71 rfl ?_
  obtain ⟨e1, e2, h⟩ := bd_s h
  obtain ⟨b3, σ4, e5, h⟩ := bp_s h
  refine V_callV_v (n9 := 1) (c := 9) (r := (RJ2, TJ2, 3)) [pI x4] (v_J2_get l G hst _ e5) rfl rfl (lw_V q936 q937 q938 q80 q939) (by decide +kernel) (by decide) (Nat.le_of_ble_eq_true rfl) (gk_k e2 rfl) rfl dX2_lengthIn_73 ?_
  obtain ⟨e6, e7, h⟩ := bd_s h
  refine V_ckC (c := 2) e7 q948 rfl (Or.inl rfl) dX2_lengthIn_76 ?_
  refine V_iload (i := 6) 0 dX2_lengthIn_79 rfl ?_
  obtain ⟨e8, e9, h⟩ := bd_s h
  obtain ⟨y10, σ11, e12, h⟩ := bp_s h
  refine V_callV_v (n9 := 1) (c := 2) (r := (RX4, TX4, 6)) [pI x4] (v_X4_lengthAt l G hst _ e12) rfl rfl (lw_V q1315 q1297 q1298 q98 q1299) (by decide +kernel) (by decide) (Nat.le_of_ble_eq_true rfl) (gk_k e9 rfl) rfl dX2_lengthIn_81 ?_
  refine V_iload (i := 5) 1 dX2_lengthIn_84 rfl ?_
  refine V_if_le 98 dX2_lengthIn_86 (by decide) (fun c13 => ?_) (fun c13 => ?_)
  · replace h := it_t c13 h
    refine V_iconst (v := 0) dX2_lengthIn_98 (by decide) ?_
    refine V_sub [1, 3, 4, 5] rfl ?_
    exact v_X2_lengthIn_99 hst hk18 h
  · replace h := it_f c13 h
    refine V_aload_n (i := 0) 4 dX2_lengthIn_89 rfl rfl ?_
    obtain ⟨b14, e15, h⟩ := bd_s h
    refine V_rdR gf_X2_21 rfl rfl rfl e15 dX2_lengthIn_90 ?_
    refine V_iconst (v := 0) dX2_lengthIn_93 (by decide) ?_
    obtain ⟨y16, e17, h⟩ := bd_s h
    refine V_elI1 e17 dX2_lengthIn_94 ?_
    refine V_goto 99 dX2_lengthIn_95 (by decide) ?_
    refine V_sub [1, 3, 4, 5] rfl ?_
    exact v_X2_lengthIn_99 hst hk18 h
def f_X2_lengthIn_44_b (k18 : Hp → Int32 → Int32 → Nat → Nat → Int32 → Option (Int32 × Hp)) (k44 : Hp → Int32 → Int32 → Int32 → Int32 → Nat → Nat → Int32 → Option (Int32 × Hp)) (σ : Hp) (x7 : Int32) (x6 : Int32) (x5 : Int32) (x4 : Int32) (a3 : Nat) (a0 : Nat) (x2 : Int32) : Option (Int32 × Hp) :=
  if x2 ≤ x7 then (f_X2_lengthIn_68 k18 σ x6 x5 x4 a3 a0 x2) else (if x6 ≤ (0 : Int32) then (f_X2_lengthIn_68 k18 σ x6 x5 x4 a3 a0 x2) else (bd (f_X1_cooled x6) fun y3 => k44 σ (x7 + (1 : Int32)) y3 x5 x4 a3 a0 x2))
set_option maxHeartbeats 4000000 in
theorem v_X2_lengthIn_44_b {l : Launch} {G : Gx} (hst : l.stackTraces = false) {σ0 σe : Hp} {Se : Ms} {r : Int32} {k18 : Hp → Int32 → Int32 → Nat → Nat → Int32 → Option (Int32 × Hp)} {k44 : Hp → Int32 → Int32 → Int32 → Int32 → Nat → Nat → Int32 → Option (Int32 × Hp)} (hk18 : ∀ (σ : Hp) (x5 : Int32) (x4 : Int32) (a3 : Nat) (a0 : Nat) (x2 : Int32), k18 σ x5 x4 a3 a0 x2 = some (r, σe) → VV_X2_lengthIn l G σ0 (.inl (some (pI r))) σe Se 18 [(5, pI x5), (4, pI x4), (3, pR a3), (0, pR a0), (2, pI x2)] [] σ Se) (hk44 : ∀ (σ : Hp) (x7 : Int32) (x6 : Int32) (x5 : Int32) (x4 : Int32) (a3 : Nat) (a0 : Nat) (x2 : Int32), k44 σ x7 x6 x5 x4 a3 a0 x2 = some (r, σe) → VV_X2_lengthIn l G σ0 (.inl (some (pI r))) σe Se 44 [(7, pI x7), (6, pI x6), (5, pI x5), (4, pI x4), (3, pR a3), (0, pR a0), (2, pI x2)] [] σ Se) {σ : Hp} {x7 : Int32} {x6 : Int32} {x5 : Int32} {x4 : Int32} {a3 : Nat} {a0 : Nat} {x2 : Int32} (h : f_X2_lengthIn_44_b k18 k44 σ x7 x6 x5 x4 a3 a0 x2 = some (r, σe)) : VV_X2_lengthIn l G σ0 (.inl (some (pI r))) σe Se 44 [(7, pI x7), (6, pI x6), (5, pI x5), (4, pI x4), (3, pR a3), (0, pR a0), (2, pI x2)] [] σ Se := by
  unfold f_X2_lengthIn_44_b at h
  refine V_iload (i := 7) 0 dX2_lengthIn_44 rfl ?_
  refine V_iload_n (i := 2) 6 dX2_lengthIn_46 rfl rfl ?_
  refine V_icmp_ge 68 dX2_lengthIn_47 (by decide) (fun c1 => ?_) (fun c1 => ?_)
  · replace h := it_t c1 h
    refine V_sub [1, 2, 3, 4, 5, 6] rfl ?_
    exact v_X2_lengthIn_68 hst hk18 h
  · replace h := it_f c1 h
    refine V_iload (i := 6) 1 dX2_lengthIn_50 rfl ?_
    refine V_if_le 68 dX2_lengthIn_52 (by decide) (fun c2 => ?_) (fun c2 => ?_)
    · replace h := it_t c2 h
      refine V_sub [1, 2, 3, 4, 5, 6] rfl ?_
      exact v_X2_lengthIn_68 hst hk18 h
    · replace h := it_f c2 h
      refine V_iload (i := 6) 1 dX2_lengthIn_55 rfl ?_
      obtain ⟨y3, e4, h⟩ := bd_s h
      refine V_callSN_v (n9 := 1) (host := "GaugeBlocks") [] (v_X1_cooled l G hst _ _ e4) rfl rfl q1111 q1110 q76 (by decide +kernel) (by decide +kernel) (by decide) (Nat.le_of_ble_eq_true rfl) dX2_lengthIn_57 ?_
      refine V_istore (i := 6) (L' := [(6, pI y3), (7, pI x7), (5, pI x5), (4, pI x4), (3, pR a3), (0, pR a0), (2, pI x2)]) dX2_lengthIn_60 (by decide) rfl ?_
      refine V_iinc (v := (x7 + (1 : Int32))) (L' := [(7, pI (x7 + (1 : Int32))), (6, pI y3), (5, pI x5), (4, pI x4), (3, pR a3), (0, pR a0), (2, pI x2)]) 1 dX2_lengthIn_62 rfl rfl (by decide) rfl ?_
      refine V_goto 44 dX2_lengthIn_65 (by decide) ?_
      refine V_sub [0, 1, 2, 3, 4, 5, 6] rfl ?_
      exact hk44 _ _ _ _ _ _ _ _ h
def f_X2_lengthIn_44 (k18 : Hp → Int32 → Int32 → Nat → Nat → Int32 → Option (Int32 × Hp)) : Nat → Hp → Int32 → Int32 → Int32 → Int32 → Nat → Nat → Int32 → Option (Int32 × Hp)
  | 0, _, _, _, _, _, _, _, _ => none
  | n + 1, σ, x7, x6, x5, x4, a3, a0, x2 => f_X2_lengthIn_44_b k18 (f_X2_lengthIn_44 k18 n) σ x7 x6 x5 x4 a3 a0 x2
theorem v_X2_lengthIn_44 {l : Launch} {G : Gx} (hst : l.stackTraces = false) {σ0 σe : Hp} {Se : Ms} {r : Int32} {k18 : Hp → Int32 → Int32 → Nat → Nat → Int32 → Option (Int32 × Hp)} (hk18 : ∀ (σ : Hp) (x5 : Int32) (x4 : Int32) (a3 : Nat) (a0 : Nat) (x2 : Int32), k18 σ x5 x4 a3 a0 x2 = some (r, σe) → VV_X2_lengthIn l G σ0 (.inl (some (pI r))) σe Se 18 [(5, pI x5), (4, pI x4), (3, pR a3), (0, pR a0), (2, pI x2)] [] σ Se) : ∀ (n : Nat) (σ : Hp) (x7 : Int32) (x6 : Int32) (x5 : Int32) (x4 : Int32) (a3 : Nat) (a0 : Nat) (x2 : Int32), f_X2_lengthIn_44 k18 n σ x7 x6 x5 x4 a3 a0 x2 = some (r, σe) → VV_X2_lengthIn l G σ0 (.inl (some (pI r))) σe Se 44 [(7, pI x7), (6, pI x6), (5, pI x5), (4, pI x4), (3, pR a3), (0, pR a0), (2, pI x2)] [] σ Se
  | 0, _, _, _, _, _, _, _, _, h => by cases h
  | n + 1, _, _, _, _, _, _, _, _, h => v_X2_lengthIn_44_b hst hk18 (v_X2_lengthIn_44 hst hk18 n) h
def f_X2_lengthIn_18_b (k18 : Hp → Int32 → Int32 → Nat → Nat → Int32 → Option (Int32 × Hp)) (σ : Hp) (x5 : Int32) (x4 : Int32) (a3 : Nat) (a0 : Nat) (x2 : Int32) : Option (Int32 × Hp) :=
  bd (gk σ 10 a3) fun e1 => bp (f_J2_size σ a3) fun y3 σ4 => if y3 ≤ x5 then (some (x4, σ4)) else (bd (gk σ4 10 a3) fun e7 => bp (f_J2_get σ4 a3 x5) fun b9 σ10 => bd (ckC σ10 3 b9) fun e12 => bd (rdI σ10 3 b9 33) fun y14 => f_X2_lengthIn_44 k18 FU σ10 (0 : Int32) y14 x5 x4 a3 a0 x2)
set_option maxHeartbeats 4000000 in
theorem v_X2_lengthIn_18_b {l : Launch} {G : Gx} (hst : l.stackTraces = false) {σ0 σe : Hp} {Se : Ms} {r : Int32} {k18 : Hp → Int32 → Int32 → Nat → Nat → Int32 → Option (Int32 × Hp)} (hk18 : ∀ (σ : Hp) (x5 : Int32) (x4 : Int32) (a3 : Nat) (a0 : Nat) (x2 : Int32), k18 σ x5 x4 a3 a0 x2 = some (r, σe) → VV_X2_lengthIn l G σ0 (.inl (some (pI r))) σe Se 18 [(5, pI x5), (4, pI x4), (3, pR a3), (0, pR a0), (2, pI x2)] [] σ Se) {σ : Hp} {x5 : Int32} {x4 : Int32} {a3 : Nat} {a0 : Nat} {x2 : Int32} (h : f_X2_lengthIn_18_b k18 σ x5 x4 a3 a0 x2 = some (r, σe)) : VV_X2_lengthIn l G σ0 (.inl (some (pI r))) σe Se 18 [(5, pI x5), (4, pI x4), (3, pR a3), (0, pR a0), (2, pI x2)] [] σ Se := by
  unfold f_X2_lengthIn_18_b at h
  refine V_iload (i := 5) 0 dX2_lengthIn_18 rfl ?_
  refine V_aload_n (i := 3) 2 dX2_lengthIn_20 rfl rfl ?_
  obtain ⟨e1, e2, h⟩ := bd_s h
  obtain ⟨y3, σ4, e5, h⟩ := bp_s h
  refine V_callV_v (n9 := 0) (c := 9) (r := (RJ2, TJ2, 3)) [pI x5] (v_J2_size l G hst _ e5) rfl rfl (lw_V q935 q861 q862 q80 q863) (by decide +kernel) (by decide) (Nat.le_of_ble_eq_true rfl) (gk_k e2 rfl) rfl dX2_lengthIn_21 ?_
  refine V_icmp_ge 109 dX2_lengthIn_24 (by decide) (fun c6 => ?_) (fun c6 => ?_)
  · replace h := it_t c6 h
    refine V_iload (i := 4) 1 dX2_lengthIn_109 rfl ?_
    cases h
    exact V_iret rfl dX2_lengthIn_111
  · replace h := it_f c6 h
    refine V_aload_n (i := 3) 2 dX2_lengthIn_27 rfl rfl ?_
    refine V_iload (i := 5) 0 dX2_lengthIn_28 rfl ?_
    obtain ⟨e7, e8, h⟩ := bd_s h
    obtain ⟨b9, σ10, e11, h⟩ := bp_s h
    refine V_callV_v (n9 := 1) (c := 9) (r := (RJ2, TJ2, 3)) [] (v_J2_get l G hst _ e11) rfl rfl (lw_V q936 q937 q938 q80 q939) (by decide +kernel) (by decide) (Nat.le_of_ble_eq_true rfl) (gk_k e8 rfl) rfl dX2_lengthIn_30 ?_
    obtain ⟨e12, e13, h⟩ := bd_s h
    refine V_ckC (c := 2) e13 q948 rfl (Or.inl rfl) dX2_lengthIn_33 ?_
    obtain ⟨y14, e15, h⟩ := bd_s h
    refine V_rdI gf_X2_71 rfl rfl rfl e15 dX2_lengthIn_36 ?_
    refine V_istore (i := 6) (L' := [(6, pI y14), (5, pI x5), (4, pI x4), (3, pR a3), (0, pR a0), (2, pI x2)]) dX2_lengthIn_39 (by decide) rfl ?_
    refine V_iconst (v := 0) dX2_lengthIn_41 (by decide) ?_
    refine V_istore (i := 7) (L' := [(7, pI (0 : Int32)), (6, pI y14), (5, pI x5), (4, pI x4), (3, pR a3), (0, pR a0), (2, pI x2)]) dX2_lengthIn_42 (by decide) rfl ?_
    refine V_sub [0, 1, 2, 3, 4, 5, 6] rfl ?_
    exact v_X2_lengthIn_44 hst hk18 FU _ _ _ _ _ _ _ _ h
def f_X2_lengthIn_18 : Nat → Hp → Int32 → Int32 → Nat → Nat → Int32 → Option (Int32 × Hp)
  | 0, _, _, _, _, _, _ => none
  | n + 1, σ, x5, x4, a3, a0, x2 => f_X2_lengthIn_18_b (f_X2_lengthIn_18 n) σ x5 x4 a3 a0 x2
theorem v_X2_lengthIn_18 {l : Launch} {G : Gx} (hst : l.stackTraces = false) {σ0 σe : Hp} {Se : Ms} {r : Int32} : ∀ (n : Nat) (σ : Hp) (x5 : Int32) (x4 : Int32) (a3 : Nat) (a0 : Nat) (x2 : Int32), f_X2_lengthIn_18 n σ x5 x4 a3 a0 x2 = some (r, σe) → VV_X2_lengthIn l G σ0 (.inl (some (pI r))) σe Se 18 [(5, pI x5), (4, pI x4), (3, pR a3), (0, pR a0), (2, pI x2)] [] σ Se
  | 0, _, _, _, _, _, _, h => by cases h
  | n + 1, _, _, _, _, _, _, h => v_X2_lengthIn_18_b hst (v_X2_lengthIn_18 hst n) h
def f_X2_lengthIn (σ : Hp) (a0 : Nat) (x1 : Int32) (x2 : Int32) : Option (Int32 × Hp) :=
  bd (rdR σ 2 a0 21) fun b1 => bd (gk σ 10 b1) fun e3 => bp (f_J2_get σ b1 x1) fun b5 σ6 => bd (ckC σ6 10 b5) fun e8 => f_X2_lengthIn_18 FU σ6 (0 : Int32) (0 : Int32) b5 a0 x2
set_option maxHeartbeats 4000000 in
theorem v_X2_lengthIn (l : Launch) (G : Gx) (hst : l.stackTraces = false) (S : Ms) {σ σe : Hp} {a0 : Nat} {x1 : Int32} {x2 : Int32} {r : Int32} (h : f_X2_lengthIn σ a0 x1 x2 = some (r, σe)) : MT l G yX2_lengthIn (ws_ yX2_lengthIn cX2_lengthIn 8 (some .int)) 4 94 [pR a0, pI x1, pI x2] σ S (.inl (some (pI r))) σe S := by
  refine MT_of (own := RX2) (nL := 8) (ini := false) (by decide +kernel) rfl (Nat.le_of_ble_eq_true rfl) (fun h => by cases h) hst ?_
  show VV_X2_lengthIn l G σ (.inl (some (pI r))) σe S 0 [(0, pR a0), (1, pI x1), (2, pI x2)] [] σ S
  unfold f_X2_lengthIn at h
  refine V_aload_n (i := 0) 0 dX2_lengthIn_0 rfl rfl ?_
  obtain ⟨b1, e2, h⟩ := bd_s h
  refine V_rdR gf_X2_18 rfl rfl rfl e2 dX2_lengthIn_1 ?_
  refine V_iload_n (i := 1) 1 dX2_lengthIn_4 rfl rfl ?_
  obtain ⟨e3, e4, h⟩ := bd_s h
  obtain ⟨b5, σ6, e7, h⟩ := bp_s h
  refine V_callV_v (n9 := 1) (c := 9) (r := (RJ2, TJ2, 3)) [] (v_J2_get l G hst _ e7) rfl rfl (lw_V q936 q937 q938 q80 q939) (by decide +kernel) (by decide) (Nat.le_of_ble_eq_true rfl) (gk_k e4 rfl) rfl dX2_lengthIn_5 ?_
  obtain ⟨e8, e9, h⟩ := bd_s h
  refine V_ckC (c := 9) e9 q139 rfl (Or.inl rfl) dX2_lengthIn_8 ?_
  refine V_astore_n (i := 3) (L' := [(3, pR b5), (0, pR a0), (1, pI x1), (2, pI x2)]) dX2_lengthIn_11 rfl (by decide) rfl ?_
  refine V_iconst (v := 0) dX2_lengthIn_12 (by decide) ?_
  refine V_istore (i := 4) (L' := [(4, pI (0 : Int32)), (3, pR b5), (0, pR a0), (1, pI x1), (2, pI x2)]) dX2_lengthIn_13 (by decide) rfl ?_
  refine V_iconst (v := 0) dX2_lengthIn_15 (by decide) ?_
  refine V_istore (i := 5) (L' := [(5, pI (0 : Int32)), (4, pI (0 : Int32)), (3, pR b5), (0, pR a0), (1, pI x1), (2, pI x2)]) dX2_lengthIn_16 (by decide) rfl ?_
  refine V_sub [0, 1, 2, 3, 5] rfl ?_
  exact v_X2_lengthIn_18 hst FU _ _ _ _ _ _ h

abbrev VV_X2_blocksIn (l : Launch) (G : Gx) (σ0 : Hp) (o : Oc) (σe : Hp) (Se : Ms) := V l G RX2 cX2_blocksIn 4 (some .int) [] false 4 94 σ0 o σe Se
def f_X2_blocksIn_41 (k4 : Hp → Int32 → Int32 → Nat → Int32 → Option (Int32 × Hp)) (σ : Hp) (x3 : Int32) (a0 : Nat) (x1 : Int32) (s0 : Int32) (s1 : Int32) : Option (Int32 × Hp) :=
  k4 σ (x3 + (1 : Int32)) (s1 ||| s0) a0 x1
set_option maxHeartbeats 4000000 in
theorem v_X2_blocksIn_41 {l : Launch} {G : Gx} (hst : l.stackTraces = false) {σ0 σe : Hp} {Se : Ms} {r : Int32} {k4 : Hp → Int32 → Int32 → Nat → Int32 → Option (Int32 × Hp)} (hk4 : ∀ (σ : Hp) (x3 : Int32) (x2 : Int32) (a0 : Nat) (x1 : Int32), k4 σ x3 x2 a0 x1 = some (r, σe) → VV_X2_blocksIn l G σ0 (.inl (some (pI r))) σe Se 4 [(3, pI x3), (2, pI x2), (0, pR a0), (1, pI x1)] [] σ Se) {σ : Hp} {x3 : Int32} {a0 : Nat} {x1 : Int32} {s0 : Int32} {s1 : Int32} (h : f_X2_blocksIn_41 k4 σ x3 a0 x1 s0 s1 = some (r, σe)) : VV_X2_blocksIn l G σ0 (.inl (some (pI r))) σe Se 41 [(3, pI x3), (0, pR a0), (1, pI x1)] [pI s0, pI s1] σ Se := by
  unfold f_X2_blocksIn_41 at h
  refine V_ior dX2_blocksIn_41 ?_
  refine V_istore_n (i := 2) (L' := [(2, pI (s1 ||| s0)), (3, pI x3), (0, pR a0), (1, pI x1)]) dX2_blocksIn_42 rfl (by decide) rfl ?_
  refine V_iinc (v := (x3 + (1 : Int32))) (L' := [(3, pI (x3 + (1 : Int32))), (2, pI (s1 ||| s0)), (0, pR a0), (1, pI x1)]) 1 dX2_blocksIn_43 rfl rfl (by decide) rfl ?_
  refine V_goto 4 dX2_blocksIn_46 (by decide) ?_
  refine V_sub [0, 1, 2, 3] rfl ?_
  exact hk4 _ _ _ _ _ h
def f_X2_blocksIn_4_b (k4 : Hp → Int32 → Int32 → Nat → Int32 → Option (Int32 × Hp)) (σ : Hp) (x3 : Int32) (x2 : Int32) (a0 : Nat) (x1 : Int32) : Option (Int32 × Hp) :=
  bd (rdR σ 2 a0 20) fun b1 => bd (gk σ 10 b1) fun e3 => bp (f_J2_size σ b1) fun y5 σ6 => if y5 ≤ x3 then (some (x2, σ6)) else (bd (rdR σ6 2 a0 20) fun b9 => bd (gk σ6 10 b9) fun e11 => bp (f_J2_get σ6 b9 x3) fun b13 σ14 => bd (ckC σ14 3 b13) fun e16 => bd (rdI σ14 3 b13 35) fun y18 => if y18 = x1 then (f_X2_blocksIn_41 k4 σ14 x3 a0 x1 ((1 : Int32) <<< (x3 &&& 31)) x2) else (f_X2_blocksIn_41 k4 σ14 x3 a0 x1 (0 : Int32) x2))
set_option maxHeartbeats 4000000 in
theorem v_X2_blocksIn_4_b {l : Launch} {G : Gx} (hst : l.stackTraces = false) {σ0 σe : Hp} {Se : Ms} {r : Int32} {k4 : Hp → Int32 → Int32 → Nat → Int32 → Option (Int32 × Hp)} (hk4 : ∀ (σ : Hp) (x3 : Int32) (x2 : Int32) (a0 : Nat) (x1 : Int32), k4 σ x3 x2 a0 x1 = some (r, σe) → VV_X2_blocksIn l G σ0 (.inl (some (pI r))) σe Se 4 [(3, pI x3), (2, pI x2), (0, pR a0), (1, pI x1)] [] σ Se) {σ : Hp} {x3 : Int32} {x2 : Int32} {a0 : Nat} {x1 : Int32} (h : f_X2_blocksIn_4_b k4 σ x3 x2 a0 x1 = some (r, σe)) : VV_X2_blocksIn l G σ0 (.inl (some (pI r))) σe Se 4 [(3, pI x3), (2, pI x2), (0, pR a0), (1, pI x1)] [] σ Se := by
  unfold f_X2_blocksIn_4_b at h
  refine V_iload_n (i := 3) 0 dX2_blocksIn_4 rfl rfl ?_
  refine V_aload_n (i := 0) 2 dX2_blocksIn_5 rfl rfl ?_
  obtain ⟨b1, e2, h⟩ := bd_s h
  refine V_rdR gf_X2_12 rfl rfl rfl e2 dX2_blocksIn_6 ?_
  obtain ⟨e3, e4, h⟩ := bd_s h
  obtain ⟨y5, σ6, e7, h⟩ := bp_s h
  refine V_callV_v (n9 := 0) (c := 9) (r := (RJ2, TJ2, 3)) [pI x3] (v_J2_size l G hst _ e7) rfl rfl (lw_V q935 q861 q862 q80 q863) (by decide +kernel) (by decide) (Nat.le_of_ble_eq_true rfl) (gk_k e4 rfl) rfl dX2_blocksIn_9 ?_
  refine V_icmp_ge 49 dX2_blocksIn_12 (by decide) (fun c8 => ?_) (fun c8 => ?_)
  · replace h := it_t c8 h
    refine V_iload_n (i := 2) 1 dX2_blocksIn_49 rfl rfl ?_
    cases h
    exact V_iret rfl dX2_blocksIn_50
  · replace h := it_f c8 h
    refine V_iload_n (i := 2) 1 dX2_blocksIn_15 rfl rfl ?_
    refine V_aload_n (i := 0) 2 dX2_blocksIn_16 rfl rfl ?_
    obtain ⟨b9, e10, h⟩ := bd_s h
    refine V_rdR gf_X2_12 rfl rfl rfl e10 dX2_blocksIn_17 ?_
    refine V_iload_n (i := 3) 0 dX2_blocksIn_20 rfl rfl ?_
    obtain ⟨e11, e12, h⟩ := bd_s h
    obtain ⟨b13, σ14, e15, h⟩ := bp_s h
    refine V_callV_v (n9 := 1) (c := 9) (r := (RJ2, TJ2, 3)) [pI x2] (v_J2_get l G hst _ e15) rfl rfl (lw_V q936 q937 q938 q80 q939) (by decide +kernel) (by decide) (Nat.le_of_ble_eq_true rfl) (gk_k e12 rfl) rfl dX2_blocksIn_21 ?_
    obtain ⟨e16, e17, h⟩ := bd_s h
    refine V_ckC (c := 2) e17 q948 rfl (Or.inl rfl) dX2_blocksIn_24 ?_
    obtain ⟨y18, e19, h⟩ := bd_s h
    refine V_rdI gf_X2_96 rfl rfl rfl e19 dX2_blocksIn_27 ?_
    refine V_iload_n (i := 1) 3 dX2_blocksIn_30 rfl rfl ?_
    refine V_icmp_ne 40 dX2_blocksIn_31 (by decide) (fun c20 => ?_) (fun c20 => ?_)
    · replace h := it_f c20 h
      refine V_iconst (v := 0) dX2_blocksIn_40 (by decide) ?_
      refine V_sub [0, 2, 3] rfl ?_
      exact v_X2_blocksIn_41 hst hk4 h
    · replace h := it_t c20 h
      refine V_iconst (v := 1) dX2_blocksIn_34 (by decide) ?_
      refine V_iload_n (i := 3) 0 dX2_blocksIn_35 rfl rfl ?_
      refine V_ishl dX2_blocksIn_36 ?_
      refine V_goto 41 dX2_blocksIn_37 (by decide) ?_
      refine V_sub [0, 2, 3] rfl ?_
      exact v_X2_blocksIn_41 hst hk4 h
def f_X2_blocksIn_4 : Nat → Hp → Int32 → Int32 → Nat → Int32 → Option (Int32 × Hp)
  | 0, _, _, _, _, _ => none
  | n + 1, σ, x3, x2, a0, x1 => f_X2_blocksIn_4_b (f_X2_blocksIn_4 n) σ x3 x2 a0 x1
theorem v_X2_blocksIn_4 {l : Launch} {G : Gx} (hst : l.stackTraces = false) {σ0 σe : Hp} {Se : Ms} {r : Int32} : ∀ (n : Nat) (σ : Hp) (x3 : Int32) (x2 : Int32) (a0 : Nat) (x1 : Int32), f_X2_blocksIn_4 n σ x3 x2 a0 x1 = some (r, σe) → VV_X2_blocksIn l G σ0 (.inl (some (pI r))) σe Se 4 [(3, pI x3), (2, pI x2), (0, pR a0), (1, pI x1)] [] σ Se
  | 0, _, _, _, _, _, h => by cases h
  | n + 1, _, _, _, _, _, h => v_X2_blocksIn_4_b hst (v_X2_blocksIn_4 hst n) h
def f_X2_blocksIn (σ : Hp) (a0 : Nat) (x1 : Int32) : Option (Int32 × Hp) :=
  f_X2_blocksIn_4 FU σ (0 : Int32) (0 : Int32) a0 x1
set_option maxHeartbeats 4000000 in
theorem v_X2_blocksIn (l : Launch) (G : Gx) (hst : l.stackTraces = false) (S : Ms) {σ σe : Hp} {a0 : Nat} {x1 : Int32} {r : Int32} (h : f_X2_blocksIn σ a0 x1 = some (r, σe)) : MT l G yX2_blocksIn (ws_ yX2_blocksIn cX2_blocksIn 4 (some .int)) 4 94 [pR a0, pI x1] σ S (.inl (some (pI r))) σe S := by
  refine MT_of (own := RX2) (nL := 4) (ini := false) (by decide +kernel) rfl (Nat.le_of_ble_eq_true rfl) (fun h => by cases h) hst ?_
  show VV_X2_blocksIn l G σ (.inl (some (pI r))) σe S 0 [(0, pR a0), (1, pI x1)] [] σ S
  unfold f_X2_blocksIn at h
  refine V_iconst (v := 0) dX2_blocksIn_0 (by decide) ?_
  refine V_istore_n (i := 2) (L' := [(2, pI (0 : Int32)), (0, pR a0), (1, pI x1)]) dX2_blocksIn_1 rfl (by decide) rfl ?_
  refine V_iconst (v := 0) dX2_blocksIn_2 (by decide) ?_
  refine V_istore_n (i := 3) (L' := [(3, pI (0 : Int32)), (2, pI (0 : Int32)), (0, pR a0), (1, pI x1)]) dX2_blocksIn_3 rfl (by decide) rfl ?_
  refine V_sub [0, 1, 2, 3] rfl ?_
  exact v_X2_blocksIn_4 hst FU _ _ _ _ _ h

abbrev VV_X2_gradeOf (l : Launch) (G : Gx) (σ0 : Hp) (o : Oc) (σe : Hp) (Se : Ms) := V l G RX2 cX2_gradeOf 4 (some .int) [] false 4 94 σ0 o σe Se
def f_X2_gradeOf_4_b (k4 : Hp → Int32 → Int32 → Nat → Int32 → Option (Int32 × Hp)) (σ : Hp) (x3 : Int32) (x2 : Int32) (a0 : Nat) (x1 : Int32) : Option (Int32 × Hp) :=
  bd (rdR σ 2 a0 21) fun b1 => bd (gk σ 10 b1) fun e3 => bp (f_J2_get σ b1 x1) fun b5 σ6 => bd (ckC σ6 10 b5) fun e8 => bd (gk σ6 10 b5) fun e10 => bp (f_J2_size σ6 b5) fun y12 σ13 => if y12 ≤ x3 then (some (x2, σ13)) else (bd (rdR σ13 2 a0 21) fun b16 => bd (gk σ13 10 b16) fun e18 => bp (f_J2_get σ13 b16 x1) fun b20 σ21 => bd (ckC σ21 10 b20) fun e23 => bd (gk σ21 10 b20) fun e25 => bp (f_J2_get σ21 b20 x3) fun b27 σ28 => bd (ckC σ28 3 b27) fun e30 => bd (gk σ28 3 b27) fun e32 => bp (f_X4_grade σ28 b27) fun y34 σ35 => k4 σ35 (x3 + (1 : Int32)) (if x2 < y34 then y34 else x2) a0 x1)
set_option maxHeartbeats 4000000 in
theorem v_X2_gradeOf_4_b {l : Launch} {G : Gx} (hst : l.stackTraces = false) {σ0 σe : Hp} {Se : Ms} {r : Int32} {k4 : Hp → Int32 → Int32 → Nat → Int32 → Option (Int32 × Hp)} (hk4 : ∀ (σ : Hp) (x3 : Int32) (x2 : Int32) (a0 : Nat) (x1 : Int32), k4 σ x3 x2 a0 x1 = some (r, σe) → VV_X2_gradeOf l G σ0 (.inl (some (pI r))) σe Se 4 [(3, pI x3), (2, pI x2), (0, pR a0), (1, pI x1)] [] σ Se) {σ : Hp} {x3 : Int32} {x2 : Int32} {a0 : Nat} {x1 : Int32} (h : f_X2_gradeOf_4_b k4 σ x3 x2 a0 x1 = some (r, σe)) : VV_X2_gradeOf l G σ0 (.inl (some (pI r))) σe Se 4 [(3, pI x3), (2, pI x2), (0, pR a0), (1, pI x1)] [] σ Se := by
  unfold f_X2_gradeOf_4_b at h
  refine V_iload_n (i := 3) 0 dX2_gradeOf_4 rfl rfl ?_
  refine V_aload_n (i := 0) 2 dX2_gradeOf_5 rfl rfl ?_
  obtain ⟨b1, e2, h⟩ := bd_s h
  refine V_rdR gf_X2_18 rfl rfl rfl e2 dX2_gradeOf_6 ?_
  refine V_iload_n (i := 1) 3 dX2_gradeOf_9 rfl rfl ?_
  obtain ⟨e3, e4, h⟩ := bd_s h
  obtain ⟨b5, σ6, e7, h⟩ := bp_s h
  refine V_callV_v (n9 := 1) (c := 9) (r := (RJ2, TJ2, 3)) [pI x3] (v_J2_get l G hst _ e7) rfl rfl (lw_V q936 q937 q938 q80 q939) (by decide +kernel) (by decide) (Nat.le_of_ble_eq_true rfl) (gk_k e4 rfl) rfl dX2_gradeOf_10 ?_
  obtain ⟨e8, e9, h⟩ := bd_s h
  refine V_ckC (c := 9) e9 q139 rfl (Or.inl rfl) dX2_gradeOf_13 ?_
  obtain ⟨e10, e11, h⟩ := bd_s h
  obtain ⟨y12, σ13, e14, h⟩ := bp_s h
  refine V_callV_v (n9 := 0) (c := 9) (r := (RJ2, TJ2, 3)) [pI x3] (v_J2_size l G hst _ e14) rfl rfl (lw_V q935 q861 q862 q80 q863) (by decide +kernel) (by decide) (Nat.le_of_ble_eq_true rfl) (gk_k e11 rfl) rfl dX2_gradeOf_16 ?_
  refine V_icmp_ge 54 dX2_gradeOf_19 (by decide) (fun c15 => ?_) (fun c15 => ?_)
  · replace h := it_t c15 h
    refine V_iload_n (i := 2) 1 dX2_gradeOf_54 rfl rfl ?_
    cases h
    exact V_iret rfl dX2_gradeOf_55
  · replace h := it_f c15 h
    refine V_iload_n (i := 2) 1 dX2_gradeOf_22 rfl rfl ?_
    refine V_aload_n (i := 0) 2 dX2_gradeOf_23 rfl rfl ?_
    obtain ⟨b16, e17, h⟩ := bd_s h
    refine V_rdR gf_X2_18 rfl rfl rfl e17 dX2_gradeOf_24 ?_
    refine V_iload_n (i := 1) 3 dX2_gradeOf_27 rfl rfl ?_
    obtain ⟨e18, e19, h⟩ := bd_s h
    obtain ⟨b20, σ21, e22, h⟩ := bp_s h
    refine V_callV_v (n9 := 1) (c := 9) (r := (RJ2, TJ2, 3)) [pI x2] (v_J2_get l G hst _ e22) rfl rfl (lw_V q936 q937 q938 q80 q939) (by decide +kernel) (by decide) (Nat.le_of_ble_eq_true rfl) (gk_k e19 rfl) rfl dX2_gradeOf_28 ?_
    obtain ⟨e23, e24, h⟩ := bd_s h
    refine V_ckC (c := 9) e24 q139 rfl (Or.inl rfl) dX2_gradeOf_31 ?_
    refine V_iload_n (i := 3) 0 dX2_gradeOf_34 rfl rfl ?_
    obtain ⟨e25, e26, h⟩ := bd_s h
    obtain ⟨b27, σ28, e29, h⟩ := bp_s h
    refine V_callV_v (n9 := 1) (c := 9) (r := (RJ2, TJ2, 3)) [pI x2] (v_J2_get l G hst _ e29) rfl rfl (lw_V q936 q937 q938 q80 q939) (by decide +kernel) (by decide) (Nat.le_of_ble_eq_true rfl) (gk_k e26 rfl) rfl dX2_gradeOf_35 ?_
    obtain ⟨e30, e31, h⟩ := bd_s h
    refine V_ckC (c := 2) e31 q948 rfl (Or.inl rfl) dX2_gradeOf_38 ?_
    obtain ⟨e32, e33, h⟩ := bd_s h
    obtain ⟨y34, σ35, e36, h⟩ := bp_s h
    refine V_callV_v (n9 := 0) (c := 2) (r := (RX4, TX4, 6)) [pI x2] (v_X4_grade l G hst _ e36) rfl rfl (lw_V q1143 q1082 q1083 q98 q1084) (by decide +kernel) (by decide) (Nat.le_of_ble_eq_true rfl) (gk_k e33 rfl) rfl dX2_gradeOf_41 ?_
    refine V_mmax q1116 q188 q82 q189 (by decide) (Nat.le_of_ble_eq_true rfl) dX2_gradeOf_44 ?_
    refine V_istore_n (i := 2) (L' := [(2, pI (if x2 < y34 then y34 else x2)), (3, pI x3), (0, pR a0), (1, pI x1)]) dX2_gradeOf_47 rfl (by decide) rfl ?_
    refine V_iinc (v := (x3 + (1 : Int32))) (L' := [(3, pI (x3 + (1 : Int32))), (2, pI (if x2 < y34 then y34 else x2)), (0, pR a0), (1, pI x1)]) 1 dX2_gradeOf_48 rfl rfl (by decide) rfl ?_
    refine V_goto 4 dX2_gradeOf_51 (by decide) ?_
    refine V_sub [0, 1, 2, 3] rfl ?_
    exact hk4 _ _ _ _ _ h
def f_X2_gradeOf_4 : Nat → Hp → Int32 → Int32 → Nat → Int32 → Option (Int32 × Hp)
  | 0, _, _, _, _, _ => none
  | n + 1, σ, x3, x2, a0, x1 => f_X2_gradeOf_4_b (f_X2_gradeOf_4 n) σ x3 x2 a0 x1
theorem v_X2_gradeOf_4 {l : Launch} {G : Gx} (hst : l.stackTraces = false) {σ0 σe : Hp} {Se : Ms} {r : Int32} : ∀ (n : Nat) (σ : Hp) (x3 : Int32) (x2 : Int32) (a0 : Nat) (x1 : Int32), f_X2_gradeOf_4 n σ x3 x2 a0 x1 = some (r, σe) → VV_X2_gradeOf l G σ0 (.inl (some (pI r))) σe Se 4 [(3, pI x3), (2, pI x2), (0, pR a0), (1, pI x1)] [] σ Se
  | 0, _, _, _, _, _, h => by cases h
  | n + 1, _, _, _, _, _, h => v_X2_gradeOf_4_b hst (v_X2_gradeOf_4 hst n) h
def f_X2_gradeOf (σ : Hp) (a0 : Nat) (x1 : Int32) : Option (Int32 × Hp) :=
  f_X2_gradeOf_4 FU σ (0 : Int32) (-1 : Int32) a0 x1
set_option maxHeartbeats 4000000 in
theorem v_X2_gradeOf (l : Launch) (G : Gx) (hst : l.stackTraces = false) (S : Ms) {σ σe : Hp} {a0 : Nat} {x1 : Int32} {r : Int32} (h : f_X2_gradeOf σ a0 x1 = some (r, σe)) : MT l G yX2_gradeOf (ws_ yX2_gradeOf cX2_gradeOf 4 (some .int)) 4 94 [pR a0, pI x1] σ S (.inl (some (pI r))) σe S := by
  refine MT_of (own := RX2) (nL := 4) (ini := false) (by decide +kernel) rfl (Nat.le_of_ble_eq_true rfl) (fun h => by cases h) hst ?_
  show VV_X2_gradeOf l G σ (.inl (some (pI r))) σe S 0 [(0, pR a0), (1, pI x1)] [] σ S
  unfold f_X2_gradeOf at h
  refine V_iconst (v := (-1)) dX2_gradeOf_0 (by decide) ?_
  refine V_istore_n (i := 2) (L' := [(2, pI (-1 : Int32)), (0, pR a0), (1, pI x1)]) dX2_gradeOf_1 rfl (by decide) rfl ?_
  refine V_iconst (v := 0) dX2_gradeOf_2 (by decide) ?_
  refine V_istore_n (i := 3) (L' := [(3, pI (0 : Int32)), (2, pI (-1 : Int32)), (0, pR a0), (1, pI x1)]) dX2_gradeOf_3 rfl (by decide) rfl ?_
  refine V_sub [0, 1, 2, 3] rfl ?_
  exact v_X2_gradeOf_4 hst FU _ _ _ _ _ h

abbrev VV_X9_init (l : Launch) (G : Gx) (σ0 : Hp) (o : Oc) (σe : Hp) (Se : Ms) := V l G RX9 cX9_init 2 none [] true 1 30 σ0 o σe Se
def f_X9_init (σ : Hp) (a0 : Nat) (x1 : Int32) : Option (Unit × Hp) :=
  bd (gz σ a0) fun e1 => bd (wrI σ 8 a0 80 x1) fun σ3 => some ((), σ3)
set_option maxHeartbeats 4000000 in
theorem v_X9_init (l : Launch) (G : Gx) (hst : l.stackTraces = false) (S : Ms) {σ σe : Hp} {a0 : Nat} {x1 : Int32} {r : Unit} (h : f_X9_init σ a0 x1 = some (r, σe)) : MT l G yX9_init (ws_ yX9_init cX9_init 2 none) 1 30 [pR a0, pI x1] σ S (.inl none) σe S := by
  refine MT_of (own := RX9) (nL := 2) (ini := true) (by decide +kernel) rfl (Nat.le_of_ble_eq_true rfl) (fun h => rfl) hst ?_
  show VV_X9_init l G σ (.inl none) σe S 0 [(0, pR a0), (1, pI x1)] [] σ S
  unfold f_X9_init at h
  refine V_aload_n (i := 0) 0 dX9_init_0 rfl rfl ?_
  obtain ⟨e1, e2, h⟩ := bd_s h
  refine V_objInit (gz_n e2) q1344 q131 q132 (by decide) (Nat.le_of_ble_eq_true rfl) dX9_init_1 ?_
  refine V_aload_n (i := 0) 0 dX9_init_4 rfl rfl ?_
  refine V_iload_n (i := 1) 1 dX9_init_5 rfl rfl ?_
  obtain ⟨σ3, e4, h⟩ := bd_s h
  refine V_wrIF gw_X9_7 rfl rfl rfl rfl e4 dX9_init_6 ?_
  cases h
  exact V_vret rfl dX9_init_9

abbrev VV_J24_init (l : Launch) (G : Gx) (σ0 : Hp) (o : Oc) (σe : Hp) (Se : Ms) := V l G RJ24 cJ24_init 1 none [] true 2 50 σ0 o σe Se
def f_J24_init (σ : Hp) (a0 : Nat) : Option (Unit × Hp) :=
  bd (gz σ a0) fun e1 => bp (f_J0_init σ a0) fun e3 σ4 => some ((), σ4)
set_option maxHeartbeats 4000000 in
theorem v_J24_init (l : Launch) (G : Gx) (hst : l.stackTraces = false) (S : Ms) {σ σe : Hp} {a0 : Nat} {r : Unit} (h : f_J24_init σ a0 = some (r, σe)) : MT l G yJ24_init (ws_ yJ24_init cJ24_init 1 none) 2 50 [pR a0] σ S (.inl none) σe S := by
  refine MT_of (own := RJ24) (nL := 1) (ini := true) (by decide +kernel) rfl (Nat.le_of_ble_eq_true rfl) (fun h => rfl) hst ?_
  show VV_J24_init l G σ (.inl none) σe S 0 [(0, pR a0)] [] σ S
  unfold f_J24_init at h
  refine V_aload_n (i := 0) 0 dJ24_init_0 rfl rfl ?_
  obtain ⟨e1, e2, h⟩ := bd_s h
  obtain ⟨e3, σ4, e5, h⟩ := bp_s h
  refine V_callI_0 (n9 := 0) [] (v_J0_init l G hst _ e5) rfl rfl q149 q78 q1358 q148 rfl (by decide +kernel) (by decide) (Nat.le_of_ble_eq_true rfl) (gz_n e2) dJ24_init_1 ?_
  cases h
  exact V_vret rfl dJ24_init_4

abbrev VV_J25_init_2 (l : Launch) (G : Gx) (σ0 : Hp) (o : Oc) (σe : Hp) (Se : Ms) := V l G RJ25 cJ25_init_2 3 none [] true 3 70 σ0 o σe Se
def f_J25_init_2 (σ : Hp) (a0 : Nat) (x1 : Int32) (a2 : Nat) : Option (Unit × Hp) :=
  bd (gz σ a0) fun e1 => bp (f_J24_init σ a0) fun e3 σ4 => if (1 : Int32) ≤ x1 then (bd (nwA σ4 105 x1) fun σ7 => bd (wrR σ7 14 a0 140 (hN σ4)) fun σ9 => bd (wrR σ9 14 a0 142 a2) fun σ11 => some ((), σ11)) else (none)
set_option maxHeartbeats 4000000 in
theorem v_J25_init_2 (l : Launch) (G : Gx) (hst : l.stackTraces = false) (S : Ms) {σ σe : Hp} {a0 : Nat} {x1 : Int32} {a2 : Nat} {r : Unit} (h : f_J25_init_2 σ a0 x1 a2 = some (r, σe)) : MT l G yJ25_init_2 (ws_ yJ25_init_2 cJ25_init_2 3 none) 3 70 [pR a0, pI x1, pR a2] σ S (.inl none) σe S := by
  refine MT_of (own := RJ25) (nL := 3) (ini := true) (by decide +kernel) rfl (Nat.le_of_ble_eq_true rfl) (fun h => rfl) hst ?_
  show VV_J25_init_2 l G σ (.inl none) σe S 0 [(0, pR a0), (1, pI x1), (2, pR a2)] [] σ S
  unfold f_J25_init_2 at h
  refine V_aload_n (i := 0) 0 dJ25_init_2_0 rfl rfl ?_
  obtain ⟨e1, e2, h⟩ := bd_s h
  obtain ⟨e3, σ4, e5, h⟩ := bp_s h
  refine V_callI_0 (n9 := 0) [] (v_J24_init l G hst _ e5) rfl rfl q1357 q109 q1355 q1356 rfl (by decide +kernel) (by decide) (Nat.le_of_ble_eq_true rfl) (gz_n e2) dJ25_init_2_1 ?_
  refine V_iload_n (i := 1) 1 dJ25_init_2_4 rfl rfl ?_
  refine V_iconst (v := 1) dJ25_init_2_5 (by decide) ?_
  refine V_icmp_ge 17 dJ25_init_2_6 (by decide) (fun c6 => ?_) (fun c6 => ?_)
  · replace h := it_t c6 h
    refine V_aload_n (i := 0) 0 dJ25_init_2_17 rfl rfl ?_
    refine V_iload_n (i := 1) 1 dJ25_init_2_18 rfl rfl ?_
    obtain ⟨σ7, e8, h⟩ := bd_s h
    refine V_nwQ (t := 5) e8 (by decide) q1361 dJ25_init_2_19 ?_
    obtain ⟨σ9, e10, h⟩ := bd_s h
    refine V_wrR gw_J25_17 (okF_arr _ rfl) rfl rfl e10 dJ25_init_2_22 ?_
    refine V_aload_n (i := 0) 0 dJ25_init_2_25 rfl rfl ?_
    refine V_aload_n (i := 2) 2 dJ25_init_2_26 rfl rfl ?_
    obtain ⟨σ11, e12, h⟩ := bd_s h
    refine V_wrRF gw_J25_21 rfl (okF_obj _ rfl) rfl rfl e12 dJ25_init_2_27 ?_
    cases h
    exact V_vret rfl dJ25_init_2_30
  · replace h := it_f c6 h
    cases h

abbrev VV_J25_init (l : Launch) (G : Gx) (σ0 : Hp) (o : Oc) (σe : Hp) (Se : Ms) := V l G RJ25 cJ25_init 2 none [] true 4 92 σ0 o σe Se
def f_J25_init (σ : Hp) (a0 : Nat) (a1 : Nat) : Option (Unit × Hp) :=
  bd (gz σ a0) fun e1 => bp (f_J25_init_2 σ a0 (11 : Int32) a1) fun e3 σ4 => some ((), σ4)
set_option maxHeartbeats 4000000 in
theorem v_J25_init (l : Launch) (G : Gx) (hst : l.stackTraces = false) (S : Ms) {σ σe : Hp} {a0 : Nat} {a1 : Nat} {r : Unit} (h : f_J25_init σ a0 a1 = some (r, σe)) : MT l G yJ25_init (ws_ yJ25_init cJ25_init 2 none) 4 92 [pR a0, pR a1] σ S (.inl none) σe S := by
  refine MT_of (own := RJ25) (nL := 2) (ini := true) (by decide +kernel) rfl (Nat.le_of_ble_eq_true rfl) (fun h => rfl) hst ?_
  show VV_J25_init l G σ (.inl none) σe S 0 [(0, pR a0), (1, pR a1)] [] σ S
  unfold f_J25_init at h
  refine V_aload_n (i := 0) 0 dJ25_init_0 rfl rfl ?_
  refine V_bipush (v := 11) dJ25_init_1 (by decide) ?_
  refine V_aload_n (i := 1) 1 dJ25_init_3 rfl rfl ?_
  obtain ⟨e1, e2, h⟩ := bd_s h
  obtain ⟨e3, σ4, e5, h⟩ := bp_s h
  refine V_callI_0 (n9 := 2) [] (v_J25_init_2 l G hst _ e5) rfl rfl q1354 q110 q1352 q1353 rfl (by decide +kernel) (by decide) (Nat.le_of_ble_eq_true rfl) (gz_n e2) dJ25_init_4 ?_
  cases h
  exact V_vret rfl dJ25_init_7

abbrev VV_X10_init (l : Launch) (G : Gx) (σ0 : Hp) (o : Oc) (σe : Hp) (Se : Ms) := V l G RX10 cX10_init 3 none [] true 1 30 σ0 o σe Se
def f_X10_init (σ : Hp) (a0 : Nat) (x1 : Int32) (a2 : Nat) : Option (Unit × Hp) :=
  bd (gz σ a0) fun e1 => bd (wrI σ 9 a0 90 x1) fun σ3 => bd (wrR σ3 9 a0 91 a2) fun σ5 => some ((), σ5)
set_option maxHeartbeats 4000000 in
theorem v_X10_init (l : Launch) (G : Gx) (hst : l.stackTraces = false) (S : Ms) {σ σe : Hp} {a0 : Nat} {x1 : Int32} {a2 : Nat} {r : Unit} (h : f_X10_init σ a0 x1 a2 = some (r, σe)) : MT l G yX10_init (ws_ yX10_init cX10_init 3 none) 1 30 [pR a0, pI x1, pR a2] σ S (.inl none) σe S := by
  refine MT_of (own := RX10) (nL := 3) (ini := true) (by decide +kernel) rfl (Nat.le_of_ble_eq_true rfl) (fun h => rfl) hst ?_
  show VV_X10_init l G σ (.inl none) σe S 0 [(0, pR a0), (1, pI x1), (2, pR a2)] [] σ S
  unfold f_X10_init at h
  refine V_aload_n (i := 0) 0 dX10_init_0 rfl rfl ?_
  obtain ⟨e1, e2, h⟩ := bd_s h
  refine V_objInit (gz_n e2) q1380 q131 q132 (by decide) (Nat.le_of_ble_eq_true rfl) dX10_init_1 ?_
  refine V_aload_n (i := 0) 0 dX10_init_4 rfl rfl ?_
  refine V_iload_n (i := 1) 1 dX10_init_5 rfl rfl ?_
  obtain ⟨σ3, e4, h⟩ := bd_s h
  refine V_wrIF gw_X10_7 rfl rfl rfl rfl e4 dX10_init_6 ?_
  refine V_aload_n (i := 0) 0 dX10_init_9 rfl rfl ?_
  refine V_aload_n (i := 2) 2 dX10_init_10 rfl rfl ?_
  obtain ⟨σ5, e6, h⟩ := bd_s h
  refine V_wrRF gw_X10_13 rfl (okF_obj _ rfl) rfl rfl e6 dX10_init_11 ?_
  cases h
  exact V_vret rfl dX10_init_14

abbrev VV_J25_grow (l : Launch) (G : Gx) (σ0 : Hp) (o : Oc) (σe : Hp) (Se : Ms) := V l G RJ25 cJ25_grow 4 none [] false 3 124 σ0 o σe Se
def f_J25_grow_25 (σ : Hp) (a0 : Nat) (s0 : Int32) (s1 : Int32) (s2 : Int32) : Option (Unit × Hp) :=
  bd (f_J3_newLength s2 s1 s0) fun y1 => bd (rdR σ 14 a0 140) fun b3 => bp (f_J5_copyOf σ b3 y1) fun b5 σ6 => bd (wrR σ6 14 a0 140 b5) fun σ8 => some ((), σ8)
set_option maxHeartbeats 4000000 in
theorem v_J25_grow_25 {l : Launch} {G : Gx} (hst : l.stackTraces = false) {σ0 σe : Hp} {Se : Ms} {r : Unit} {σ : Hp} {a0 : Nat} {s0 : Int32} {s1 : Int32} {s2 : Int32} (h : f_J25_grow_25 σ a0 s0 s1 s2 = some (r, σe)) : VV_J25_grow l G σ0 (.inl none) σe Se 25 [(0, pR a0)] [pI s0, pI s1, pI s2] σ Se := by
  unfold f_J25_grow_25 at h
  obtain ⟨y1, e2, h⟩ := bd_s h
  refine V_callS_v (n9 := 3) [] (v_J3_newLength l G hst _ _ e2) rfl rfl (lw_S q1403 q185 q81 q186) (by decide +kernel) (by decide) (Nat.le_of_ble_eq_true rfl) dJ25_grow_25 ?_
  refine V_istore_n (i := 3) (L' := [(3, pI y1), (0, pR a0)]) dJ25_grow_28 rfl (by decide) rfl ?_
  refine V_aload_n (i := 0) 1 dJ25_grow_29 rfl rfl ?_
  refine V_aload_n (i := 0) 1 dJ25_grow_30 rfl rfl ?_
  obtain ⟨b3, e4, h⟩ := bd_s h
  refine V_rdR gf_J25_17 rfl rfl rfl e4 dJ25_grow_31 ?_
  refine V_iload_n (i := 3) 0 dJ25_grow_34 rfl rfl ?_
  obtain ⟨b5, σ6, e7, h⟩ := bp_s h
  refine V_callS_v (n9 := 2) [pR a0] (v_J5_copyOf l G hst _ e7) rfl rfl (lw_S q1404 q195 q83 q196) (by decide +kernel) (by decide) (Nat.le_of_ble_eq_true rfl) dJ25_grow_35 ?_
  obtain ⟨σ8, e9, h⟩ := bd_s h
  refine V_wrR gw_J25_17 (okF_arr _ rfl) rfl rfl e9 dJ25_grow_38 ?_
  cases h
  exact V_vret rfl dJ25_grow_41
def f_J25_grow (σ : Hp) (a0 : Nat) (x1 : Int32) : Option (Unit × Hp) :=
  bd (rdR σ 14 a0 140) fun b1 => bd (elN σ b1) fun y3 => if (64 : Int32) ≤ y3 then (f_J25_grow_25 σ a0 (y3 >>> ((1 : Int32) &&& 31)) (x1 - y3) y3) else (f_J25_grow_25 σ a0 (y3 + (2 : Int32)) (x1 - y3) y3)
set_option maxHeartbeats 4000000 in
theorem v_J25_grow (l : Launch) (G : Gx) (hst : l.stackTraces = false) (S : Ms) {σ σe : Hp} {a0 : Nat} {x1 : Int32} {r : Unit} (h : f_J25_grow σ a0 x1 = some (r, σe)) : MT l G yJ25_grow (ws_ yJ25_grow cJ25_grow 4 none) 3 124 [pR a0, pI x1] σ S (.inl none) σe S := by
  refine MT_of (own := RJ25) (nL := 4) (ini := false) (by decide +kernel) rfl (Nat.le_of_ble_eq_true rfl) (fun h => by cases h) hst ?_
  show VV_J25_grow l G σ (.inl none) σe S 0 [(0, pR a0), (1, pI x1)] [] σ S
  unfold f_J25_grow at h
  refine V_aload_n (i := 0) 0 dJ25_grow_0 rfl rfl ?_
  obtain ⟨b1, e2, h⟩ := bd_s h
  refine V_rdR gf_J25_17 rfl rfl rfl e2 dJ25_grow_1 ?_
  obtain ⟨y3, e4, h⟩ := bd_s h
  refine V_elN e4 dJ25_grow_4 ?_
  refine V_istore_n (i := 2) (L' := [(2, pI y3), (0, pR a0), (1, pI x1)]) dJ25_grow_5 rfl (by decide) rfl ?_
  refine V_iload_n (i := 2) 0 dJ25_grow_6 rfl rfl ?_
  refine V_iload_n (i := 1) 2 dJ25_grow_7 rfl rfl ?_
  refine V_iload_n (i := 2) 0 dJ25_grow_8 rfl rfl ?_
  refine V_isub dJ25_grow_9 ?_
  refine V_iload_n (i := 2) 0 dJ25_grow_10 rfl rfl ?_
  refine V_bipush (v := 64) dJ25_grow_11 (by decide) ?_
  refine V_icmp_ge 22 dJ25_grow_13 (by decide) (fun c5 => ?_) (fun c5 => ?_)
  · replace h := it_t c5 h
    refine V_iload_n (i := 2) 0 dJ25_grow_22 rfl rfl ?_
    refine V_iconst (v := 1) dJ25_grow_23 (by decide) ?_
    refine V_ishr dJ25_grow_24 ?_
    refine V_sub [1] rfl ?_
    exact v_J25_grow_25 hst h
  · replace h := it_f c5 h
    refine V_iload_n (i := 2) 0 dJ25_grow_16 rfl rfl ?_
    refine V_iconst (v := 2) dJ25_grow_17 (by decide) ?_
    refine V_iadd dJ25_grow_18 ?_
    refine V_goto 25 dJ25_grow_19 (by decide) ?_
    refine V_sub [1] rfl ?_
    exact v_J25_grow_25 hst h

abbrev VV_X9_key (l : Launch) (G : Gx) (σ0 : Hp) (o : Oc) (σe : Hp) (Se : Ms) := V l G RX9 cX9_key 2 (some .int) [] false 2 50 σ0 o σe Se
def f_X9_key_38 (σ : Hp) (s0 : Int32) : Option (Int32 × Hp) :=
  some (s0, σ)
set_option maxHeartbeats 4000000 in
theorem v_X9_key_38 {l : Launch} {G : Gx} (hst : l.stackTraces = false) {σ0 σe : Hp} {Se : Ms} {r : Int32} {σ : Hp} {s0 : Int32} (h : f_X9_key_38 σ s0 = some (r, σe)) : VV_X9_key l G σ0 (.inl (some (pI r))) σe Se 38 [] [pI s0] σ Se := by
  unfold f_X9_key_38 at h
  cases h
  exact V_iret rfl dX9_key_38
def f_X9_key (σ : Hp) (a0 : Nat) (a1 : Nat) : Option (Int32 × Hp) :=
  bd (rdI σ 8 a0 80) fun y1 => if y1 = (0 : Int32) then (bd (rdI σ 3 a1 30) fun y14 => f_X9_key_38 σ y14) else (bd (rdI σ 8 a0 80) fun y4 => if y4 = (1 : Int32) then (bd (rdI σ 3 a1 33) fun y12 => f_X9_key_38 σ (-y12)) else (bd (gk σ 3 a1) fun e7 => bp (f_X4_error σ a1) fun y9 σ10 => f_X9_key_38 σ10 (-(if 0 ≤ y9 then y9 else 0 - y9))))
set_option maxHeartbeats 4000000 in
theorem v_X9_key (l : Launch) (G : Gx) (hst : l.stackTraces = false) (S : Ms) {σ σe : Hp} {a0 : Nat} {a1 : Nat} {r : Int32} (h : f_X9_key σ a0 a1 = some (r, σe)) : MT l G yX9_key (ws_ yX9_key cX9_key 2 (some .int)) 2 50 [pR a0, pR a1] σ S (.inl (some (pI r))) σe S := by
  refine MT_of (own := RX9) (nL := 2) (ini := false) (by decide +kernel) rfl (Nat.le_of_ble_eq_true rfl) (fun h => by cases h) hst ?_
  show VV_X9_key l G σ (.inl (some (pI r))) σe S 0 [(0, pR a0), (1, pR a1)] [] σ S
  unfold f_X9_key at h
  refine V_aload_n (i := 0) 0 dX9_key_0 rfl rfl ?_
  obtain ⟨y1, e2, h⟩ := bd_s h
  refine V_rdI gf_X9_7 rfl rfl rfl e2 dX9_key_1 ?_
  refine V_if_ne 14 dX9_key_4 (by decide) (fun c3 => ?_) (fun c3 => ?_)
  · replace h := it_f c3 h
    refine V_aload_n (i := 0) 0 dX9_key_14 rfl rfl ?_
    obtain ⟨y4, e5, h⟩ := bd_s h
    refine V_rdI gf_X9_7 rfl rfl rfl e5 dX9_key_15 ?_
    refine V_iconst (v := 1) dX9_key_18 (by decide) ?_
    refine V_icmp_ne 30 dX9_key_19 (by decide) (fun c6 => ?_) (fun c6 => ?_)
    · replace h := it_f c6 h
      refine V_aload_n (i := 1) 1 dX9_key_30 rfl rfl ?_
      obtain ⟨e7, e8, h⟩ := bd_s h
      obtain ⟨y9, σ10, e11, h⟩ := bp_s h
      refine V_callV_v (n9 := 0) (c := 2) (r := (RX4, TX4, 6)) [] (v_X4_error l G hst _ e11) rfl rfl (lw_V q1431 q850 q851 q98 q852) (by decide +kernel) (by decide) (Nat.le_of_ble_eq_true rfl) (gk_k e8 rfl) rfl dX9_key_31 ?_
      refine V_mabs q1432 q854 q82 q855 (by decide) (Nat.le_of_ble_eq_true rfl) dX9_key_34 ?_
      refine V_ineg dX9_key_37 ?_
      refine V_sub [] rfl ?_
      exact v_X9_key_38 hst h
    · replace h := it_t c6 h
      refine V_aload_n (i := 1) 1 dX9_key_22 rfl rfl ?_
      obtain ⟨y12, e13, h⟩ := bd_s h
      refine V_rdI gf_X9_18 rfl rfl rfl e13 dX9_key_23 ?_
      refine V_ineg dX9_key_26 ?_
      refine V_goto 38 dX9_key_27 (by decide) ?_
      refine V_sub [] rfl ?_
      exact v_X9_key_38 hst h
  · replace h := it_t c3 h
    refine V_aload_n (i := 1) 1 dX9_key_7 rfl rfl ?_
    obtain ⟨y14, e15, h⟩ := bd_s h
    refine V_rdI gf_X9_13 rfl rfl rfl e15 dX9_key_8 ?_
    refine V_goto 38 dX9_key_11 (by decide) ?_
    refine V_sub [] rfl ?_
    exact v_X9_key_38 hst h

abbrev VV_X9_compare_2 (l : Launch) (G : Gx) (σ0 : Hp) (o : Oc) (σe : Hp) (Se : Ms) := V l G RX9 cX9_compare_2 5 (some .int) [] false 3 71 σ0 o σe Se
def f_X9_compare_2_45 (σ : Hp) (s0 : Int32) : Option (Int32 × Hp) :=
  some (s0, σ)
set_option maxHeartbeats 4000000 in
theorem v_X9_compare_2_45 {l : Launch} {G : Gx} (hst : l.stackTraces = false) {σ0 σe : Hp} {Se : Ms} {r : Int32} {σ : Hp} {s0 : Int32} (h : f_X9_compare_2_45 σ s0 = some (r, σe)) : VV_X9_compare_2 l G σ0 (.inl (some (pI r))) σe Se 45 [] [pI s0] σ Se := by
  unfold f_X9_compare_2_45 at h
  cases h
  exact V_iret rfl dX9_compare_2_45
def f_X9_compare_2 (σ : Hp) (a0 : Nat) (a1 : Nat) (a2 : Nat) : Option (Int32 × Hp) :=
  bd (rdR σ 9 a1 91) fun b1 => bd (gk σ 8 a0) fun e3 => bp (f_X9_key σ a0 b1) fun y5 σ6 => bd (rdR σ6 9 a2 91) fun b8 => bd (gk σ6 8 a0) fun e10 => bp (f_X9_key σ6 a0 b8) fun y12 σ13 => if y5 = y12 then (bd (rdI σ13 9 a1 90) fun y16 => bd (rdI σ13 9 a2 90) fun y18 => bd (f_J23_compare y16 y18) fun y20 => f_X9_compare_2_45 σ13 y20) else (bd (f_J23_compare y5 y12) fun y22 => f_X9_compare_2_45 σ13 y22)
set_option maxHeartbeats 4000000 in
theorem v_X9_compare_2 (l : Launch) (G : Gx) (hst : l.stackTraces = false) (S : Ms) {σ σe : Hp} {a0 : Nat} {a1 : Nat} {a2 : Nat} {r : Int32} (h : f_X9_compare_2 σ a0 a1 a2 = some (r, σe)) : MT l G yX9_compare_2 (ws_ yX9_compare_2 cX9_compare_2 5 (some .int)) 3 71 [pR a0, pR a1, pR a2] σ S (.inl (some (pI r))) σe S := by
  refine MT_of (own := RX9) (nL := 5) (ini := false) (by decide +kernel) rfl (Nat.le_of_ble_eq_true rfl) (fun h => by cases h) hst ?_
  show VV_X9_compare_2 l G σ (.inl (some (pI r))) σe S 0 [(0, pR a0), (1, pR a1), (2, pR a2)] [] σ S
  unfold f_X9_compare_2 at h
  refine V_aload_n (i := 0) 0 dX9_compare_2_0 rfl rfl ?_
  refine V_aload_n (i := 1) 1 dX9_compare_2_1 rfl rfl ?_
  obtain ⟨b1, e2, h⟩ := bd_s h
  refine V_rdR gf_X9_31 rfl rfl rfl e2 dX9_compare_2_2 ?_
  obtain ⟨e3, e4, h⟩ := bd_s h
  obtain ⟨y5, σ6, e7, h⟩ := bp_s h
  refine V_callV_v (n9 := 1) (c := 7) (r := (RX9, TX9, 1)) [] (v_X9_key l G hst _ e7) rfl rfl (lw_V q1427 q1429 qs20 q111 q1430) (by decide +kernel) (by decide) (Nat.le_of_ble_eq_true rfl) (gk_k e4 rfl) rfl dX9_compare_2_5 ?_
  refine V_istore_n (i := 3) (L' := [(3, pI y5), (0, pR a0), (1, pR a1), (2, pR a2)]) dX9_compare_2_8 rfl (by decide) rfl ?_
  refine V_aload_n (i := 0) 1 dX9_compare_2_9 rfl rfl ?_
  refine V_aload_n (i := 2) 3 dX9_compare_2_10 rfl rfl ?_
  obtain ⟨b8, e9, h⟩ := bd_s h
  refine V_rdR gf_X9_31 rfl rfl rfl e9 dX9_compare_2_11 ?_
  obtain ⟨e10, e11, h⟩ := bd_s h
  obtain ⟨y12, σ13, e14, h⟩ := bp_s h
  refine V_callV_v (n9 := 1) (c := 7) (r := (RX9, TX9, 1)) [] (v_X9_key l G hst _ e14) rfl rfl (lw_V q1427 q1429 qs20 q111 q1430) (by decide +kernel) (by decide) (Nat.le_of_ble_eq_true rfl) (gk_k e11 rfl) rfl dX9_compare_2_14 ?_
  refine V_istore (i := 4) (L' := [(4, pI y12), (3, pI y5), (0, pR a0), (1, pR a1), (2, pR a2)]) dX9_compare_2_17 (by decide) rfl ?_
  refine V_iload_n (i := 3) 1 dX9_compare_2_19 rfl rfl ?_
  refine V_iload (i := 4) 0 dX9_compare_2_20 rfl ?_
  refine V_icmp_eq 34 dX9_compare_2_22 (by decide) (fun c15 => ?_) (fun c15 => ?_)
  · replace h := it_t c15 h
    refine V_aload_n (i := 1) 3 dX9_compare_2_34 rfl rfl ?_
    obtain ⟨y16, e17, h⟩ := bd_s h
    refine V_rdI gf_X9_47 rfl rfl rfl e17 dX9_compare_2_35 ?_
    refine V_aload_n (i := 2) 4 dX9_compare_2_38 rfl rfl ?_
    obtain ⟨y18, e19, h⟩ := bd_s h
    refine V_rdI gf_X9_47 rfl rfl rfl e19 dX9_compare_2_39 ?_
    obtain ⟨y20, e21, h⟩ := bd_s h
    refine V_callS_v (n9 := 2) [] (v_J23_compare l G hst _ _ e21) rfl rfl (lw_S q1433 q1434 q105 q1435) (by decide +kernel) (by decide) (Nat.le_of_ble_eq_true rfl) dX9_compare_2_42 ?_
    refine V_sub [] rfl ?_
    exact v_X9_compare_2_45 hst h
  · replace h := it_f c15 h
    refine V_iload_n (i := 3) 1 dX9_compare_2_25 rfl rfl ?_
    refine V_iload (i := 4) 0 dX9_compare_2_26 rfl ?_
    obtain ⟨y22, e23, h⟩ := bd_s h
    refine V_callS_v (n9 := 2) [] (v_J23_compare l G hst _ _ e23) rfl rfl (lw_S q1433 q1434 q105 q1435) (by decide +kernel) (by decide) (Nat.le_of_ble_eq_true rfl) dX9_compare_2_28 ?_
    refine V_goto 45 dX9_compare_2_31 (by decide) ?_
    refine V_sub [] rfl ?_
    exact v_X9_compare_2_45 hst h

abbrev VV_X9_compare (l : Launch) (G : Gx) (σ0 : Hp) (o : Oc) (σe : Hp) (Se : Ms) := V l G RX9 cX9_compare 3 (some .int) [] false 4 95 σ0 o σe Se
def f_X9_compare (σ : Hp) (a0 : Nat) (a1 : Nat) (a2 : Nat) : Option (Int32 × Hp) :=
  bd (ckC σ 9 a1) fun e1 => bd (ckC σ 9 a2) fun e3 => bd (gk σ 8 a0) fun e5 => bp (f_X9_compare_2 σ a0 a1 a2) fun y7 σ8 => some (y7, σ8)
set_option maxHeartbeats 4000000 in
theorem v_X9_compare (l : Launch) (G : Gx) (hst : l.stackTraces = false) (S : Ms) {σ σe : Hp} {a0 : Nat} {a1 : Nat} {a2 : Nat} {r : Int32} (h : f_X9_compare σ a0 a1 a2 = some (r, σe)) : MT l G yX9_compare (ws_ yX9_compare cX9_compare 3 (some .int)) 4 95 [pR a0, pR a1, pR a2] σ S (.inl (some (pI r))) σe S := by
  refine MT_of (own := RX9) (nL := 3) (ini := false) (by decide +kernel) rfl (Nat.le_of_ble_eq_true rfl) (fun h => by cases h) hst ?_
  show VV_X9_compare l G σ (.inl (some (pI r))) σe S 0 [(0, pR a0), (1, pR a1), (2, pR a2)] [] σ S
  unfold f_X9_compare at h
  refine V_aload_n (i := 0) 0 dX9_compare_0 rfl rfl ?_
  refine V_aload_n (i := 1) 1 dX9_compare_1 rfl rfl ?_
  obtain ⟨e1, e2, h⟩ := bd_s h
  refine V_ckC (c := 8) e2 q1422 rfl (Or.inl rfl) dX9_compare_2 ?_
  refine V_aload_n (i := 2) 2 dX9_compare_5 rfl rfl ?_
  obtain ⟨e3, e4, h⟩ := bd_s h
  refine V_ckC (c := 8) e4 q1422 rfl (Or.inl rfl) dX9_compare_6 ?_
  obtain ⟨e5, e6, h⟩ := bd_s h
  obtain ⟨y7, σ8, e9, h⟩ := bp_s h
  refine V_callV_v (n9 := 2) (c := 7) (r := (RX9, TX9, 1)) [] (v_X9_compare_2 l G hst _ e9) rfl rfl (lw_V q1423 q1424 q1425 q111 q1426) (by decide +kernel) (by decide) (Nat.le_of_ble_eq_true rfl) (gk_k e6 rfl) rfl dX9_compare_9 ?_
  cases h
  exact V_iret rfl dX9_compare_12

abbrev VV_J25_siftUpUsingComparator (l : Launch) (G : Gx) (σ0 : Hp) (o : Oc) (σe : Hp) (Se : Ms) := V l G RJ25 cJ25_siftUpUsingComparator 6 none [] false 5 117 σ0 o σe Se
def f_J25_siftUpUsingComparator_43 (σ : Hp) (x0 : Int32) (a1 : Nat) (a2 : Nat) : Option (Unit × Hp) :=
  bd (stR σ 105 a2 x0 a1) fun σ1 => some ((), σ1)
set_option maxHeartbeats 4000000 in
theorem v_J25_siftUpUsingComparator_43 {l : Launch} {G : Gx} (hst : l.stackTraces = false) {σ0 σe : Hp} {Se : Ms} {r : Unit} {σ : Hp} {x0 : Int32} {a1 : Nat} {a2 : Nat} (h : f_J25_siftUpUsingComparator_43 σ x0 a1 a2 = some (r, σe)) : VV_J25_siftUpUsingComparator l G σ0 (.inl none) σe Se 43 [(0, pI x0), (1, pR a1), (2, pR a2)] [] σ Se := by
  unfold f_J25_siftUpUsingComparator_43 at h
  refine V_aload_n (i := 2) 2 dJ25_siftUpUsingComparator_43 rfl rfl ?_
  refine V_iload_n (i := 0) 0 dJ25_siftUpUsingComparator_44 rfl rfl ?_
  refine V_aload_n (i := 1) 1 dJ25_siftUpUsingComparator_45 rfl rfl ?_
  obtain ⟨σ1, e2, h⟩ := bd_s h
  refine V_stR5 e2 dJ25_siftUpUsingComparator_46 ?_
  cases h
  exact V_vret rfl dJ25_siftUpUsingComparator_47
def f_J25_siftUpUsingComparator_0_b (k0 : Hp → Int32 → Nat → Nat → Nat → Option (Unit × Hp)) (σ : Hp) (x0 : Int32) (a1 : Nat) (a2 : Nat) (a3 : Nat) : Option (Unit × Hp) :=
  if x0 ≤ (0 : Int32) then (f_J25_siftUpUsingComparator_43 σ x0 a1 a2) else (bd (elR σ 105 a2 (((x0 - (1 : Int32)).toUInt32 >>> ((1 : Int32).toUInt32 &&& Int32.toUInt32 31)).toInt32)) fun b2 => bd (gk σ 8 a3) fun e4 => bp (f_X9_compare σ a3 a1 b2) fun y6 σ7 => if y6 < (0 : Int32) then (bd (stR σ7 105 a2 x0 b2) fun σ10 => k0 σ10 (((x0 - (1 : Int32)).toUInt32 >>> ((1 : Int32).toUInt32 &&& Int32.toUInt32 31)).toInt32) a1 a2 a3) else (f_J25_siftUpUsingComparator_43 σ7 x0 a1 a2))
set_option maxHeartbeats 4000000 in
theorem v_J25_siftUpUsingComparator_0_b {l : Launch} {G : Gx} (hst : l.stackTraces = false) {σ0 σe : Hp} {Se : Ms} {r : Unit} {k0 : Hp → Int32 → Nat → Nat → Nat → Option (Unit × Hp)} (hk0 : ∀ (σ : Hp) (x0 : Int32) (a1 : Nat) (a2 : Nat) (a3 : Nat), k0 σ x0 a1 a2 a3 = some (r, σe) → VV_J25_siftUpUsingComparator l G σ0 (.inl none) σe Se 0 [(0, pI x0), (1, pR a1), (2, pR a2), (3, pR a3)] [] σ Se) {σ : Hp} {x0 : Int32} {a1 : Nat} {a2 : Nat} {a3 : Nat} (h : f_J25_siftUpUsingComparator_0_b k0 σ x0 a1 a2 a3 = some (r, σe)) : VV_J25_siftUpUsingComparator l G σ0 (.inl none) σe Se 0 [(0, pI x0), (1, pR a1), (2, pR a2), (3, pR a3)] [] σ Se := by
  unfold f_J25_siftUpUsingComparator_0_b at h
  refine V_iload_n (i := 0) 0 dJ25_siftUpUsingComparator_0 rfl rfl ?_
  refine V_if_le 43 dJ25_siftUpUsingComparator_1 (by decide) (fun c1 => ?_) (fun c1 => ?_)
  · replace h := it_t c1 h
    refine V_sub [0, 1, 2] rfl ?_
    exact v_J25_siftUpUsingComparator_43 hst h
  · replace h := it_f c1 h
    refine V_iload_n (i := 0) 0 dJ25_siftUpUsingComparator_4 rfl rfl ?_
    refine V_iconst (v := 1) dJ25_siftUpUsingComparator_5 (by decide) ?_
    refine V_isub dJ25_siftUpUsingComparator_6 ?_
    refine V_iconst (v := 1) dJ25_siftUpUsingComparator_7 (by decide) ?_
    refine V_iushr dJ25_siftUpUsingComparator_8 ?_
    refine V_istore (i := 4) (L' := [(4, pI (((x0 - (1 : Int32)).toUInt32 >>> ((1 : Int32).toUInt32 &&& Int32.toUInt32 31)).toInt32)), (0, pI x0), (1, pR a1), (2, pR a2), (3, pR a3)]) dJ25_siftUpUsingComparator_9 (by decide) rfl ?_
    refine V_aload_n (i := 2) 3 dJ25_siftUpUsingComparator_11 rfl rfl ?_
    refine V_iload (i := 4) 0 dJ25_siftUpUsingComparator_12 rfl ?_
    obtain ⟨b2, e3, h⟩ := bd_s h
    refine V_elR5 e3 dJ25_siftUpUsingComparator_14 ?_
    refine V_astore (i := 5) (L' := [(5, pR b2), (4, pI (((x0 - (1 : Int32)).toUInt32 >>> ((1 : Int32).toUInt32 &&& Int32.toUInt32 31)).toInt32)), (0, pI x0), (1, pR a1), (2, pR a2), (3, pR a3)]) dJ25_siftUpUsingComparator_15 (by decide) rfl ?_
    refine V_aload_n (i := 3) 5 dJ25_siftUpUsingComparator_17 rfl rfl ?_
    refine V_aload_n (i := 1) 3 dJ25_siftUpUsingComparator_18 rfl rfl ?_
    refine V_aload (i := 5) 0 dJ25_siftUpUsingComparator_19 rfl ?_
    obtain ⟨e4, e5, h⟩ := bd_s h
    obtain ⟨y6, σ7, e8, h⟩ := bp_s h
    refine V_callF_v (n9 := 2) (c := 7) (r := (RX9, TX9, 1)) (x := ⟨"java/util/Comparator", "compare", "(Ljava/lang/Object;Ljava/lang/Object;)I"⟩) [] (v_X9_compare l G hst _ e8) rfl rfl (lw_app (lw_F4 q1413 q1417 q1419 q111) (lw_meth q1421)) (by decide +kernel) (by decide +kernel) (by decide) (Nat.le_of_ble_eq_true rfl) (gk_k e5 rfl) rfl dJ25_siftUpUsingComparator_21 ?_
    refine V_if_lt 32 dJ25_siftUpUsingComparator_26 (by decide) (fun c9 => ?_) (fun c9 => ?_)
    · replace h := it_t c9 h
      refine V_aload_n (i := 2) 4 dJ25_siftUpUsingComparator_32 rfl rfl ?_
      refine V_iload_n (i := 0) 2 dJ25_siftUpUsingComparator_33 rfl rfl ?_
      refine V_aload (i := 5) 0 dJ25_siftUpUsingComparator_34 rfl ?_
      obtain ⟨σ10, e11, h⟩ := bd_s h
      refine V_stR5 e11 dJ25_siftUpUsingComparator_36 ?_
      refine V_iload (i := 4) 1 dJ25_siftUpUsingComparator_37 rfl ?_
      refine V_istore_n (i := 0) (L' := [(0, pI (((x0 - (1 : Int32)).toUInt32 >>> ((1 : Int32).toUInt32 &&& Int32.toUInt32 31)).toInt32)), (5, pR b2), (4, pI (((x0 - (1 : Int32)).toUInt32 >>> ((1 : Int32).toUInt32 &&& Int32.toUInt32 31)).toInt32)), (1, pR a1), (2, pR a2), (3, pR a3)]) dJ25_siftUpUsingComparator_39 rfl (by decide) rfl ?_
      refine V_goto 0 dJ25_siftUpUsingComparator_40 (by decide) ?_
      refine V_sub [0, 3, 4, 5] rfl ?_
      exact hk0 _ _ _ _ _ h
    · replace h := it_f c9 h
      refine V_goto 43 dJ25_siftUpUsingComparator_29 (by decide) ?_
      refine V_sub [2, 3, 4] rfl ?_
      exact v_J25_siftUpUsingComparator_43 hst h
def f_J25_siftUpUsingComparator_0 : Nat → Hp → Int32 → Nat → Nat → Nat → Option (Unit × Hp)
  | 0, _, _, _, _, _ => none
  | n + 1, σ, x0, a1, a2, a3 => f_J25_siftUpUsingComparator_0_b (f_J25_siftUpUsingComparator_0 n) σ x0 a1 a2 a3
theorem v_J25_siftUpUsingComparator_0 {l : Launch} {G : Gx} (hst : l.stackTraces = false) {σ0 σe : Hp} {Se : Ms} {r : Unit} : ∀ (n : Nat) (σ : Hp) (x0 : Int32) (a1 : Nat) (a2 : Nat) (a3 : Nat), f_J25_siftUpUsingComparator_0 n σ x0 a1 a2 a3 = some (r, σe) → VV_J25_siftUpUsingComparator l G σ0 (.inl none) σe Se 0 [(0, pI x0), (1, pR a1), (2, pR a2), (3, pR a3)] [] σ Se
  | 0, _, _, _, _, _, h => by cases h
  | n + 1, _, _, _, _, _, h => v_J25_siftUpUsingComparator_0_b hst (v_J25_siftUpUsingComparator_0 hst n) h
def f_J25_siftUpUsingComparator (σ : Hp) (x0 : Int32) (a1 : Nat) (a2 : Nat) (a3 : Nat) : Option (Unit × Hp) := f_J25_siftUpUsingComparator_0 FU σ x0 a1 a2 a3
set_option maxHeartbeats 4000000 in
theorem v_J25_siftUpUsingComparator (l : Launch) (G : Gx) (hst : l.stackTraces = false) (S : Ms) {σ σe : Hp} {x0 : Int32} {a1 : Nat} {a2 : Nat} {a3 : Nat} {r : Unit} (h : f_J25_siftUpUsingComparator σ x0 a1 a2 a3 = some (r, σe)) : MT l G yJ25_siftUpUsingComparator (ws_ yJ25_siftUpUsingComparator cJ25_siftUpUsingComparator 6 none) 5 117 [pI x0, pR a1, pR a2, pR a3] σ S (.inl none) σe S := by
  refine MT_of (own := RJ25) (nL := 6) (ini := false) (by decide +kernel) rfl (Nat.le_of_ble_eq_true rfl) (fun h => by cases h) hst ?_
  show VV_J25_siftUpUsingComparator l G σ (.inl none) σe S 0 [(0, pI x0), (1, pR a1), (2, pR a2), (3, pR a3)] [] σ S
  unfold f_J25_siftUpUsingComparator at h
  exact v_J25_siftUpUsingComparator_0 hst FU _ _ _ _ _ h

abbrev VV_J25_siftUp (l : Launch) (G : Gx) (σ0 : Hp) (o : Oc) (σe : Hp) (Se : Ms) := V l G RJ25 cJ25_siftUp 3 none [] false 6 142 σ0 o σe Se
def f_J25_siftUp (σ : Hp) (a0 : Nat) (x1 : Int32) (a2 : Nat) : Option (Unit × Hp) :=
  bd (rdR σ 14 a0 142) fun b1 => if b1 = 0 then (bd (rdR σ 14 a0 140) fun b4 => none) else (bd (rdR σ 14 a0 140) fun b6 => bd (rdR σ 14 a0 142) fun b8 => bp (f_J25_siftUpUsingComparator σ x1 a2 b6 b8) fun e10 σ11 => some ((), σ11))
set_option maxHeartbeats 4000000 in
theorem v_J25_siftUp (l : Launch) (G : Gx) (hst : l.stackTraces = false) (S : Ms) {σ σe : Hp} {a0 : Nat} {x1 : Int32} {a2 : Nat} {r : Unit} (h : f_J25_siftUp σ a0 x1 a2 = some (r, σe)) : MT l G yJ25_siftUp (ws_ yJ25_siftUp cJ25_siftUp 3 none) 6 142 [pR a0, pI x1, pR a2] σ S (.inl none) σe S := by
  refine MT_of (own := RJ25) (nL := 3) (ini := false) (by decide +kernel) rfl (Nat.le_of_ble_eq_true rfl) (fun h => by cases h) hst ?_
  show VV_J25_siftUp l G σ (.inl none) σe S 0 [(0, pR a0), (1, pI x1), (2, pR a2)] [] σ S
  unfold f_J25_siftUp at h
  refine V_aload_n (i := 0) 0 dJ25_siftUp_0 rfl rfl ?_
  obtain ⟨b1, e2, h⟩ := bd_s h
  refine V_rdR gf_J25_21 rfl rfl rfl e2 dJ25_siftUp_1 ?_
  refine V_ifnull 23 dJ25_siftUp_4 (by decide) (fun c3 => ?_) (fun c3 => ?_)
  · replace h := it_t c3 h
    refine V_iload_n (i := 1) 1 dJ25_siftUp_23 rfl rfl ?_
    refine V_aload_n (i := 2) 2 dJ25_siftUp_24 rfl rfl ?_
    refine V_aload_n (i := 0) 0 dJ25_siftUp_25 rfl rfl ?_
    obtain ⟨b4, e5, h⟩ := bd_s h
    refine V_rdR gf_J25_17 rfl rfl rfl e5 dJ25_siftUp_26 ?_
    cases h
  · replace h := it_f c3 h
    refine V_iload_n (i := 1) 1 dJ25_siftUp_7 rfl rfl ?_
    refine V_aload_n (i := 2) 2 dJ25_siftUp_8 rfl rfl ?_
    refine V_aload_n (i := 0) 0 dJ25_siftUp_9 rfl rfl ?_
    obtain ⟨b6, e7, h⟩ := bd_s h
    refine V_rdR gf_J25_17 rfl rfl rfl e7 dJ25_siftUp_10 ?_
    refine V_aload_n (i := 0) 0 dJ25_siftUp_13 rfl rfl ?_
    obtain ⟨b8, e9, h⟩ := bd_s h
    refine V_rdR gf_J25_21 rfl rfl rfl e9 dJ25_siftUp_14 ?_
    obtain ⟨e10, σ11, e12, h⟩ := bp_s h
    refine V_callS_0 (n9 := 4) [] (v_J25_siftUpUsingComparator l G hst _ e12) rfl rfl (lw_S q1409 q1410 q110 q1411) (by decide +kernel) (by decide) (Nat.le_of_ble_eq_true rfl) dJ25_siftUp_17 ?_
    refine V_goto 32 dJ25_siftUp_20 (by decide) ?_
    cases h
    exact V_vret rfl dJ25_siftUp_32

abbrev VV_J25_offer (l : Launch) (G : Gx) (σ0 : Hp) (o : Oc) (σe : Hp) (Se : Ms) := V l G RJ25 cJ25_offer 3 (some .boolean) [] false 7 164 σ0 o σe Se
def f_J25_offer_43 (σ : Hp) (x2 : Int32) (a0 : Nat) (a1 : Nat) : Option (Int32 × Hp) :=
  bd (gk σ 14 a0) fun e1 => bp (f_J25_siftUp σ a0 x2 a1) fun e3 σ4 => bd (wrI σ4 14 a0 141 (x2 + (1 : Int32))) fun σ6 => bd (okZ (1 : Int32)) fun e8 => some ((1 : Int32), σ6)
set_option maxHeartbeats 4000000 in
theorem v_J25_offer_43 {l : Launch} {G : Gx} (hst : l.stackTraces = false) {σ0 σe : Hp} {Se : Ms} {r : Int32} {σ : Hp} {x2 : Int32} {a0 : Nat} {a1 : Nat} (h : f_J25_offer_43 σ x2 a0 a1 = some (r, σe)) : VV_J25_offer l G σ0 (.inl (some (pI r))) σe Se 43 [(2, pI x2), (0, pR a0), (1, pR a1)] [] σ Se := by
  unfold f_J25_offer_43 at h
  refine V_aload_n (i := 0) 1 dJ25_offer_43 rfl rfl ?_
  refine V_iload_n (i := 2) 0 dJ25_offer_44 rfl rfl ?_
  refine V_aload_n (i := 1) 2 dJ25_offer_45 rfl rfl ?_
  obtain ⟨e1, e2, h⟩ := bd_s h
  obtain ⟨e3, σ4, e5, h⟩ := bp_s h
  refine V_callV_0 (n9 := 2) (c := 13) (r := (RJ25, TJ25, 4)) [] (v_J25_siftUp l G hst _ e5) rfl rfl (lw_V q1405 q1407 qs19 q110 q1408) (by decide +kernel) (by decide) (Nat.le_of_ble_eq_true rfl) (gk_k e2 rfl) rfl dJ25_offer_46 ?_
  refine V_aload_n (i := 0) 1 dJ25_offer_49 rfl rfl ?_
  refine V_iload_n (i := 2) 0 dJ25_offer_50 rfl rfl ?_
  refine V_iconst (v := 1) dJ25_offer_51 (by decide) ?_
  refine V_iadd dJ25_offer_52 ?_
  obtain ⟨σ6, e7, h⟩ := bd_s h
  refine V_wrI gw_J25_58 rfl rfl rfl e7 dJ25_offer_53 ?_
  refine V_iconst (v := 1) dJ25_offer_56 (by decide) ?_
  obtain ⟨e8, e9, h⟩ := bd_s h
  cases h
  exact V_retZ e9 rfl dJ25_offer_57
def f_J25_offer (σ : Hp) (a0 : Nat) (a1 : Nat) : Option (Int32 × Hp) :=
  if a1 = 0 then (none) else (bd (rdI σ 14 a0 143) fun y2 => bd (wrI σ 14 a0 143 (y2 + (1 : Int32))) fun σ4 => bd (rdI σ4 14 a0 141) fun y6 => bd (rdR σ4 14 a0 140) fun b8 => bd (elN σ4 b8) fun y10 => if y6 < y10 then (f_J25_offer_43 σ4 y6 a0 a1) else (bd (gk σ4 14 a0) fun e13 => bp (f_J25_grow σ4 a0 (y6 + (1 : Int32))) fun e15 σ16 => f_J25_offer_43 σ16 y6 a0 a1))
set_option maxHeartbeats 4000000 in
theorem v_J25_offer (l : Launch) (G : Gx) (hst : l.stackTraces = false) (S : Ms) {σ σe : Hp} {a0 : Nat} {a1 : Nat} {r : Int32} (h : f_J25_offer σ a0 a1 = some (r, σe)) : MT l G yJ25_offer (ws_ yJ25_offer cJ25_offer 3 (some .boolean)) 7 164 [pR a0, pR a1] σ S (.inl (some (pI r))) σe S := by
  refine MT_of (own := RJ25) (nL := 3) (ini := false) (by decide +kernel) rfl (Nat.le_of_ble_eq_true rfl) (fun h => by cases h) hst ?_
  show VV_J25_offer l G σ (.inl (some (pI r))) σe S 0 [(0, pR a0), (1, pR a1)] [] σ S
  unfold f_J25_offer at h
  refine V_aload_n (i := 1) 1 dJ25_offer_0 rfl rfl ?_
  refine V_ifnonnull 12 dJ25_offer_1 (by decide) (fun c1 => ?_) (fun c1 => ?_)
  · replace h := it_f c1 h
    refine V_aload_n (i := 0) 0 dJ25_offer_12 rfl rfl ?_
    refine V_dup dJ25_offer_13 rfl ?_
    obtain ⟨y2, e3, h⟩ := bd_s h
    refine V_rdI gf_J25_93 rfl rfl rfl e3 dJ25_offer_14 ?_
    refine V_iconst (v := 1) dJ25_offer_17 (by decide) ?_
    refine V_iadd dJ25_offer_18 ?_
    obtain ⟨σ4, e5, h⟩ := bd_s h
    refine V_wrI gw_J25_93 rfl rfl rfl e5 dJ25_offer_19 ?_
    refine V_aload_n (i := 0) 0 dJ25_offer_22 rfl rfl ?_
    obtain ⟨y6, e7, h⟩ := bd_s h
    refine V_rdI gf_J25_58 rfl rfl rfl e7 dJ25_offer_23 ?_
    refine V_istore_n (i := 2) (L' := [(2, pI y6), (0, pR a0), (1, pR a1)]) dJ25_offer_26 rfl (by decide) rfl ?_
    refine V_iload_n (i := 2) 0 dJ25_offer_27 rfl rfl ?_
    refine V_aload_n (i := 0) 1 dJ25_offer_28 rfl rfl ?_
    obtain ⟨b8, e9, h⟩ := bd_s h
    refine V_rdR gf_J25_17 rfl rfl rfl e9 dJ25_offer_29 ?_
    obtain ⟨y10, e11, h⟩ := bd_s h
    refine V_elN e11 dJ25_offer_32 ?_
    refine V_icmp_lt 43 dJ25_offer_33 (by decide) (fun c12 => ?_) (fun c12 => ?_)
    · replace h := it_t c12 h
      refine V_sub [0, 1, 2] rfl ?_
      exact v_J25_offer_43 hst h
    · replace h := it_f c12 h
      refine V_aload_n (i := 0) 1 dJ25_offer_36 rfl rfl ?_
      refine V_iload_n (i := 2) 0 dJ25_offer_37 rfl rfl ?_
      refine V_iconst (v := 1) dJ25_offer_38 (by decide) ?_
      refine V_iadd dJ25_offer_39 ?_
      obtain ⟨e13, e14, h⟩ := bd_s h
      obtain ⟨e15, σ16, e17, h⟩ := bp_s h
      refine V_callV_0 (n9 := 1) (c := 13) (r := (RJ25, TJ25, 4)) [] (v_J25_grow l G hst _ e17) rfl rfl (lw_V q1399 q1401 qs18 q110 q1402) (by decide +kernel) (by decide) (Nat.le_of_ble_eq_true rfl) (gk_k e14 rfl) rfl dJ25_offer_40 ?_
      refine V_sub [0, 1, 2] rfl ?_
      exact v_J25_offer_43 hst h
  · replace h := it_t c1 h
    cases h

abbrev VV_J25_add (l : Launch) (G : Gx) (σ0 : Hp) (o : Oc) (σe : Hp) (Se : Ms) := V l G RJ25 cJ25_add 2 (some .boolean) [] false 8 186 σ0 o σe Se
def f_J25_add (σ : Hp) (a0 : Nat) (a1 : Nat) : Option (Int32 × Hp) :=
  bd (gk σ 14 a0) fun e1 => bp (f_J25_offer σ a0 a1) fun y3 σ4 => bd (okZ y3) fun e6 => some (y3, σ4)
set_option maxHeartbeats 4000000 in
theorem v_J25_add (l : Launch) (G : Gx) (hst : l.stackTraces = false) (S : Ms) {σ σe : Hp} {a0 : Nat} {a1 : Nat} {r : Int32} (h : f_J25_add σ a0 a1 = some (r, σe)) : MT l G yJ25_add (ws_ yJ25_add cJ25_add 2 (some .boolean)) 8 186 [pR a0, pR a1] σ S (.inl (some (pI r))) σe S := by
  refine MT_of (own := RJ25) (nL := 2) (ini := false) (by decide +kernel) rfl (Nat.le_of_ble_eq_true rfl) (fun h => by cases h) hst ?_
  show VV_J25_add l G σ (.inl (some (pI r))) σe S 0 [(0, pR a0), (1, pR a1)] [] σ S
  unfold f_J25_add at h
  refine V_aload_n (i := 0) 0 dJ25_add_0 rfl rfl ?_
  refine V_aload_n (i := 1) 1 dJ25_add_1 rfl rfl ?_
  obtain ⟨e1, e2, h⟩ := bd_s h
  obtain ⟨y3, σ4, e5, h⟩ := bp_s h
  refine V_callV_v (n9 := 1) (c := 13) (r := (RJ25, TJ25, 4)) [] (v_J25_offer l G hst _ e5) rfl rfl (lw_V q1395 q1396 q1397 q110 q1398) (by decide +kernel) (by decide) (Nat.le_of_ble_eq_true rfl) (gk_k e2 rfl) rfl dJ25_add_2 ?_
  obtain ⟨e6, e7, h⟩ := bd_s h
  cases h
  exact V_retZ e7 rfl dJ25_add_5

abbrev VV_J25_size (l : Launch) (G : Gx) (σ0 : Hp) (o : Oc) (σe : Hp) (Se : Ms) := V l G RJ25 cJ25_size 1 (some .int) [] false 1 30 σ0 o σe Se
def f_J25_size (σ : Hp) (a0 : Nat) : Option (Int32 × Hp) :=
  bd (rdI σ 14 a0 141) fun y1 => some (y1, σ)
set_option maxHeartbeats 4000000 in
theorem v_J25_size (l : Launch) (G : Gx) (hst : l.stackTraces = false) (S : Ms) {σ σe : Hp} {a0 : Nat} {r : Int32} (h : f_J25_size σ a0 = some (r, σe)) : MT l G yJ25_size (ws_ yJ25_size cJ25_size 1 (some .int)) 1 30 [pR a0] σ S (.inl (some (pI r))) σe S := by
  refine MT_of (own := RJ25) (nL := 1) (ini := false) (by decide +kernel) rfl (Nat.le_of_ble_eq_true rfl) (fun h => by cases h) hst ?_
  show VV_J25_size l G σ (.inl (some (pI r))) σe S 0 [(0, pR a0)] [] σ S
  unfold f_J25_size at h
  refine V_aload_n (i := 0) 0 dJ25_size_0 rfl rfl ?_
  obtain ⟨y1, e2, h⟩ := bd_s h
  refine V_rdI gf_J25_58 rfl rfl rfl e2 dJ25_size_1 ?_
  cases h
  exact V_iret rfl dJ25_size_4

abbrev VV_J0_isEmpty (l : Launch) (G : Gx) (σ0 : Hp) (o : Oc) (σe : Hp) (Se : Ms) := V l G RJ0 cJ0_isEmpty 1 (some .boolean) [] false 2 50 σ0 o σe Se
def f_J0_isEmpty_12 (σ : Hp) (s0 : Int32) : Option (Int32 × Hp) :=
  bd (okZ s0) fun e1 => some (s0, σ)
set_option maxHeartbeats 4000000 in
theorem v_J0_isEmpty_12 {l : Launch} {G : Gx} (hst : l.stackTraces = false) {σ0 σe : Hp} {Se : Ms} {r : Int32} {σ : Hp} {s0 : Int32} (h : f_J0_isEmpty_12 σ s0 = some (r, σe)) : VV_J0_isEmpty l G σ0 (.inl (some (pI r))) σe Se 12 [] [pI s0] σ Se := by
  unfold f_J0_isEmpty_12 at h
  obtain ⟨e1, e2, h⟩ := bd_s h
  cases h
  exact V_retZ e2 rfl dJ0_isEmpty_12
def f_J0_isEmpty (σ : Hp) (a0 : Nat) : Option (Int32 × Hp) :=
  bd (gk σ 14 a0) fun e1 => bp (f_J25_size σ a0) fun y3 σ4 => if y3 = (0 : Int32) then (f_J0_isEmpty_12 σ4 (1 : Int32)) else (f_J0_isEmpty_12 σ4 (0 : Int32))
set_option maxHeartbeats 4000000 in
theorem v_J0_isEmpty (l : Launch) (G : Gx) (hst : l.stackTraces = false) (S : Ms) {σ σe : Hp} {a0 : Nat} {r : Int32} (h : f_J0_isEmpty σ a0 = some (r, σe)) : MT l G yJ0_isEmpty (ws_ yJ0_isEmpty cJ0_isEmpty 1 (some .boolean)) 2 50 [pR a0] σ S (.inl (some (pI r))) σe S := by
  refine MT_of (own := RJ0) (nL := 1) (ini := false) (by decide +kernel) rfl (Nat.le_of_ble_eq_true rfl) (fun h => by cases h) hst ?_
  show VV_J0_isEmpty l G σ (.inl (some (pI r))) σe S 0 [(0, pR a0)] [] σ S
  unfold f_J0_isEmpty at h
  refine V_aload_n (i := 0) 0 dJ0_isEmpty_0 rfl rfl ?_
  obtain ⟨e1, e2, h⟩ := bd_s h
  obtain ⟨y3, σ4, e5, h⟩ := bp_s h
  refine V_callA_v (n9 := 0) (c := 13) (r := (RJ25, TJ25, 4)) (x := (⟨"java/util/AbstractCollection", "size", "()I"⟩ : MethodName)) (owner := "java/util/AbstractCollection") [] (v_J25_size l G hst _ e5) rfl rfl (lw_app (lw_U q1641 q1643 q1646 q1647 q110) (lw_meth q1648)) (by decide +kernel) (by decide +kernel) (by decide) (Nat.le_of_ble_eq_true rfl) (gk_k e2 rfl) rfl dJ0_isEmpty_1 ?_
  refine V_if_ne 11 dJ0_isEmpty_4 (by decide) (fun c6 => ?_) (fun c6 => ?_)
  · replace h := it_f c6 h
    refine V_iconst (v := 0) dJ0_isEmpty_11 (by decide) ?_
    refine V_sub [] rfl ?_
    exact v_J0_isEmpty_12 hst h
  · replace h := it_t c6 h
    refine V_iconst (v := 1) dJ0_isEmpty_7 (by decide) ?_
    refine V_goto 12 dJ0_isEmpty_8 (by decide) ?_
    refine V_sub [] rfl ?_
    exact v_J0_isEmpty_12 hst h

abbrev VV_J25_siftDownUsingComparator (l : Launch) (G : Gx) (σ0 : Hp) (o : Oc) (σe : Hp) (Se : Ms) := V l G RJ25 cJ25_siftDownUsingComparator 9 none [] false 5 117 σ0 o σe Se
def f_J25_siftDownUsingComparator_88 (σ : Hp) (x0 : Int32) (a1 : Nat) (a2 : Nat) : Option (Unit × Hp) :=
  bd (stR σ 105 a2 x0 a1) fun σ1 => some ((), σ1)
set_option maxHeartbeats 4000000 in
theorem v_J25_siftDownUsingComparator_88 {l : Launch} {G : Gx} (hst : l.stackTraces = false) {σ0 σe : Hp} {Se : Ms} {r : Unit} {σ : Hp} {x0 : Int32} {a1 : Nat} {a2 : Nat} (h : f_J25_siftDownUsingComparator_88 σ x0 a1 a2 = some (r, σe)) : VV_J25_siftDownUsingComparator l G σ0 (.inl none) σe Se 88 [(0, pI x0), (1, pR a1), (2, pR a2)] [] σ Se := by
  unfold f_J25_siftDownUsingComparator_88 at h
  refine V_aload_n (i := 2) 2 dJ25_siftDownUsingComparator_88 rfl rfl ?_
  refine V_iload_n (i := 0) 0 dJ25_siftDownUsingComparator_89 rfl rfl ?_
  refine V_aload_n (i := 1) 1 dJ25_siftDownUsingComparator_90 rfl rfl ?_
  obtain ⟨σ1, e2, h⟩ := bd_s h
  refine V_stR5 e2 dJ25_siftDownUsingComparator_91 ?_
  cases h
  exact V_vret rfl dJ25_siftDownUsingComparator_92
def f_J25_siftDownUsingComparator_61 (k5 : Hp → Int32 → Int32 → Nat → Nat → Int32 → Nat → Option (Unit × Hp)) (σ : Hp) (a7 : Nat) (x6 : Int32) (x5 : Int32) (x0 : Int32) (a1 : Nat) (a2 : Nat) (x3 : Int32) (a4 : Nat) : Option (Unit × Hp) :=
  bd (gk σ 8 a4) fun e1 => bp (f_X9_compare σ a4 a1 a7) fun y3 σ4 => if (0 : Int32) < y3 then (bd (stR σ4 105 a2 x0 a7) fun σ7 => k5 σ7 x5 x6 a1 a2 x3 a4) else (f_J25_siftDownUsingComparator_88 σ4 x0 a1 a2)
set_option maxHeartbeats 4000000 in
theorem v_J25_siftDownUsingComparator_61 {l : Launch} {G : Gx} (hst : l.stackTraces = false) {σ0 σe : Hp} {Se : Ms} {r : Unit} {k5 : Hp → Int32 → Int32 → Nat → Nat → Int32 → Nat → Option (Unit × Hp)} (hk5 : ∀ (σ : Hp) (x5 : Int32) (x0 : Int32) (a1 : Nat) (a2 : Nat) (x3 : Int32) (a4 : Nat), k5 σ x5 x0 a1 a2 x3 a4 = some (r, σe) → VV_J25_siftDownUsingComparator l G σ0 (.inl none) σe Se 5 [(5, pI x5), (0, pI x0), (1, pR a1), (2, pR a2), (3, pI x3), (4, pR a4)] [] σ Se) {σ : Hp} {a7 : Nat} {x6 : Int32} {x5 : Int32} {x0 : Int32} {a1 : Nat} {a2 : Nat} {x3 : Int32} {a4 : Nat} (h : f_J25_siftDownUsingComparator_61 k5 σ a7 x6 x5 x0 a1 a2 x3 a4 = some (r, σe)) : VV_J25_siftDownUsingComparator l G σ0 (.inl none) σe Se 61 [(7, pR a7), (6, pI x6), (5, pI x5), (0, pI x0), (1, pR a1), (2, pR a2), (3, pI x3), (4, pR a4)] [] σ Se := by
  unfold f_J25_siftDownUsingComparator_61 at h
  refine V_aload (i := 4) 7 dJ25_siftDownUsingComparator_61 rfl ?_
  refine V_aload_n (i := 1) 4 dJ25_siftDownUsingComparator_63 rfl rfl ?_
  refine V_aload (i := 7) 0 dJ25_siftDownUsingComparator_64 rfl ?_
  obtain ⟨e1, e2, h⟩ := bd_s h
  obtain ⟨y3, σ4, e5, h⟩ := bp_s h
  refine V_callF_v (n9 := 2) (c := 7) (r := (RX9, TX9, 1)) (x := ⟨"java/util/Comparator", "compare", "(Ljava/lang/Object;Ljava/lang/Object;)I"⟩) [] (v_X9_compare l G hst _ e5) rfl rfl (lw_app (lw_F4 q1413 q1417 q1419 q111) (lw_meth q1421)) (by decide +kernel) (by decide +kernel) (by decide) (Nat.le_of_ble_eq_true rfl) (gk_k e2 rfl) rfl dJ25_siftDownUsingComparator_66 ?_
  refine V_if_gt 77 dJ25_siftDownUsingComparator_71 (by decide) (fun c6 => ?_) (fun c6 => ?_)
  · replace h := it_t c6 h
    refine V_aload_n (i := 2) 5 dJ25_siftDownUsingComparator_77 rfl rfl ?_
    refine V_iload_n (i := 0) 3 dJ25_siftDownUsingComparator_78 rfl rfl ?_
    refine V_aload (i := 7) 0 dJ25_siftDownUsingComparator_79 rfl ?_
    obtain ⟨σ7, e8, h⟩ := bd_s h
    refine V_stR5 e8 dJ25_siftDownUsingComparator_81 ?_
    refine V_iload (i := 6) 1 dJ25_siftDownUsingComparator_82 rfl ?_
    refine V_istore_n (i := 0) (L' := [(0, pI x6), (7, pR a7), (6, pI x6), (5, pI x5), (1, pR a1), (2, pR a2), (3, pI x3), (4, pR a4)]) dJ25_siftDownUsingComparator_84 rfl (by decide) rfl ?_
    refine V_goto 5 dJ25_siftDownUsingComparator_85 (by decide) ?_
    refine V_sub [3, 0, 4, 5, 6, 7] rfl ?_
    exact hk5 _ _ _ _ _ _ _ h
  · replace h := it_f c6 h
    refine V_goto 88 dJ25_siftDownUsingComparator_74 (by decide) ?_
    refine V_sub [3, 4, 5] rfl ?_
    exact v_J25_siftDownUsingComparator_88 hst h
def f_J25_siftDownUsingComparator_5_b (k5 : Hp → Int32 → Int32 → Nat → Nat → Int32 → Nat → Option (Unit × Hp)) (σ : Hp) (x5 : Int32) (x0 : Int32) (a1 : Nat) (a2 : Nat) (x3 : Int32) (a4 : Nat) : Option (Unit × Hp) :=
  if x5 ≤ x0 then (f_J25_siftDownUsingComparator_88 σ x0 a1 a2) else (bd (elR σ 105 a2 ((x0 <<< ((1 : Int32) &&& 31)) + (1 : Int32))) fun b2 => if x3 ≤ (((x0 <<< ((1 : Int32) &&& 31)) + (1 : Int32)) + (1 : Int32)) then (f_J25_siftDownUsingComparator_61 k5 σ b2 ((x0 <<< ((1 : Int32) &&& 31)) + (1 : Int32)) x5 x0 a1 a2 x3 a4) else (bd (elR σ 105 a2 (((x0 <<< ((1 : Int32) &&& 31)) + (1 : Int32)) + (1 : Int32))) fun b5 => bd (gk σ 8 a4) fun e7 => bp (f_X9_compare σ a4 b2 b5) fun y9 σ10 => if y9 ≤ (0 : Int32) then (f_J25_siftDownUsingComparator_61 k5 σ10 b2 ((x0 <<< ((1 : Int32) &&& 31)) + (1 : Int32)) x5 x0 a1 a2 x3 a4) else (bd (elR σ10 105 a2 (((x0 <<< ((1 : Int32) &&& 31)) + (1 : Int32)) + (1 : Int32))) fun b13 => f_J25_siftDownUsingComparator_61 k5 σ10 b13 (((x0 <<< ((1 : Int32) &&& 31)) + (1 : Int32)) + (1 : Int32)) x5 x0 a1 a2 x3 a4)))
set_option maxHeartbeats 4000000 in
theorem v_J25_siftDownUsingComparator_5_b {l : Launch} {G : Gx} (hst : l.stackTraces = false) {σ0 σe : Hp} {Se : Ms} {r : Unit} {k5 : Hp → Int32 → Int32 → Nat → Nat → Int32 → Nat → Option (Unit × Hp)} (hk5 : ∀ (σ : Hp) (x5 : Int32) (x0 : Int32) (a1 : Nat) (a2 : Nat) (x3 : Int32) (a4 : Nat), k5 σ x5 x0 a1 a2 x3 a4 = some (r, σe) → VV_J25_siftDownUsingComparator l G σ0 (.inl none) σe Se 5 [(5, pI x5), (0, pI x0), (1, pR a1), (2, pR a2), (3, pI x3), (4, pR a4)] [] σ Se) {σ : Hp} {x5 : Int32} {x0 : Int32} {a1 : Nat} {a2 : Nat} {x3 : Int32} {a4 : Nat} (h : f_J25_siftDownUsingComparator_5_b k5 σ x5 x0 a1 a2 x3 a4 = some (r, σe)) : VV_J25_siftDownUsingComparator l G σ0 (.inl none) σe Se 5 [(5, pI x5), (0, pI x0), (1, pR a1), (2, pR a2), (3, pI x3), (4, pR a4)] [] σ Se := by
  unfold f_J25_siftDownUsingComparator_5_b at h
  refine V_iload_n (i := 0) 1 dJ25_siftDownUsingComparator_5 rfl rfl ?_
  refine V_iload (i := 5) 0 dJ25_siftDownUsingComparator_6 rfl ?_
  refine V_icmp_ge 88 dJ25_siftDownUsingComparator_8 (by decide) (fun c1 => ?_) (fun c1 => ?_)
  · replace h := it_t c1 h
    refine V_sub [1, 2, 3] rfl ?_
    exact v_J25_siftDownUsingComparator_88 hst h
  · replace h := it_f c1 h
    refine V_iload_n (i := 0) 1 dJ25_siftDownUsingComparator_11 rfl rfl ?_
    refine V_iconst (v := 1) dJ25_siftDownUsingComparator_12 (by decide) ?_
    refine V_ishl dJ25_siftDownUsingComparator_13 ?_
    refine V_iconst (v := 1) dJ25_siftDownUsingComparator_14 (by decide) ?_
    refine V_iadd dJ25_siftDownUsingComparator_15 ?_
    refine V_istore (i := 6) (L' := [(6, pI ((x0 <<< ((1 : Int32) &&& 31)) + (1 : Int32))), (5, pI x5), (0, pI x0), (1, pR a1), (2, pR a2), (3, pI x3), (4, pR a4)]) dJ25_siftDownUsingComparator_16 (by decide) rfl ?_
    refine V_aload_n (i := 2) 4 dJ25_siftDownUsingComparator_18 rfl rfl ?_
    refine V_iload (i := 6) 0 dJ25_siftDownUsingComparator_19 rfl ?_
    obtain ⟨b2, e3, h⟩ := bd_s h
    refine V_elR5 e3 dJ25_siftDownUsingComparator_21 ?_
    refine V_astore (i := 7) (L' := [(7, pR b2), (6, pI ((x0 <<< ((1 : Int32) &&& 31)) + (1 : Int32))), (5, pI x5), (0, pI x0), (1, pR a1), (2, pR a2), (3, pI x3), (4, pR a4)]) dJ25_siftDownUsingComparator_22 (by decide) rfl ?_
    refine V_iload (i := 6) 1 dJ25_siftDownUsingComparator_24 rfl ?_
    refine V_iconst (v := 1) dJ25_siftDownUsingComparator_26 (by decide) ?_
    refine V_iadd dJ25_siftDownUsingComparator_27 ?_
    refine V_istore (i := 8) (L' := [(8, pI (((x0 <<< ((1 : Int32) &&& 31)) + (1 : Int32)) + (1 : Int32))), (7, pR b2), (6, pI ((x0 <<< ((1 : Int32) &&& 31)) + (1 : Int32))), (5, pI x5), (0, pI x0), (1, pR a1), (2, pR a2), (3, pI x3), (4, pR a4)]) dJ25_siftDownUsingComparator_28 (by decide) rfl ?_
    refine V_iload (i := 8) 0 dJ25_siftDownUsingComparator_30 rfl ?_
    refine V_iload_n (i := 3) 7 dJ25_siftDownUsingComparator_32 rfl rfl ?_
    refine V_icmp_ge 61 dJ25_siftDownUsingComparator_33 (by decide) (fun c4 => ?_) (fun c4 => ?_)
    · replace h := it_t c4 h
      refine V_sub [1, 2, 3, 4, 5, 6, 7, 8] rfl ?_
      exact v_J25_siftDownUsingComparator_61 hst hk5 h
    · replace h := it_f c4 h
      refine V_aload (i := 4) 8 dJ25_siftDownUsingComparator_36 rfl ?_
      refine V_aload (i := 7) 1 dJ25_siftDownUsingComparator_38 rfl ?_
      refine V_aload_n (i := 2) 6 dJ25_siftDownUsingComparator_40 rfl rfl ?_
      refine V_iload (i := 8) 0 dJ25_siftDownUsingComparator_41 rfl ?_
      obtain ⟨b5, e6, h⟩ := bd_s h
      refine V_elR5 e6 dJ25_siftDownUsingComparator_43 ?_
      obtain ⟨e7, e8, h⟩ := bd_s h
      obtain ⟨y9, σ10, e11, h⟩ := bp_s h
      refine V_callF_v (n9 := 2) (c := 7) (r := (RX9, TX9, 1)) (x := ⟨"java/util/Comparator", "compare", "(Ljava/lang/Object;Ljava/lang/Object;)I"⟩) [] (v_X9_compare l G hst _ e11) rfl rfl (lw_app (lw_F4 q1413 q1417 q1419 q111) (lw_meth q1421)) (by decide +kernel) (by decide +kernel) (by decide) (Nat.le_of_ble_eq_true rfl) (gk_k e8 rfl) rfl dJ25_siftDownUsingComparator_44 ?_
      refine V_if_le 61 dJ25_siftDownUsingComparator_49 (by decide) (fun c12 => ?_) (fun c12 => ?_)
      · replace h := it_t c12 h
        refine V_sub [1, 2, 3, 4, 5, 6, 7, 8] rfl ?_
        exact v_J25_siftDownUsingComparator_61 hst hk5 h
      · replace h := it_f c12 h
        refine V_aload_n (i := 2) 6 dJ25_siftDownUsingComparator_52 rfl rfl ?_
        refine V_iload (i := 8) 0 dJ25_siftDownUsingComparator_53 rfl ?_
        refine V_dup dJ25_siftDownUsingComparator_55 rfl ?_
        refine V_istore (i := 6) (L' := [(6, pI (((x0 <<< ((1 : Int32) &&& 31)) + (1 : Int32)) + (1 : Int32))), (8, pI (((x0 <<< ((1 : Int32) &&& 31)) + (1 : Int32)) + (1 : Int32))), (7, pR b2), (5, pI x5), (0, pI x0), (1, pR a1), (2, pR a2), (3, pI x3), (4, pR a4)]) dJ25_siftDownUsingComparator_56 (by decide) rfl ?_
        obtain ⟨b13, e14, h⟩ := bd_s h
        refine V_elR5 e14 dJ25_siftDownUsingComparator_58 ?_
        refine V_astore (i := 7) (L' := [(7, pR b13), (6, pI (((x0 <<< ((1 : Int32) &&& 31)) + (1 : Int32)) + (1 : Int32))), (8, pI (((x0 <<< ((1 : Int32) &&& 31)) + (1 : Int32)) + (1 : Int32))), (5, pI x5), (0, pI x0), (1, pR a1), (2, pR a2), (3, pI x3), (4, pR a4)]) dJ25_siftDownUsingComparator_59 (by decide) rfl ?_
        refine V_sub [0, 1, 3, 4, 5, 6, 7, 8] rfl ?_
        exact v_J25_siftDownUsingComparator_61 hst hk5 h
def f_J25_siftDownUsingComparator_5 : Nat → Hp → Int32 → Int32 → Nat → Nat → Int32 → Nat → Option (Unit × Hp)
  | 0, _, _, _, _, _, _, _ => none
  | n + 1, σ, x5, x0, a1, a2, x3, a4 => f_J25_siftDownUsingComparator_5_b (f_J25_siftDownUsingComparator_5 n) σ x5 x0 a1 a2 x3 a4
theorem v_J25_siftDownUsingComparator_5 {l : Launch} {G : Gx} (hst : l.stackTraces = false) {σ0 σe : Hp} {Se : Ms} {r : Unit} : ∀ (n : Nat) (σ : Hp) (x5 : Int32) (x0 : Int32) (a1 : Nat) (a2 : Nat) (x3 : Int32) (a4 : Nat), f_J25_siftDownUsingComparator_5 n σ x5 x0 a1 a2 x3 a4 = some (r, σe) → VV_J25_siftDownUsingComparator l G σ0 (.inl none) σe Se 5 [(5, pI x5), (0, pI x0), (1, pR a1), (2, pR a2), (3, pI x3), (4, pR a4)] [] σ Se
  | 0, _, _, _, _, _, _, _, h => by cases h
  | n + 1, _, _, _, _, _, _, _, h => v_J25_siftDownUsingComparator_5_b hst (v_J25_siftDownUsingComparator_5 hst n) h
def f_J25_siftDownUsingComparator (σ : Hp) (x0 : Int32) (a1 : Nat) (a2 : Nat) (x3 : Int32) (a4 : Nat) : Option (Unit × Hp) :=
  f_J25_siftDownUsingComparator_5 FU σ ((x3.toUInt32 >>> ((1 : Int32).toUInt32 &&& Int32.toUInt32 31)).toInt32) x0 a1 a2 x3 a4
set_option maxHeartbeats 4000000 in
theorem v_J25_siftDownUsingComparator (l : Launch) (G : Gx) (hst : l.stackTraces = false) (S : Ms) {σ σe : Hp} {x0 : Int32} {a1 : Nat} {a2 : Nat} {x3 : Int32} {a4 : Nat} {r : Unit} (h : f_J25_siftDownUsingComparator σ x0 a1 a2 x3 a4 = some (r, σe)) : MT l G yJ25_siftDownUsingComparator (ws_ yJ25_siftDownUsingComparator cJ25_siftDownUsingComparator 9 none) 5 117 [pI x0, pR a1, pR a2, pI x3, pR a4] σ S (.inl none) σe S := by
  refine MT_of (own := RJ25) (nL := 9) (ini := false) (by decide +kernel) rfl (Nat.le_of_ble_eq_true rfl) (fun h => by cases h) hst ?_
  show VV_J25_siftDownUsingComparator l G σ (.inl none) σe S 0 [(0, pI x0), (1, pR a1), (2, pR a2), (3, pI x3), (4, pR a4)] [] σ S
  unfold f_J25_siftDownUsingComparator at h
  refine V_iload_n (i := 3) 3 dJ25_siftDownUsingComparator_0 rfl rfl ?_
  refine V_iconst (v := 1) dJ25_siftDownUsingComparator_1 (by decide) ?_
  refine V_iushr dJ25_siftDownUsingComparator_2 ?_
  refine V_istore (i := 5) (L' := [(5, pI ((x3.toUInt32 >>> ((1 : Int32).toUInt32 &&& Int32.toUInt32 31)).toInt32)), (0, pI x0), (1, pR a1), (2, pR a2), (3, pI x3), (4, pR a4)]) dJ25_siftDownUsingComparator_3 (by decide) rfl ?_
  refine V_sub [0, 1, 2, 3, 4, 5] rfl ?_
  exact v_J25_siftDownUsingComparator_5 hst FU _ _ _ _ _ _ _ h

abbrev VV_J25_poll (l : Launch) (G : Gx) (σ0 : Hp) (o : Oc) (σe : Hp) (Se : Ms) := V l G RJ25 cJ25_poll 6 (some (.object "java/lang/Object")) [] false 6 145 σ0 o σe Se
def f_J25_poll_79 (σ : Hp) (a2 : Nat) : Option (Nat × Hp) :=
  some (a2, σ)
set_option maxHeartbeats 4000000 in
theorem v_J25_poll_79 {l : Launch} {G : Gx} (hst : l.stackTraces = false) {σ0 σe : Hp} {Se : Ms} {r : Nat} {σ : Hp} {a2 : Nat} (h : f_J25_poll_79 σ a2 = some (r, σe)) : VV_J25_poll l G σ0 (.inl (some (pR r))) σe Se 79 [(2, pR a2)] [] σ Se := by
  unfold f_J25_poll_79 at h
  refine V_aload_n (i := 2) 0 dJ25_poll_79 rfl rfl ?_
  cases h
  exact V_aret rfl (Or.inl ⟨_, rfl⟩) dJ25_poll_80
def f_J25_poll (σ : Hp) (a0 : Nat) : Option (Nat × Hp) :=
  bd (rdR σ 14 a0 140) fun b1 => bd (elR σ 105 b1 (0 : Int32)) fun b3 => if b3 = 0 then (f_J25_poll_79 σ b3) else (bd (rdI σ 14 a0 143) fun y6 => bd (wrI σ 14 a0 143 (y6 + (1 : Int32))) fun σ8 => bd (rdI σ8 14 a0 141) fun y10 => bd (wrI σ8 14 a0 141 (y10 - (1 : Int32))) fun σ12 => bd (elR σ12 105 b1 (y10 - (1 : Int32))) fun b14 => bd (stR σ12 105 b1 (y10 - (1 : Int32)) 0) fun σ16 => if (y10 - (1 : Int32)) ≤ (0 : Int32) then (f_J25_poll_79 σ16 b3) else (bd (rdR σ16 14 a0 142) fun b19 => if b19 = 0 then (none) else (bp (f_J25_siftDownUsingComparator σ16 (0 : Int32) b14 b1 (y10 - (1 : Int32)) b19) fun e22 σ23 => f_J25_poll_79 σ23 b3)))
set_option maxHeartbeats 4000000 in
theorem v_J25_poll (l : Launch) (G : Gx) (hst : l.stackTraces = false) (S : Ms) {σ σe : Hp} {a0 : Nat} {r : Nat} (h : f_J25_poll σ a0 = some (r, σe)) : MT l G yJ25_poll (ws_ yJ25_poll cJ25_poll 6 (some (.object "java/lang/Object"))) 6 145 [pR a0] σ S (.inl (some (pR r))) σe S := by
  refine MT_of (own := RJ25) (nL := 6) (ini := false) (by decide +kernel) rfl (Nat.le_of_ble_eq_true rfl) (fun h => by cases h) hst ?_
  show VV_J25_poll l G σ (.inl (some (pR r))) σe S 0 [(0, pR a0)] [] σ S
  unfold f_J25_poll at h
  refine V_aload_n (i := 0) 0 dJ25_poll_0 rfl rfl ?_
  obtain ⟨b1, e2, h⟩ := bd_s h
  refine V_rdR gf_J25_17 rfl rfl rfl e2 dJ25_poll_1 ?_
  refine V_dup dJ25_poll_4 rfl ?_
  refine V_astore_n (i := 1) (L' := [(1, pR b1), (0, pR a0)]) dJ25_poll_5 rfl (by decide) rfl ?_
  refine V_iconst (v := 0) dJ25_poll_6 (by decide) ?_
  obtain ⟨b3, e4, h⟩ := bd_s h
  refine V_elR5 e4 dJ25_poll_7 ?_
  refine V_dup dJ25_poll_8 rfl ?_
  refine V_astore_n (i := 2) (L' := [(2, pR b3), (1, pR b1), (0, pR a0)]) dJ25_poll_9 rfl (by decide) rfl ?_
  refine V_ifnull 79 dJ25_poll_10 (by decide) (fun c5 => ?_) (fun c5 => ?_)
  · replace h := it_t c5 h
    refine V_sub [0] rfl ?_
    exact v_J25_poll_79 hst h
  · replace h := it_f c5 h
    refine V_aload_n (i := 0) 2 dJ25_poll_13 rfl rfl ?_
    refine V_dup dJ25_poll_14 rfl ?_
    obtain ⟨y6, e7, h⟩ := bd_s h
    refine V_rdI gf_J25_93 rfl rfl rfl e7 dJ25_poll_15 ?_
    refine V_iconst (v := 1) dJ25_poll_18 (by decide) ?_
    refine V_iadd dJ25_poll_19 ?_
    obtain ⟨σ8, e9, h⟩ := bd_s h
    refine V_wrI gw_J25_93 rfl rfl rfl e9 dJ25_poll_20 ?_
    refine V_aload_n (i := 1) 1 dJ25_poll_23 rfl rfl ?_
    refine V_aload_n (i := 0) 2 dJ25_poll_24 rfl rfl ?_
    refine V_dup dJ25_poll_25 rfl ?_
    obtain ⟨y10, e11, h⟩ := bd_s h
    refine V_rdI gf_J25_58 rfl rfl rfl e11 dJ25_poll_26 ?_
    refine V_iconst (v := 1) dJ25_poll_29 (by decide) ?_
    refine V_isub dJ25_poll_30 ?_
    refine V_dup_x1 dJ25_poll_31 rfl rfl ?_
    obtain ⟨σ12, e13, h⟩ := bd_s h
    refine V_wrI gw_J25_58 rfl rfl rfl e13 dJ25_poll_32 ?_
    refine V_dup dJ25_poll_35 rfl ?_
    refine V_istore_n (i := 3) (L' := [(3, pI (y10 - (1 : Int32))), (2, pR b3), (1, pR b1), (0, pR a0)]) dJ25_poll_36 rfl (by decide) rfl ?_
    obtain ⟨b14, e15, h⟩ := bd_s h
    refine V_elR5 e15 dJ25_poll_37 ?_
    refine V_astore (i := 4) (L' := [(4, pR b14), (3, pI (y10 - (1 : Int32))), (2, pR b3), (1, pR b1), (0, pR a0)]) dJ25_poll_38 (by decide) rfl ?_
    refine V_aload_n (i := 1) 3 dJ25_poll_40 rfl rfl ?_
    refine V_iload_n (i := 3) 1 dJ25_poll_41 rfl rfl ?_
    refine V_null dJ25_poll_42 ?_
    obtain ⟨σ16, e17, h⟩ := bd_s h
    refine V_stR5 e17 dJ25_poll_43 ?_
    refine V_iload_n (i := 3) 1 dJ25_poll_44 rfl rfl ?_
    refine V_if_le 79 dJ25_poll_45 (by decide) (fun c18 => ?_) (fun c18 => ?_)
    · replace h := it_t c18 h
      refine V_sub [2] rfl ?_
      exact v_J25_poll_79 hst h
    · replace h := it_f c18 h
      refine V_aload_n (i := 0) 4 dJ25_poll_48 rfl rfl ?_
      obtain ⟨b19, e20, h⟩ := bd_s h
      refine V_rdR gf_J25_21 rfl rfl rfl e20 dJ25_poll_49 ?_
      refine V_dup dJ25_poll_52 rfl ?_
      refine V_astore (i := 5) (L' := [(5, pR b19), (4, pR b14), (3, pI (y10 - (1 : Int32))), (2, pR b3), (1, pR b1), (0, pR a0)]) dJ25_poll_53 (by decide) rfl ?_
      refine V_ifnonnull 69 dJ25_poll_55 (by decide) (fun c21 => ?_) (fun c21 => ?_)
      · replace h := it_f c21 h
        refine V_iconst (v := 0) dJ25_poll_69 (by decide) ?_
        refine V_aload (i := 4) 1 dJ25_poll_70 rfl ?_
        refine V_aload_n (i := 1) 4 dJ25_poll_72 rfl rfl ?_
        refine V_iload_n (i := 3) 2 dJ25_poll_73 rfl rfl ?_
        refine V_aload (i := 5) 0 dJ25_poll_74 rfl ?_
        obtain ⟨e22, σ23, e24, h⟩ := bp_s h
        refine V_callS_0 (n9 := 5) [] (v_J25_siftDownUsingComparator l G hst _ e24) rfl rfl (lw_S q1668 q1669 q110 q1670) (by decide +kernel) (by decide) (Nat.le_of_ble_eq_true rfl) dJ25_poll_76 ?_
        refine V_sub [3] rfl ?_
        exact v_J25_poll_79 hst h
      · replace h := it_t c21 h
        refine V_iconst (v := 0) dJ25_poll_58 (by decide) ?_
        refine V_aload (i := 4) 1 dJ25_poll_59 rfl ?_
        refine V_aload_n (i := 1) 4 dJ25_poll_61 rfl rfl ?_
        refine V_iload_n (i := 3) 2 dJ25_poll_62 rfl rfl ?_
        cases h

abbrev VV_X2_ranked (l : Launch) (G : Gx) (σ0 : Hp) (o : Oc) (σe : Hp) (Se : Ms) := V l G RX2 cX2_ranked 5 (some .int) [] false 9 207 σ0 o σe Se
def f_X2_ranked_111 (σ : Hp) (s0 : Int32) : Option (Int32 × Hp) :=
  some (s0, σ)
set_option maxHeartbeats 4000000 in
theorem v_X2_ranked_111 {l : Launch} {G : Gx} (hst : l.stackTraces = false) {σ0 σe : Hp} {Se : Ms} {r : Int32} {σ : Hp} {s0 : Int32} (h : f_X2_ranked_111 σ s0 = some (r, σe)) : VV_X2_ranked l G σ0 (.inl (some (pI r))) σe Se 111 [] [pI s0] σ Se := by
  unfold f_X2_ranked_111 at h
  cases h
  exact V_iret rfl dX2_ranked_111
def f_X2_ranked_90 (σ : Hp) (a3 : Nat) : Option (Int32 × Hp) :=
  bd (gk σ 14 a3) fun e1 => bp (f_J0_isEmpty σ a3) fun y3 σ4 => if y3 = (0 : Int32) then (bd (gk σ4 14 a3) fun e7 => bp (f_J25_poll σ4 a3) fun b9 σ10 => bd (ckC σ10 9 b9) fun e12 => bd (rdI σ10 9 b9 90) fun y14 => f_X2_ranked_111 σ10 y14) else (f_X2_ranked_111 σ4 (-1 : Int32))
set_option maxHeartbeats 4000000 in
theorem v_X2_ranked_90 {l : Launch} {G : Gx} (hst : l.stackTraces = false) {σ0 σe : Hp} {Se : Ms} {r : Int32} {σ : Hp} {a3 : Nat} (h : f_X2_ranked_90 σ a3 = some (r, σe)) : VV_X2_ranked l G σ0 (.inl (some (pI r))) σe Se 90 [(3, pR a3)] [] σ Se := by
  unfold f_X2_ranked_90 at h
  refine V_aload_n (i := 3) 0 dX2_ranked_90 rfl rfl ?_
  obtain ⟨e1, e2, h⟩ := bd_s h
  obtain ⟨y3, σ4, e5, h⟩ := bp_s h
  refine V_callU_v (n9 := 0) (c := 13) (r := (RJ25, TJ25, 4)) (x := (⟨"java/util/PriorityQueue", "isEmpty", "()Z"⟩ : MethodName)) (owner := "java/util/AbstractCollection") [] (v_J0_isEmpty l G hst _ e5) rfl rfl (lw_app (lw_U q1635 q1636 q1638 q1639 q78) (lw_meth q1640)) rfl (by decide +kernel) (by decide) (Nat.le_of_ble_eq_true rfl) (gk_k e2 rfl) rfl dX2_ranked_91 ?_
  refine V_if_eq 101 dX2_ranked_94 (by decide) (fun c6 => ?_) (fun c6 => ?_)
  · replace h := it_t c6 h
    refine V_aload_n (i := 3) 0 dX2_ranked_101 rfl rfl ?_
    obtain ⟨e7, e8, h⟩ := bd_s h
    obtain ⟨b9, σ10, e11, h⟩ := bp_s h
    refine V_callV_v (n9 := 0) (c := 13) (r := (RJ25, TJ25, 4)) [] (v_J25_poll l G hst _ e11) rfl rfl (lw_V q1661 q1662 q1663 q110 q1664) (by decide +kernel) (by decide) (Nat.le_of_ble_eq_true rfl) (gk_k e8 rfl) rfl dX2_ranked_102 ?_
    obtain ⟨e12, e13, h⟩ := bd_s h
    refine V_ckC (c := 8) e13 q1375 rfl (Or.inl rfl) dX2_ranked_105 ?_
    obtain ⟨y14, e15, h⟩ := bd_s h
    refine V_rdI gf_X2_174 rfl rfl rfl e15 dX2_ranked_108 ?_
    refine V_sub [] rfl ?_
    exact v_X2_ranked_111 hst h
  · replace h := it_f c6 h
    refine V_iconst (v := (-1)) dX2_ranked_97 (by decide) ?_
    refine V_goto 111 dX2_ranked_98 (by decide) ?_
    refine V_sub [] rfl ?_
    exact v_X2_ranked_111 hst h
def f_X2_ranked_66_b (k66 : Hp → Int32 → Nat → Int32 → Option (Int32 × Hp)) (σ : Hp) (x4 : Int32) (a3 : Nat) (x2 : Int32) : Option (Int32 × Hp) :=
  if x2 ≤ x4 then (f_X2_ranked_90 σ a3) else (bd (gk σ 14 a3) fun e2 => bp (f_J0_isEmpty σ a3) fun y4 σ5 => if y4 = (0 : Int32) then (bd (gk σ5 14 a3) fun e8 => bp (f_J25_poll σ5 a3) fun b10 σ11 => k66 σ11 (x4 + (1 : Int32)) a3 x2) else (f_X2_ranked_90 σ5 a3))
set_option maxHeartbeats 4000000 in
theorem v_X2_ranked_66_b {l : Launch} {G : Gx} (hst : l.stackTraces = false) {σ0 σe : Hp} {Se : Ms} {r : Int32} {k66 : Hp → Int32 → Nat → Int32 → Option (Int32 × Hp)} (hk66 : ∀ (σ : Hp) (x4 : Int32) (a3 : Nat) (x2 : Int32), k66 σ x4 a3 x2 = some (r, σe) → VV_X2_ranked l G σ0 (.inl (some (pI r))) σe Se 66 [(4, pI x4), (3, pR a3), (2, pI x2)] [] σ Se) {σ : Hp} {x4 : Int32} {a3 : Nat} {x2 : Int32} (h : f_X2_ranked_66_b k66 σ x4 a3 x2 = some (r, σe)) : VV_X2_ranked l G σ0 (.inl (some (pI r))) σe Se 66 [(4, pI x4), (3, pR a3), (2, pI x2)] [] σ Se := by
  unfold f_X2_ranked_66_b at h
  refine V_iload (i := 4) 0 dX2_ranked_66 rfl ?_
  refine V_iload_n (i := 2) 2 dX2_ranked_68 rfl rfl ?_
  refine V_icmp_ge 90 dX2_ranked_69 (by decide) (fun c1 => ?_) (fun c1 => ?_)
  · replace h := it_t c1 h
    refine V_sub [1] rfl ?_
    exact v_X2_ranked_90 hst h
  · replace h := it_f c1 h
    refine V_aload_n (i := 3) 1 dX2_ranked_72 rfl rfl ?_
    obtain ⟨e2, e3, h⟩ := bd_s h
    obtain ⟨y4, σ5, e6, h⟩ := bp_s h
    refine V_callU_v (n9 := 0) (c := 13) (r := (RJ25, TJ25, 4)) (x := (⟨"java/util/PriorityQueue", "isEmpty", "()Z"⟩ : MethodName)) (owner := "java/util/AbstractCollection") [] (v_J0_isEmpty l G hst _ e6) rfl rfl (lw_app (lw_U q1635 q1636 q1638 q1639 q78) (lw_meth q1640)) rfl (by decide +kernel) (by decide) (Nat.le_of_ble_eq_true rfl) (gk_k e3 rfl) rfl dX2_ranked_73 ?_
    refine V_if_ne 90 dX2_ranked_76 (by decide) (fun c7 => ?_) (fun c7 => ?_)
    · replace h := it_f c7 h
      refine V_sub [1] rfl ?_
      exact v_X2_ranked_90 hst h
    · replace h := it_t c7 h
      refine V_aload_n (i := 3) 1 dX2_ranked_79 rfl rfl ?_
      obtain ⟨e8, e9, h⟩ := bd_s h
      obtain ⟨b10, σ11, e12, h⟩ := bp_s h
      refine V_callV_v (n9 := 0) (c := 13) (r := (RJ25, TJ25, 4)) [] (v_J25_poll l G hst _ e12) rfl rfl (lw_V q1661 q1662 q1663 q110 q1664) (by decide +kernel) (by decide) (Nat.le_of_ble_eq_true rfl) (gk_k e9 rfl) rfl dX2_ranked_80 ?_
      refine V_pop dX2_ranked_83 rfl ?_
      refine V_iinc (v := (x4 + (1 : Int32))) (L' := [(4, pI (x4 + (1 : Int32))), (3, pR a3), (2, pI x2)]) 0 dX2_ranked_84 rfl rfl (by decide) rfl ?_
      refine V_goto 66 dX2_ranked_87 (by decide) ?_
      refine V_sub [0, 1, 2] rfl ?_
      exact hk66 _ _ _ _ h
def f_X2_ranked_66 : Nat → Hp → Int32 → Nat → Int32 → Option (Int32 × Hp)
  | 0, _, _, _, _ => none
  | n + 1, σ, x4, a3, x2 => f_X2_ranked_66_b (f_X2_ranked_66 n) σ x4 a3 x2
theorem v_X2_ranked_66 {l : Launch} {G : Gx} (hst : l.stackTraces = false) {σ0 σe : Hp} {Se : Ms} {r : Int32} : ∀ (n : Nat) (σ : Hp) (x4 : Int32) (a3 : Nat) (x2 : Int32), f_X2_ranked_66 n σ x4 a3 x2 = some (r, σe) → VV_X2_ranked l G σ0 (.inl (some (pI r))) σe Se 66 [(4, pI x4), (3, pR a3), (2, pI x2)] [] σ Se
  | 0, _, _, _, _, h => by cases h
  | n + 1, _, _, _, _, h => v_X2_ranked_66_b hst (v_X2_ranked_66 hst n) h
def f_X2_ranked_19_b (k19 : Hp → Int32 → Nat → Nat → Int32 → Option (Int32 × Hp)) (σ : Hp) (x4 : Int32) (a3 : Nat) (a0 : Nat) (x2 : Int32) : Option (Int32 × Hp) :=
  bd (rdR σ 2 a0 20) fun b1 => bd (gk σ 10 b1) fun e3 => bp (f_J2_size σ b1) fun y5 σ6 => if y5 ≤ x4 then (f_X2_ranked_66 FU σ6 (0 : Int32) a3 x2) else (bd (rdR (nC σ6 9 2) 2 a0 20) fun b9 => bd (gk (nC σ6 9 2) 10 b9) fun e11 => bp (f_J2_get (nC σ6 9 2) b9 x4) fun b13 σ14 => bd (ckC σ14 3 b13) fun e16 => bd (gz σ14 (hN σ6)) fun e18 => bp (f_X10_init σ14 (hN σ6) x4 b13) fun e20 σ21 => bd (gk σ21 14 a3) fun e23 => bp (f_J25_add σ21 a3 (hN σ6)) fun y25 σ26 => k19 σ26 (x4 + (1 : Int32)) a3 a0 x2)
set_option maxHeartbeats 4000000 in
theorem v_X2_ranked_19_b {l : Launch} {G : Gx} (hst : l.stackTraces = false) {σ0 σe : Hp} {Se : Ms} {r : Int32} {k19 : Hp → Int32 → Nat → Nat → Int32 → Option (Int32 × Hp)} (hk19 : ∀ (σ : Hp) (x4 : Int32) (a3 : Nat) (a0 : Nat) (x2 : Int32), k19 σ x4 a3 a0 x2 = some (r, σe) → VV_X2_ranked l G σ0 (.inl (some (pI r))) σe Se 19 [(4, pI x4), (3, pR a3), (0, pR a0), (2, pI x2)] [] σ Se) {σ : Hp} {x4 : Int32} {a3 : Nat} {a0 : Nat} {x2 : Int32} (h : f_X2_ranked_19_b k19 σ x4 a3 a0 x2 = some (r, σe)) : VV_X2_ranked l G σ0 (.inl (some (pI r))) σe Se 19 [(4, pI x4), (3, pR a3), (0, pR a0), (2, pI x2)] [] σ Se := by
  unfold f_X2_ranked_19_b at h
  refine V_iload (i := 4) 0 dX2_ranked_19 rfl ?_
  refine V_aload_n (i := 0) 2 dX2_ranked_21 rfl rfl ?_
  obtain ⟨b1, e2, h⟩ := bd_s h
  refine V_rdR gf_X2_12 rfl rfl rfl e2 dX2_ranked_22 ?_
  obtain ⟨e3, e4, h⟩ := bd_s h
  obtain ⟨y5, σ6, e7, h⟩ := bp_s h
  refine V_callV_v (n9 := 0) (c := 9) (r := (RJ2, TJ2, 3)) [pI x4] (v_J2_size l G hst _ e7) rfl rfl (lw_V q935 q861 q862 q80 q863) (by decide +kernel) (by decide) (Nat.le_of_ble_eq_true rfl) (gk_k e4 rfl) rfl dX2_ranked_25 ?_
  refine V_icmp_ge 63 dX2_ranked_28 (by decide) (fun c8 => ?_) (fun c8 => ?_)
  · replace h := it_t c8 h
    refine V_iconst (v := 0) dX2_ranked_63 (by decide) ?_
    refine V_istore (i := 4) (L' := [(4, pI (0 : Int32)), (3, pR a3), (0, pR a0), (2, pI x2)]) dX2_ranked_64 (by decide) rfl ?_
    refine V_sub [0, 1, 3] rfl ?_
    exact v_X2_ranked_66 hst FU _ _ _ _ h
  · replace h := it_f c8 h
    refine V_aload_n (i := 3) 1 dX2_ranked_31 rfl rfl ?_
    refine V_new (n := 2) ci_8 (by decide +kernel) q1375 q1376 q112 dX2_ranked_32 ?_
    refine V_dup dX2_ranked_35 rfl ?_
    refine V_iload (i := 4) 0 dX2_ranked_36 rfl ?_
    refine V_aload_n (i := 0) 2 dX2_ranked_38 rfl rfl ?_
    obtain ⟨b9, e10, h⟩ := bd_s h
    refine V_rdR gf_X2_12 rfl rfl rfl e10 dX2_ranked_39 ?_
    refine V_iload (i := 4) 0 dX2_ranked_42 rfl ?_
    obtain ⟨e11, e12, h⟩ := bd_s h
    obtain ⟨b13, σ14, e15, h⟩ := bp_s h
    refine V_callV_v (n9 := 1) (c := 9) (r := (RJ2, TJ2, 3)) [pI x4, pR (hN σ6), pR (hN σ6), pR a3] (v_J2_get l G hst _ e15) rfl rfl (lw_V q936 q937 q938 q80 q939) (by decide +kernel) (by decide) (Nat.le_of_ble_eq_true rfl) (gk_k e12 rfl) rfl dX2_ranked_44 ?_
    obtain ⟨e16, e17, h⟩ := bd_s h
    refine V_ckC (c := 2) e17 q948 rfl (Or.inl rfl) dX2_ranked_47 ?_
    obtain ⟨e18, e19, h⟩ := bd_s h
    obtain ⟨e20, σ21, e22, h⟩ := bp_s h
    refine V_callI_0 (n9 := 2) [pR (hN σ6), pR a3] (v_X10_init l G hst _ e22) rfl rfl q1379 q112 q1377 q1378 rfl (by decide +kernel) (by decide) (Nat.le_of_ble_eq_true rfl) (gz_n e19) dX2_ranked_50 ?_
    obtain ⟨e23, e24, h⟩ := bd_s h
    obtain ⟨y25, σ26, e27, h⟩ := bp_s h
    refine V_callV_v (n9 := 1) (c := 13) (r := (RJ25, TJ25, 4)) [] (v_J25_add l G hst _ e27) rfl rfl (lw_V q1391 q1392 q1393 q110 q1394) (by decide +kernel) (by decide) (Nat.le_of_ble_eq_true rfl) (gk_k e24 rfl) rfl dX2_ranked_53 ?_
    refine V_pop dX2_ranked_56 rfl ?_
    refine V_iinc (v := (x4 + (1 : Int32))) (L' := [(4, pI (x4 + (1 : Int32))), (3, pR a3), (0, pR a0), (2, pI x2)]) 0 dX2_ranked_57 rfl rfl (by decide) rfl ?_
    refine V_goto 19 dX2_ranked_60 (by decide) ?_
    refine V_sub [0, 1, 2, 3] rfl ?_
    exact hk19 _ _ _ _ _ h
def f_X2_ranked_19 : Nat → Hp → Int32 → Nat → Nat → Int32 → Option (Int32 × Hp)
  | 0, _, _, _, _, _ => none
  | n + 1, σ, x4, a3, a0, x2 => f_X2_ranked_19_b (f_X2_ranked_19 n) σ x4 a3 a0 x2
theorem v_X2_ranked_19 {l : Launch} {G : Gx} (hst : l.stackTraces = false) {σ0 σe : Hp} {Se : Ms} {r : Int32} : ∀ (n : Nat) (σ : Hp) (x4 : Int32) (a3 : Nat) (a0 : Nat) (x2 : Int32), f_X2_ranked_19 n σ x4 a3 a0 x2 = some (r, σe) → VV_X2_ranked l G σ0 (.inl (some (pI r))) σe Se 19 [(4, pI x4), (3, pR a3), (0, pR a0), (2, pI x2)] [] σ Se
  | 0, _, _, _, _, _, h => by cases h
  | n + 1, _, _, _, _, _, h => v_X2_ranked_19_b hst (v_X2_ranked_19 hst n) h
def f_X2_ranked (σ : Hp) (a0 : Nat) (x1 : Int32) (x2 : Int32) : Option (Int32 × Hp) :=
  bd (gz (nC (nC σ 14 4) 8 1) (hN (nC σ 14 4))) fun e1 => bp (f_X9_init (nC (nC σ 14 4) 8 1) (hN (nC σ 14 4)) x1) fun e3 σ4 => bd (gz σ4 (hN σ)) fun e6 => bp (f_J25_init σ4 (hN σ) (hN (nC σ 14 4))) fun e8 σ9 => f_X2_ranked_19 FU σ9 (0 : Int32) (hN σ) a0 x2
set_option maxHeartbeats 4000000 in
theorem v_X2_ranked (l : Launch) (G : Gx) (hst : l.stackTraces = false) (S : Ms) {σ σe : Hp} {a0 : Nat} {x1 : Int32} {x2 : Int32} {r : Int32} (h : f_X2_ranked σ a0 x1 x2 = some (r, σe)) : MT l G yX2_ranked (ws_ yX2_ranked cX2_ranked 5 (some .int)) 9 207 [pR a0, pI x1, pI x2] σ S (.inl (some (pI r))) σe S := by
  refine MT_of (own := RX2) (nL := 5) (ini := false) (by decide +kernel) rfl (Nat.le_of_ble_eq_true rfl) (fun h => by cases h) hst ?_
  show VV_X2_ranked l G σ (.inl (some (pI r))) σe S 0 [(0, pR a0), (1, pI x1), (2, pI x2)] [] σ S
  unfold f_X2_ranked at h
  refine V_new (n := 4) ci_13 (by decide +kernel) q1337 q1338 q110 dX2_ranked_0 ?_
  refine V_dup dX2_ranked_3 rfl ?_
  refine V_new (n := 1) ci_7 (by decide +kernel) q1339 q1340 q111 dX2_ranked_4 ?_
  refine V_dup dX2_ranked_7 rfl ?_
  refine V_iload_n (i := 1) 1 dX2_ranked_8 rfl rfl ?_
  obtain ⟨e1, e2, h⟩ := bd_s h
  obtain ⟨e3, σ4, e5, h⟩ := bp_s h
  refine V_callI_0 (n9 := 1) [pR (hN (nC σ 14 4)), pR (hN σ), pR (hN σ)] (v_X9_init l G hst _ e5) rfl rfl q1343 q111 q1341 q1342 rfl (by decide +kernel) (by decide) (Nat.le_of_ble_eq_true rfl) (gz_n e2) dX2_ranked_9 ?_
  obtain ⟨e6, e7, h⟩ := bd_s h
  obtain ⟨e8, σ9, e10, h⟩ := bp_s h
  refine V_callI_0 (n9 := 1) [pR (hN σ)] (v_J25_init l G hst _ e10) rfl rfl q1351 q110 q1349 q1350 rfl (by decide +kernel) (by decide) (Nat.le_of_ble_eq_true rfl) (gz_n e7) dX2_ranked_12 ?_
  refine V_astore_n (i := 3) (L' := [(3, pR (hN σ)), (0, pR a0), (1, pI x1), (2, pI x2)]) dX2_ranked_15 rfl (by decide) rfl ?_
  refine V_iconst (v := 0) dX2_ranked_16 (by decide) ?_
  refine V_istore (i := 4) (L' := [(4, pI (0 : Int32)), (3, pR (hN σ)), (0, pR a0), (1, pI x1), (2, pI x2)]) dX2_ranked_17 (by decide) rfl ?_
  refine V_sub [0, 1, 2, 4] rfl ?_
  exact v_X2_ranked_19 hst FU _ _ _ _ _ h

abbrev VV_J28_init (l : Launch) (G : Gx) (σ0 : Hp) (o : Oc) (σe : Hp) (Se : Ms) := V l G RJ28 cJ28_init 1 none [] true 1 30 σ0 o σe Se
def f_J28_init (σ : Hp) (a0 : Nat) : Option (Unit × Hp) :=
  bd (gz σ a0) fun e1 => some ((), σ)
set_option maxHeartbeats 4000000 in
theorem v_J28_init (l : Launch) (G : Gx) (hst : l.stackTraces = false) (S : Ms) {σ σe : Hp} {a0 : Nat} {r : Unit} (h : f_J28_init σ a0 = some (r, σe)) : MT l G yJ28_init (ws_ yJ28_init cJ28_init 1 none) 1 30 [pR a0] σ S (.inl none) σe S := by
  refine MT_of (own := RJ28) (nL := 1) (ini := true) (by decide +kernel) rfl (Nat.le_of_ble_eq_true rfl) (fun h => rfl) hst ?_
  show VV_J28_init l G σ (.inl none) σe S 0 [(0, pR a0)] [] σ S
  unfold f_J28_init at h
  refine V_aload_n (i := 0) 0 dJ28_init_0 rfl rfl ?_
  obtain ⟨e1, e2, h⟩ := bd_s h
  refine V_objInit (gz_n e2) q1690 q131 q132 (by decide) (Nat.le_of_ble_eq_true rfl) dJ28_init_1 ?_
  cases h
  exact V_vret rfl dJ28_init_4

abbrev VV_J29_init (l : Launch) (G : Gx) (σ0 : Hp) (o : Oc) (σe : Hp) (Se : Ms) := V l G RJ29 cJ29_init 1 none [] true 2 50 σ0 o σe Se
def f_J29_init (σ : Hp) (a0 : Nat) : Option (Unit × Hp) :=
  bd (gz σ a0) fun e1 => bp (f_J28_init σ a0) fun e3 σ4 => bd (wrI σ4 15 a0 154 (0 : Int32)) fun σ6 => bd (wrI σ6 15 a0 155 (0 : Int32)) fun σ8 => bd (wrR σ8 15 a0 152 0) fun σ10 => some ((), σ10)
set_option maxHeartbeats 4000000 in
theorem v_J29_init (l : Launch) (G : Gx) (hst : l.stackTraces = false) (S : Ms) {σ σe : Hp} {a0 : Nat} {r : Unit} (h : f_J29_init σ a0 = some (r, σe)) : MT l G yJ29_init (ws_ yJ29_init cJ29_init 1 none) 2 50 [pR a0] σ S (.inl none) σe S := by
  refine MT_of (own := RJ29) (nL := 1) (ini := true) (by decide +kernel) rfl (Nat.le_of_ble_eq_true rfl) (fun h => rfl) hst ?_
  show VV_J29_init l G σ (.inl none) σe S 0 [(0, pR a0)] [] σ S
  unfold f_J29_init at h
  refine V_aload_n (i := 0) 0 dJ29_init_0 rfl rfl ?_
  obtain ⟨e1, e2, h⟩ := bd_s h
  obtain ⟨e3, σ4, e5, h⟩ := bp_s h
  refine V_callI_0 (n9 := 0) [] (v_J28_init l G hst _ e5) rfl rfl q1689 q116 q1687 q1688 rfl (by decide +kernel) (by decide) (Nat.le_of_ble_eq_true rfl) (gz_n e2) dJ29_init_1 ?_
  refine V_aload_n (i := 0) 0 dJ29_init_4 rfl rfl ?_
  refine V_iconst (v := 0) dJ29_init_5 (by decide) ?_
  obtain ⟨σ6, e7, h⟩ := bd_s h
  refine V_wrI gw_J29_7 rfl rfl rfl e7 dJ29_init_6 ?_
  refine V_aload_n (i := 0) 0 dJ29_init_9 rfl rfl ?_
  refine V_iconst (v := 0) dJ29_init_10 (by decide) ?_
  obtain ⟨σ8, e9, h⟩ := bd_s h
  refine V_wrI gw_J29_13 rfl rfl rfl e9 dJ29_init_11 ?_
  refine V_aload_n (i := 0) 0 dJ29_init_14 rfl rfl ?_
  refine V_null dJ29_init_15 ?_
  obtain ⟨σ10, e11, h⟩ := bd_s h
  refine V_wrRF gw_J29_16 rfl (okF_obj _ rfl) rfl rfl e11 dJ29_init_16 ?_
  cases h
  exact V_vret rfl dJ29_init_19

abbrev VV_J29_getEntry (l : Launch) (G : Gx) (σ0 : Hp) (o : Oc) (σe : Hp) (Se : Ms) := V l G RJ29 cJ29_getEntry 5 (some (.object "java/util/TreeMap$Entry")) [] false 4 93 σ0 o σe Se
def f_J29_getEntry_72 (k28 : Hp → Nat → Nat → Option (Nat × Hp)) (σ : Hp) (a3 : Nat) (a2 : Nat) : Option (Nat × Hp) :=
  k28 σ a3 a2
set_option maxHeartbeats 4000000 in
theorem v_J29_getEntry_72 {l : Launch} {G : Gx} (hst : l.stackTraces = false) {σ0 σe : Hp} {Se : Ms} {r : Nat} {k28 : Hp → Nat → Nat → Option (Nat × Hp)} (hk28 : ∀ (σ : Hp) (a3 : Nat) (a2 : Nat), k28 σ a3 a2 = some (r, σe) → VV_J29_getEntry l G σ0 (.inl (some (pR r))) σe Se 28 [(3, pR a3), (2, pR a2)] [] σ Se) {σ : Hp} {a3 : Nat} {a2 : Nat} (h : f_J29_getEntry_72 k28 σ a3 a2 = some (r, σe)) : VV_J29_getEntry l G σ0 (.inl (some (pR r))) σe Se 72 [(3, pR a3), (2, pR a2)] [] σ Se := by
  unfold f_J29_getEntry_72 at h
  refine V_goto 28 dJ29_getEntry_72 (by decide) ?_
  refine V_sub [0, 1] rfl ?_
  exact hk28 _ _ _ h
def f_J29_getEntry_28_b (k28 : Hp → Nat → Nat → Option (Nat × Hp)) (σ : Hp) (a3 : Nat) (a2 : Nat) : Option (Nat × Hp) :=
  if a3 = 0 then (some (0, σ)) else (bd (rdR σ 16 a3 160) fun b2 => bd (gk σ 19 a2) fun e4 => bp (f_J23_compareTo σ a2 b2) fun y6 σ7 => if (0 : Int32) ≤ y6 then (if y6 ≤ (0 : Int32) then (some (a3, σ7)) else (bd (rdR σ7 16 a3 163) fun b11 => f_J29_getEntry_72 k28 σ7 b11 a2)) else (bd (rdR σ7 16 a3 162) fun b13 => f_J29_getEntry_72 k28 σ7 b13 a2))
set_option maxHeartbeats 4000000 in
theorem v_J29_getEntry_28_b {l : Launch} {G : Gx} (hst : l.stackTraces = false) {σ0 σe : Hp} {Se : Ms} {r : Nat} {k28 : Hp → Nat → Nat → Option (Nat × Hp)} (hk28 : ∀ (σ : Hp) (a3 : Nat) (a2 : Nat), k28 σ a3 a2 = some (r, σe) → VV_J29_getEntry l G σ0 (.inl (some (pR r))) σe Se 28 [(3, pR a3), (2, pR a2)] [] σ Se) {σ : Hp} {a3 : Nat} {a2 : Nat} (h : f_J29_getEntry_28_b k28 σ a3 a2 = some (r, σe)) : VV_J29_getEntry l G σ0 (.inl (some (pR r))) σe Se 28 [(3, pR a3), (2, pR a2)] [] σ Se := by
  unfold f_J29_getEntry_28_b at h
  refine V_aload_n (i := 3) 0 dJ29_getEntry_28 rfl rfl ?_
  refine V_ifnull 75 dJ29_getEntry_29 (by decide) (fun c1 => ?_) (fun c1 => ?_)
  · replace h := it_t c1 h
    refine V_null dJ29_getEntry_75 ?_
    cases h
    exact V_aret rfl (Or.inl ⟨_, rfl⟩) dJ29_getEntry_76
  · replace h := it_f c1 h
    refine V_aload_n (i := 2) 1 dJ29_getEntry_32 rfl rfl ?_
    refine V_aload_n (i := 3) 0 dJ29_getEntry_33 rfl rfl ?_
    obtain ⟨b2, e3, h⟩ := bd_s h
    refine V_rdR gf_J29_105 rfl rfl rfl e3 dJ29_getEntry_34 ?_
    obtain ⟨e4, e5, h⟩ := bd_s h
    obtain ⟨y6, σ7, e8, h⟩ := bp_s h
    refine V_callF_v (n9 := 1) (c := 18) (r := (RJ23, TJ23, 1)) (x := ⟨"java/lang/Comparable", "compareTo", "(Ljava/lang/Object;)I"⟩) [] (v_J23_compareTo l G hst _ e8) rfl rfl (lw_app (lw_F4 q1754 q1445 q1447 q105) (lw_meth q1449)) (by decide +kernel) (by decide +kernel) (by decide) (Nat.le_of_ble_eq_true rfl) (gk_k e5 rfl) rfl dJ29_getEntry_37 ?_
    refine V_istore (i := 4) (L' := [(4, pI y6), (3, pR a3), (2, pR a2)]) dJ29_getEntry_42 (by decide) rfl ?_
    refine V_iload (i := 4) 0 dJ29_getEntry_44 rfl ?_
    refine V_if_ge 57 dJ29_getEntry_46 (by decide) (fun c9 => ?_) (fun c9 => ?_)
    · replace h := it_t c9 h
      refine V_iload (i := 4) 0 dJ29_getEntry_57 rfl ?_
      refine V_if_le 70 dJ29_getEntry_59 (by decide) (fun c10 => ?_) (fun c10 => ?_)
      · replace h := it_t c10 h
        refine V_aload_n (i := 3) 1 dJ29_getEntry_70 rfl rfl ?_
        cases h
        exact V_aret rfl (Or.inl ⟨_, rfl⟩) dJ29_getEntry_71
      · replace h := it_f c10 h
        refine V_aload_n (i := 3) 1 dJ29_getEntry_62 rfl rfl ?_
        obtain ⟨b11, e12, h⟩ := bd_s h
        refine V_rdR gf_J29_114 rfl rfl rfl e12 dJ29_getEntry_63 ?_
        refine V_astore_n (i := 3) (L' := [(3, pR b11), (4, pI y6), (2, pR a2)]) dJ29_getEntry_66 rfl (by decide) rfl ?_
        refine V_goto 72 dJ29_getEntry_67 (by decide) ?_
        refine V_sub [0, 2] rfl ?_
        exact v_J29_getEntry_72 hst hk28 h
    · replace h := it_f c9 h
      refine V_aload_n (i := 3) 1 dJ29_getEntry_49 rfl rfl ?_
      obtain ⟨b13, e14, h⟩ := bd_s h
      refine V_rdR gf_J29_111 rfl rfl rfl e14 dJ29_getEntry_50 ?_
      refine V_astore_n (i := 3) (L' := [(3, pR b13), (4, pI y6), (2, pR a2)]) dJ29_getEntry_53 rfl (by decide) rfl ?_
      refine V_goto 72 dJ29_getEntry_54 (by decide) ?_
      refine V_sub [0, 2] rfl ?_
      exact v_J29_getEntry_72 hst hk28 h
def f_J29_getEntry_28 : Nat → Hp → Nat → Nat → Option (Nat × Hp)
  | 0, _, _, _ => none
  | n + 1, σ, a3, a2 => f_J29_getEntry_28_b (f_J29_getEntry_28 n) σ a3 a2
theorem v_J29_getEntry_28 {l : Launch} {G : Gx} (hst : l.stackTraces = false) {σ0 σe : Hp} {Se : Ms} {r : Nat} : ∀ (n : Nat) (σ : Hp) (a3 : Nat) (a2 : Nat), f_J29_getEntry_28 n σ a3 a2 = some (r, σe) → VV_J29_getEntry l G σ0 (.inl (some (pR r))) σe Se 28 [(3, pR a3), (2, pR a2)] [] σ Se
  | 0, _, _, _, h => by cases h
  | n + 1, _, _, _, h => v_J29_getEntry_28_b hst (v_J29_getEntry_28 hst n) h
def f_J29_getEntry (σ : Hp) (a0 : Nat) (a1 : Nat) : Option (Nat × Hp) :=
  bd (rdR σ 15 a0 152) fun b1 => if b1 = 0 then (bd (f_J16_requireNonNull a1) fun b4 => bd (ckC σ 19 a1) fun e6 => bd (rdR σ 15 a0 153) fun b8 => f_J29_getEntry_28 FU σ b8 a1) else (none)
set_option maxHeartbeats 4000000 in
theorem v_J29_getEntry (l : Launch) (G : Gx) (hst : l.stackTraces = false) (S : Ms) {σ σe : Hp} {a0 : Nat} {a1 : Nat} {r : Nat} (h : f_J29_getEntry σ a0 a1 = some (r, σe)) : MT l G yJ29_getEntry (ws_ yJ29_getEntry cJ29_getEntry 5 (some (.object "java/util/TreeMap$Entry"))) 4 93 [pR a0, pR a1] σ S (.inl (some (pR r))) σe S := by
  refine MT_of (own := RJ29) (nL := 5) (ini := false) (by decide +kernel) rfl (Nat.le_of_ble_eq_true rfl) (fun h => by cases h) hst ?_
  show VV_J29_getEntry l G σ (.inl (some (pR r))) σe S 0 [(0, pR a0), (1, pR a1)] [] σ S
  unfold f_J29_getEntry at h
  refine V_aload_n (i := 0) 0 dJ29_getEntry_0 rfl rfl ?_
  obtain ⟨b1, e2, h⟩ := bd_s h
  refine V_rdR gf_J29_16 rfl rfl rfl e2 dJ29_getEntry_1 ?_
  refine V_ifnull 13 dJ29_getEntry_4 (by decide) (fun c3 => ?_) (fun c3 => ?_)
  · replace h := it_t c3 h
    refine V_aload_n (i := 1) 1 dJ29_getEntry_13 rfl rfl ?_
    obtain ⟨b4, e5, h⟩ := bd_s h
    refine V_callS_v (n9 := 1) [] (v_J16_requireNonNull l G hst _ _ e5) rfl rfl (lw_S q1749 q1750 q96 q1751) (by decide +kernel) (by decide) (Nat.le_of_ble_eq_true rfl) dJ29_getEntry_14 ?_
    refine V_pop dJ29_getEntry_17 rfl ?_
    refine V_aload_n (i := 1) 1 dJ29_getEntry_18 rfl rfl ?_
    obtain ⟨e6, e7, h⟩ := bd_s h
    refine V_ckC (c := 18) e7 q1752 rfl (Or.inr (by decide +kernel)) dJ29_getEntry_19 ?_
    refine V_astore_n (i := 2) (L' := [(2, pR a1), (0, pR a0), (1, pR a1)]) dJ29_getEntry_22 rfl (by decide) rfl ?_
    refine V_aload_n (i := 0) 1 dJ29_getEntry_23 rfl rfl ?_
    obtain ⟨b8, e9, h⟩ := bd_s h
    refine V_rdR gf_J29_101 rfl rfl rfl e9 dJ29_getEntry_24 ?_
    refine V_astore_n (i := 3) (L' := [(3, pR b8), (2, pR a1), (0, pR a0), (1, pR a1)]) dJ29_getEntry_27 rfl (by decide) rfl ?_
    refine V_sub [0, 1] rfl ?_
    exact v_J29_getEntry_28 hst FU _ _ _ h
  · replace h := it_f c3 h
    refine V_aload_n (i := 0) 0 dJ29_getEntry_7 rfl rfl ?_
    refine V_aload_n (i := 1) 1 dJ29_getEntry_8 rfl rfl ?_
    cases h

abbrev VV_J29_containsKey (l : Launch) (G : Gx) (σ0 : Hp) (o : Oc) (σe : Hp) (Se : Ms) := V l G RJ29 cJ29_containsKey 2 (some .boolean) [] false 5 117 σ0 o σe Se
def f_J29_containsKey_13 (σ : Hp) (s0 : Int32) : Option (Int32 × Hp) :=
  bd (okZ s0) fun e1 => some (s0, σ)
set_option maxHeartbeats 4000000 in
theorem v_J29_containsKey_13 {l : Launch} {G : Gx} (hst : l.stackTraces = false) {σ0 σe : Hp} {Se : Ms} {r : Int32} {σ : Hp} {s0 : Int32} (h : f_J29_containsKey_13 σ s0 = some (r, σe)) : VV_J29_containsKey l G σ0 (.inl (some (pI r))) σe Se 13 [] [pI s0] σ Se := by
  unfold f_J29_containsKey_13 at h
  obtain ⟨e1, e2, h⟩ := bd_s h
  cases h
  exact V_retZ e2 rfl dJ29_containsKey_13
def f_J29_containsKey (σ : Hp) (a0 : Nat) (a1 : Nat) : Option (Int32 × Hp) :=
  bd (gk σ 15 a0) fun e1 => bp (f_J29_getEntry σ a0 a1) fun b3 σ4 => if b3 = 0 then (f_J29_containsKey_13 σ4 (0 : Int32)) else (f_J29_containsKey_13 σ4 (1 : Int32))
set_option maxHeartbeats 4000000 in
theorem v_J29_containsKey (l : Launch) (G : Gx) (hst : l.stackTraces = false) (S : Ms) {σ σe : Hp} {a0 : Nat} {a1 : Nat} {r : Int32} (h : f_J29_containsKey σ a0 a1 = some (r, σe)) : MT l G yJ29_containsKey (ws_ yJ29_containsKey cJ29_containsKey 2 (some .boolean)) 5 117 [pR a0, pR a1] σ S (.inl (some (pI r))) σe S := by
  refine MT_of (own := RJ29) (nL := 2) (ini := false) (by decide +kernel) rfl (Nat.le_of_ble_eq_true rfl) (fun h => by cases h) hst ?_
  show VV_J29_containsKey l G σ (.inl (some (pI r))) σe S 0 [(0, pR a0), (1, pR a1)] [] σ S
  unfold f_J29_containsKey at h
  refine V_aload_n (i := 0) 0 dJ29_containsKey_0 rfl rfl ?_
  refine V_aload_n (i := 1) 1 dJ29_containsKey_1 rfl rfl ?_
  obtain ⟨e1, e2, h⟩ := bd_s h
  obtain ⟨b3, σ4, e5, h⟩ := bp_s h
  refine V_callV_v (n9 := 1) (c := 14) (r := (RJ29, TJ29, 9)) [] (v_J29_getEntry l G hst _ e5) rfl rfl (lw_V q1739 q1740 q1741 q117 q1742) (by decide +kernel) (by decide) (Nat.le_of_ble_eq_true rfl) (gk_k e2 rfl) rfl dJ29_containsKey_2 ?_
  refine V_ifnull 12 dJ29_containsKey_5 (by decide) (fun c6 => ?_) (fun c6 => ?_)
  · replace h := it_t c6 h
    refine V_iconst (v := 0) dJ29_containsKey_12 (by decide) ?_
    refine V_sub [] rfl ?_
    exact v_J29_containsKey_13 hst h
  · replace h := it_f c6 h
    refine V_iconst (v := 1) dJ29_containsKey_8 (by decide) ?_
    refine V_goto 13 dJ29_containsKey_9 (by decide) ?_
    refine V_sub [] rfl ?_
    exact v_J29_containsKey_13 hst h

abbrev VV_J29_get (l : Launch) (G : Gx) (σ0 : Hp) (o : Oc) (σe : Hp) (Se : Ms) := V l G RJ29 cJ29_get 3 (some (.object "java/lang/Object")) [] false 5 117 σ0 o σe Se
def f_J29_get_18 (σ : Hp) (t0 : Nat) : Option (Nat × Hp) :=
  some (t0, σ)
set_option maxHeartbeats 4000000 in
theorem v_J29_get_18 {l : Launch} {G : Gx} (hst : l.stackTraces = false) {σ0 σe : Hp} {Se : Ms} {r : Nat} {σ : Hp} {t0 : Nat} (h : f_J29_get_18 σ t0 = some (r, σe)) : VV_J29_get l G σ0 (.inl (some (pR r))) σe Se 18 [] [pR t0] σ Se := by
  unfold f_J29_get_18 at h
  cases h
  exact V_aret rfl (Or.inl ⟨_, rfl⟩) dJ29_get_18
def f_J29_get (σ : Hp) (a0 : Nat) (a1 : Nat) : Option (Nat × Hp) :=
  bd (gk σ 15 a0) fun e1 => bp (f_J29_getEntry σ a0 a1) fun b3 σ4 => if b3 = 0 then (f_J29_get_18 σ4 0) else (bd (rdR σ4 16 b3 161) fun b7 => f_J29_get_18 σ4 b7)
set_option maxHeartbeats 4000000 in
theorem v_J29_get (l : Launch) (G : Gx) (hst : l.stackTraces = false) (S : Ms) {σ σe : Hp} {a0 : Nat} {a1 : Nat} {r : Nat} (h : f_J29_get σ a0 a1 = some (r, σe)) : MT l G yJ29_get (ws_ yJ29_get cJ29_get 3 (some (.object "java/lang/Object"))) 5 117 [pR a0, pR a1] σ S (.inl (some (pR r))) σe S := by
  refine MT_of (own := RJ29) (nL := 3) (ini := false) (by decide +kernel) rfl (Nat.le_of_ble_eq_true rfl) (fun h => by cases h) hst ?_
  show VV_J29_get l G σ (.inl (some (pR r))) σe S 0 [(0, pR a0), (1, pR a1)] [] σ S
  unfold f_J29_get at h
  refine V_aload_n (i := 0) 0 dJ29_get_0 rfl rfl ?_
  refine V_aload_n (i := 1) 1 dJ29_get_1 rfl rfl ?_
  obtain ⟨e1, e2, h⟩ := bd_s h
  obtain ⟨b3, σ4, e5, h⟩ := bp_s h
  refine V_callV_v (n9 := 1) (c := 14) (r := (RJ29, TJ29, 9)) [] (v_J29_getEntry l G hst _ e5) rfl rfl (lw_V q1739 q1740 q1741 q117 q1742) (by decide +kernel) (by decide) (Nat.le_of_ble_eq_true rfl) (gk_k e2 rfl) rfl dJ29_get_2 ?_
  refine V_astore_n (i := 2) (L' := [(2, pR b3), (0, pR a0), (1, pR a1)]) dJ29_get_5 rfl (by decide) rfl ?_
  refine V_aload_n (i := 2) 0 dJ29_get_6 rfl rfl ?_
  refine V_ifnonnull 14 dJ29_get_7 (by decide) (fun c6 => ?_) (fun c6 => ?_)
  · replace h := it_f c6 h
    refine V_aload_n (i := 2) 0 dJ29_get_14 rfl rfl ?_
    obtain ⟨b7, e8, h⟩ := bd_s h
    refine V_rdR gf_J29_58 rfl rfl rfl e8 dJ29_get_15 ?_
    refine V_sub [] rfl ?_
    exact v_J29_get_18 hst h
  · replace h := it_t c6 h
    refine V_null dJ29_get_10 ?_
    refine V_goto 18 dJ29_get_11 (by decide) ?_
    refine V_sub [] rfl ?_
    exact v_J29_get_18 hst h

abbrev VV_J29_compare (l : Launch) (G : Gx) (σ0 : Hp) (o : Oc) (σe : Hp) (Se : Ms) := V l G RJ29 cJ29_compare 3 (some .int) [] false 5 117 σ0 o σe Se
def f_J29_compare_31 (σ : Hp) (s0 : Int32) : Option (Int32 × Hp) :=
  some (s0, σ)
set_option maxHeartbeats 4000000 in
theorem v_J29_compare_31 {l : Launch} {G : Gx} (hst : l.stackTraces = false) {σ0 σe : Hp} {Se : Ms} {r : Int32} {σ : Hp} {s0 : Int32} (h : f_J29_compare_31 σ s0 = some (r, σe)) : VV_J29_compare l G σ0 (.inl (some (pI r))) σe Se 31 [] [pI s0] σ Se := by
  unfold f_J29_compare_31 at h
  cases h
  exact V_iret rfl dJ29_compare_31
def f_J29_compare (σ : Hp) (a0 : Nat) (a1 : Nat) (a2 : Nat) : Option (Int32 × Hp) :=
  bd (rdR σ 15 a0 152) fun b1 => if b1 = 0 then (bd (ckC σ 19 a1) fun e11 => bd (gk σ 19 a1) fun e13 => bp (f_J23_compareTo σ a1 a2) fun y15 σ16 => f_J29_compare_31 σ16 y15) else (bd (rdR σ 15 a0 152) fun b4 => bd (gk σ 8 b4) fun e6 => bp (f_X9_compare σ b4 a1 a2) fun y8 σ9 => f_J29_compare_31 σ9 y8)
set_option maxHeartbeats 4000000 in
theorem v_J29_compare (l : Launch) (G : Gx) (hst : l.stackTraces = false) (S : Ms) {σ σe : Hp} {a0 : Nat} {a1 : Nat} {a2 : Nat} {r : Int32} (h : f_J29_compare σ a0 a1 a2 = some (r, σe)) : MT l G yJ29_compare (ws_ yJ29_compare cJ29_compare 3 (some .int)) 5 117 [pR a0, pR a1, pR a2] σ S (.inl (some (pI r))) σe S := by
  refine MT_of (own := RJ29) (nL := 3) (ini := false) (by decide +kernel) rfl (Nat.le_of_ble_eq_true rfl) (fun h => by cases h) hst ?_
  show VV_J29_compare l G σ (.inl (some (pI r))) σe S 0 [(0, pR a0), (1, pR a1), (2, pR a2)] [] σ S
  unfold f_J29_compare at h
  refine V_aload_n (i := 0) 0 dJ29_compare_0 rfl rfl ?_
  obtain ⟨b1, e2, h⟩ := bd_s h
  refine V_rdR gf_J29_16 rfl rfl rfl e2 dJ29_compare_1 ?_
  refine V_ifnonnull 20 dJ29_compare_4 (by decide) (fun c3 => ?_) (fun c3 => ?_)
  · replace h := it_f c3 h
    refine V_aload_n (i := 0) 0 dJ29_compare_20 rfl rfl ?_
    obtain ⟨b4, e5, h⟩ := bd_s h
    refine V_rdR gf_J29_16 rfl rfl rfl e5 dJ29_compare_21 ?_
    refine V_aload_n (i := 1) 1 dJ29_compare_24 rfl rfl ?_
    refine V_aload_n (i := 2) 2 dJ29_compare_25 rfl rfl ?_
    obtain ⟨e6, e7, h⟩ := bd_s h
    obtain ⟨y8, σ9, e10, h⟩ := bp_s h
    refine V_callF_v (n9 := 2) (c := 7) (r := (RX9, TX9, 1)) (x := ⟨"java/util/Comparator", "compare", "(Ljava/lang/Object;Ljava/lang/Object;)I"⟩) [] (v_X9_compare l G hst _ e10) rfl rfl (lw_app (lw_F4 q1748 q1417 q1419 q111) (lw_meth q1421)) (by decide +kernel) (by decide +kernel) (by decide) (Nat.le_of_ble_eq_true rfl) (gk_k e7 rfl) rfl dJ29_compare_26 ?_
    refine V_sub [] rfl ?_
    exact v_J29_compare_31 hst h
  · replace h := it_t c3 h
    refine V_aload_n (i := 1) 1 dJ29_compare_7 rfl rfl ?_
    obtain ⟨e11, e12, h⟩ := bd_s h
    refine V_ckC (c := 18) e12 q1752 rfl (Or.inr (by decide +kernel)) dJ29_compare_8 ?_
    refine V_aload_n (i := 2) 2 dJ29_compare_11 rfl rfl ?_
    obtain ⟨e13, e14, h⟩ := bd_s h
    obtain ⟨y15, σ16, e17, h⟩ := bp_s h
    refine V_callF_v (n9 := 1) (c := 18) (r := (RJ23, TJ23, 1)) (x := ⟨"java/lang/Comparable", "compareTo", "(Ljava/lang/Object;)I"⟩) [] (v_J23_compareTo l G hst _ e17) rfl rfl (lw_app (lw_F4 q1754 q1445 q1447 q105) (lw_meth q1449)) (by decide +kernel) (by decide +kernel) (by decide) (Nat.le_of_ble_eq_true rfl) (gk_k e14 rfl) rfl dJ29_compare_12 ?_
    refine V_goto 31 dJ29_compare_17 (by decide) ?_
    refine V_sub [] rfl ?_
    exact v_J29_compare_31 hst h

abbrev VV_J29_addEntryToEmptyMap (l : Launch) (G : Gx) (σ0 : Hp) (o : Oc) (σe : Hp) (Se : Ms) := V l G RJ29 cJ29_addEntryToEmptyMap 3 none [] false 6 139 σ0 o σe Se
def f_J29_addEntryToEmptyMap (σ : Hp) (a0 : Nat) (a1 : Nat) (a2 : Nat) : Option (Unit × Hp) :=
  bd (gk σ 15 a0) fun e1 => bp (f_J29_compare σ a0 a1 a1) fun y3 σ4 => bd (gz (nC σ4 16 6) (hN σ4)) fun e6 => bp (f_J30_init (nC σ4 16 6) (hN σ4) a1 a2 0) fun e8 σ9 => bd (wrR σ9 15 a0 153 (hN σ4)) fun σ11 => bd (wrI σ11 15 a0 154 (1 : Int32)) fun σ13 => bd (rdI σ13 15 a0 155) fun y15 => bd (wrI σ13 15 a0 155 (y15 + (1 : Int32))) fun σ17 => some ((), σ17)
set_option maxHeartbeats 4000000 in
theorem v_J29_addEntryToEmptyMap (l : Launch) (G : Gx) (hst : l.stackTraces = false) (S : Ms) {σ σe : Hp} {a0 : Nat} {a1 : Nat} {a2 : Nat} {r : Unit} (h : f_J29_addEntryToEmptyMap σ a0 a1 a2 = some (r, σe)) : MT l G yJ29_addEntryToEmptyMap (ws_ yJ29_addEntryToEmptyMap cJ29_addEntryToEmptyMap 3 none) 6 139 [pR a0, pR a1, pR a2] σ S (.inl none) σe S := by
  refine MT_of (own := RJ29) (nL := 3) (ini := false) (by decide +kernel) rfl (Nat.le_of_ble_eq_true rfl) (fun h => by cases h) hst ?_
  show VV_J29_addEntryToEmptyMap l G σ (.inl none) σe S 0 [(0, pR a0), (1, pR a1), (2, pR a2)] [] σ S
  unfold f_J29_addEntryToEmptyMap at h
  refine V_aload_n (i := 0) 0 dJ29_addEntryToEmptyMap_0 rfl rfl ?_
  refine V_aload_n (i := 1) 1 dJ29_addEntryToEmptyMap_1 rfl rfl ?_
  refine V_aload_n (i := 1) 1 dJ29_addEntryToEmptyMap_2 rfl rfl ?_
  obtain ⟨e1, e2, h⟩ := bd_s h
  obtain ⟨y3, σ4, e5, h⟩ := bp_s h
  refine V_callV_v (n9 := 2) (c := 14) (r := (RJ29, TJ29, 9)) [] (v_J29_compare l G hst _ e5) rfl rfl (lw_V q1776 q1777 q1778 q117 q1779) (by decide +kernel) (by decide) (Nat.le_of_ble_eq_true rfl) (gk_k e2 rfl) rfl dJ29_addEntryToEmptyMap_3 ?_
  refine V_pop dJ29_addEntryToEmptyMap_6 rfl ?_
  refine V_aload_n (i := 0) 0 dJ29_addEntryToEmptyMap_7 rfl rfl ?_
  refine V_new (n := 6) ci_15 (by decide +kernel) q1780 q1781 q119 dJ29_addEntryToEmptyMap_8 ?_
  refine V_dup dJ29_addEntryToEmptyMap_11 rfl ?_
  refine V_aload_n (i := 1) 1 dJ29_addEntryToEmptyMap_12 rfl rfl ?_
  refine V_aload_n (i := 2) 2 dJ29_addEntryToEmptyMap_13 rfl rfl ?_
  refine V_null dJ29_addEntryToEmptyMap_14 ?_
  obtain ⟨e6, e7, h⟩ := bd_s h
  obtain ⟨e8, σ9, e10, h⟩ := bp_s h
  refine V_callI_0 (n9 := 3) [pR (hN σ4), pR a0] (v_J30_init l G hst _ e10) rfl rfl q1784 q119 q1782 q1783 rfl (by decide +kernel) (by decide) (Nat.le_of_ble_eq_true rfl) (gz_n e7) dJ29_addEntryToEmptyMap_15 ?_
  obtain ⟨σ11, e12, h⟩ := bd_s h
  refine V_wrR gw_J29_101 (okF_obj _ rfl) rfl rfl e12 dJ29_addEntryToEmptyMap_18 ?_
  refine V_aload_n (i := 0) 0 dJ29_addEntryToEmptyMap_21 rfl rfl ?_
  refine V_iconst (v := 1) dJ29_addEntryToEmptyMap_22 (by decide) ?_
  obtain ⟨σ13, e14, h⟩ := bd_s h
  refine V_wrI gw_J29_7 rfl rfl rfl e14 dJ29_addEntryToEmptyMap_23 ?_
  refine V_aload_n (i := 0) 0 dJ29_addEntryToEmptyMap_26 rfl rfl ?_
  refine V_dup dJ29_addEntryToEmptyMap_27 rfl ?_
  obtain ⟨y15, e16, h⟩ := bd_s h
  refine V_rdI gf_J29_13 rfl rfl rfl e16 dJ29_addEntryToEmptyMap_28 ?_
  refine V_iconst (v := 1) dJ29_addEntryToEmptyMap_31 (by decide) ?_
  refine V_iadd dJ29_addEntryToEmptyMap_32 ?_
  obtain ⟨σ17, e18, h⟩ := bd_s h
  refine V_wrI gw_J29_13 rfl rfl rfl e18 dJ29_addEntryToEmptyMap_33 ?_
  cases h
  exact V_vret rfl dJ29_addEntryToEmptyMap_36

abbrev VV_J29_parentOf (l : Launch) (G : Gx) (σ0 : Hp) (o : Oc) (σe : Hp) (Se : Ms) := V l G RJ29 cJ29_parentOf 1 (some (.object "java/util/TreeMap$Entry")) [] false 1 30 σ0 o σe Se
def f_J29_parentOf_12 (σ : Hp) (t0 : Nat) : Option (Nat × Hp) :=
  some (t0, σ)
set_option maxHeartbeats 4000000 in
theorem v_J29_parentOf_12 {l : Launch} {G : Gx} (hst : l.stackTraces = false) {σ0 σe : Hp} {Se : Ms} {r : Nat} {σ : Hp} {t0 : Nat} (h : f_J29_parentOf_12 σ t0 = some (r, σe)) : VV_J29_parentOf l G σ0 (.inl (some (pR r))) σe Se 12 [] [pR t0] σ Se := by
  unfold f_J29_parentOf_12 at h
  cases h
  exact V_aret rfl (Or.inl ⟨_, rfl⟩) dJ29_parentOf_12
def f_J29_parentOf (σ : Hp) (a0 : Nat) : Option (Nat × Hp) :=
  if a0 = 0 then (f_J29_parentOf_12 σ 0) else (bd (rdR σ 16 a0 164) fun b2 => f_J29_parentOf_12 σ b2)
set_option maxHeartbeats 4000000 in
theorem v_J29_parentOf (l : Launch) (G : Gx) (hst : l.stackTraces = false) (S : Ms) {σ σe : Hp} {a0 : Nat} {r : Nat} (h : f_J29_parentOf σ a0 = some (r, σe)) : MT l G yJ29_parentOf (ws_ yJ29_parentOf cJ29_parentOf 1 (some (.object "java/util/TreeMap$Entry"))) 1 30 [pR a0] σ S (.inl (some (pR r))) σe S := by
  refine MT_of (own := RJ29) (nL := 1) (ini := false) (by decide +kernel) rfl (Nat.le_of_ble_eq_true rfl) (fun h => by cases h) hst ?_
  show VV_J29_parentOf l G σ (.inl (some (pR r))) σe S 0 [(0, pR a0)] [] σ S
  unfold f_J29_parentOf at h
  refine V_aload_n (i := 0) 0 dJ29_parentOf_0 rfl rfl ?_
  refine V_ifnonnull 8 dJ29_parentOf_1 (by decide) (fun c1 => ?_) (fun c1 => ?_)
  · replace h := it_f c1 h
    refine V_aload_n (i := 0) 0 dJ29_parentOf_8 rfl rfl ?_
    obtain ⟨b2, e3, h⟩ := bd_s h
    refine V_rdR gf_J29_124 rfl rfl rfl e3 dJ29_parentOf_9 ?_
    refine V_sub [] rfl ?_
    exact v_J29_parentOf_12 hst h
  · replace h := it_t c1 h
    refine V_null dJ29_parentOf_4 ?_
    refine V_goto 12 dJ29_parentOf_5 (by decide) ?_
    refine V_sub [] rfl ?_
    exact v_J29_parentOf_12 hst h

abbrev VV_J29_leftOf (l : Launch) (G : Gx) (σ0 : Hp) (o : Oc) (σe : Hp) (Se : Ms) := V l G RJ29 cJ29_leftOf 1 (some (.object "java/util/TreeMap$Entry")) [] false 1 30 σ0 o σe Se
def f_J29_leftOf_12 (σ : Hp) (t0 : Nat) : Option (Nat × Hp) :=
  some (t0, σ)
set_option maxHeartbeats 4000000 in
theorem v_J29_leftOf_12 {l : Launch} {G : Gx} (hst : l.stackTraces = false) {σ0 σe : Hp} {Se : Ms} {r : Nat} {σ : Hp} {t0 : Nat} (h : f_J29_leftOf_12 σ t0 = some (r, σe)) : VV_J29_leftOf l G σ0 (.inl (some (pR r))) σe Se 12 [] [pR t0] σ Se := by
  unfold f_J29_leftOf_12 at h
  cases h
  exact V_aret rfl (Or.inl ⟨_, rfl⟩) dJ29_leftOf_12
def f_J29_leftOf (σ : Hp) (a0 : Nat) : Option (Nat × Hp) :=
  if a0 = 0 then (f_J29_leftOf_12 σ 0) else (bd (rdR σ 16 a0 162) fun b2 => f_J29_leftOf_12 σ b2)
set_option maxHeartbeats 4000000 in
theorem v_J29_leftOf (l : Launch) (G : Gx) (hst : l.stackTraces = false) (S : Ms) {σ σe : Hp} {a0 : Nat} {r : Nat} (h : f_J29_leftOf σ a0 = some (r, σe)) : MT l G yJ29_leftOf (ws_ yJ29_leftOf cJ29_leftOf 1 (some (.object "java/util/TreeMap$Entry"))) 1 30 [pR a0] σ S (.inl (some (pR r))) σe S := by
  refine MT_of (own := RJ29) (nL := 1) (ini := false) (by decide +kernel) rfl (Nat.le_of_ble_eq_true rfl) (fun h => by cases h) hst ?_
  show VV_J29_leftOf l G σ (.inl (some (pR r))) σe S 0 [(0, pR a0)] [] σ S
  unfold f_J29_leftOf at h
  refine V_aload_n (i := 0) 0 dJ29_leftOf_0 rfl rfl ?_
  refine V_ifnonnull 8 dJ29_leftOf_1 (by decide) (fun c1 => ?_) (fun c1 => ?_)
  · replace h := it_f c1 h
    refine V_aload_n (i := 0) 0 dJ29_leftOf_8 rfl rfl ?_
    obtain ⟨b2, e3, h⟩ := bd_s h
    refine V_rdR gf_J29_111 rfl rfl rfl e3 dJ29_leftOf_9 ?_
    refine V_sub [] rfl ?_
    exact v_J29_leftOf_12 hst h
  · replace h := it_t c1 h
    refine V_null dJ29_leftOf_4 ?_
    refine V_goto 12 dJ29_leftOf_5 (by decide) ?_
    refine V_sub [] rfl ?_
    exact v_J29_leftOf_12 hst h

abbrev VV_J29_rightOf (l : Launch) (G : Gx) (σ0 : Hp) (o : Oc) (σe : Hp) (Se : Ms) := V l G RJ29 cJ29_rightOf 1 (some (.object "java/util/TreeMap$Entry")) [] false 1 30 σ0 o σe Se
def f_J29_rightOf_12 (σ : Hp) (t0 : Nat) : Option (Nat × Hp) :=
  some (t0, σ)
set_option maxHeartbeats 4000000 in
theorem v_J29_rightOf_12 {l : Launch} {G : Gx} (hst : l.stackTraces = false) {σ0 σe : Hp} {Se : Ms} {r : Nat} {σ : Hp} {t0 : Nat} (h : f_J29_rightOf_12 σ t0 = some (r, σe)) : VV_J29_rightOf l G σ0 (.inl (some (pR r))) σe Se 12 [] [pR t0] σ Se := by
  unfold f_J29_rightOf_12 at h
  cases h
  exact V_aret rfl (Or.inl ⟨_, rfl⟩) dJ29_rightOf_12
def f_J29_rightOf (σ : Hp) (a0 : Nat) : Option (Nat × Hp) :=
  if a0 = 0 then (f_J29_rightOf_12 σ 0) else (bd (rdR σ 16 a0 163) fun b2 => f_J29_rightOf_12 σ b2)
set_option maxHeartbeats 4000000 in
theorem v_J29_rightOf (l : Launch) (G : Gx) (hst : l.stackTraces = false) (S : Ms) {σ σe : Hp} {a0 : Nat} {r : Nat} (h : f_J29_rightOf σ a0 = some (r, σe)) : MT l G yJ29_rightOf (ws_ yJ29_rightOf cJ29_rightOf 1 (some (.object "java/util/TreeMap$Entry"))) 1 30 [pR a0] σ S (.inl (some (pR r))) σe S := by
  refine MT_of (own := RJ29) (nL := 1) (ini := false) (by decide +kernel) rfl (Nat.le_of_ble_eq_true rfl) (fun h => by cases h) hst ?_
  show VV_J29_rightOf l G σ (.inl (some (pR r))) σe S 0 [(0, pR a0)] [] σ S
  unfold f_J29_rightOf at h
  refine V_aload_n (i := 0) 0 dJ29_rightOf_0 rfl rfl ?_
  refine V_ifnonnull 8 dJ29_rightOf_1 (by decide) (fun c1 => ?_) (fun c1 => ?_)
  · replace h := it_f c1 h
    refine V_aload_n (i := 0) 0 dJ29_rightOf_8 rfl rfl ?_
    obtain ⟨b2, e3, h⟩ := bd_s h
    refine V_rdR gf_J29_114 rfl rfl rfl e3 dJ29_rightOf_9 ?_
    refine V_sub [] rfl ?_
    exact v_J29_rightOf_12 hst h
  · replace h := it_t c1 h
    refine V_null dJ29_rightOf_4 ?_
    refine V_goto 12 dJ29_rightOf_5 (by decide) ?_
    refine V_sub [] rfl ?_
    exact v_J29_rightOf_12 hst h

abbrev VV_J29_colorOf (l : Launch) (G : Gx) (σ0 : Hp) (o : Oc) (σe : Hp) (Se : Ms) := V l G RJ29 cJ29_colorOf 1 (some .boolean) [] false 1 30 σ0 o σe Se
def f_J29_colorOf_12 (σ : Hp) (s0 : Int32) : Option (Int32 × Hp) :=
  bd (okZ s0) fun e1 => some (s0, σ)
set_option maxHeartbeats 4000000 in
theorem v_J29_colorOf_12 {l : Launch} {G : Gx} (hst : l.stackTraces = false) {σ0 σe : Hp} {Se : Ms} {r : Int32} {σ : Hp} {s0 : Int32} (h : f_J29_colorOf_12 σ s0 = some (r, σe)) : VV_J29_colorOf l G σ0 (.inl (some (pI r))) σe Se 12 [] [pI s0] σ Se := by
  unfold f_J29_colorOf_12 at h
  obtain ⟨e1, e2, h⟩ := bd_s h
  cases h
  exact V_retZ e2 rfl dJ29_colorOf_12
def f_J29_colorOf (σ : Hp) (a0 : Nat) : Option (Int32 × Hp) :=
  if a0 = 0 then (f_J29_colorOf_12 σ (1 : Int32)) else (bd (rdI σ 16 a0 165) fun y2 => f_J29_colorOf_12 σ y2)
set_option maxHeartbeats 4000000 in
theorem v_J29_colorOf (l : Launch) (G : Gx) (hst : l.stackTraces = false) (S : Ms) {σ σe : Hp} {a0 : Nat} {r : Int32} (h : f_J29_colorOf σ a0 = some (r, σe)) : MT l G yJ29_colorOf (ws_ yJ29_colorOf cJ29_colorOf 1 (some .boolean)) 1 30 [pR a0] σ S (.inl (some (pI r))) σe S := by
  refine MT_of (own := RJ29) (nL := 1) (ini := false) (by decide +kernel) rfl (Nat.le_of_ble_eq_true rfl) (fun h => by cases h) hst ?_
  show VV_J29_colorOf l G σ (.inl (some (pI r))) σe S 0 [(0, pR a0)] [] σ S
  unfold f_J29_colorOf at h
  refine V_aload_n (i := 0) 0 dJ29_colorOf_0 rfl rfl ?_
  refine V_ifnonnull 8 dJ29_colorOf_1 (by decide) (fun c1 => ?_) (fun c1 => ?_)
  · replace h := it_f c1 h
    refine V_aload_n (i := 0) 0 dJ29_colorOf_8 rfl rfl ?_
    obtain ⟨y2, e3, h⟩ := bd_s h
    refine V_rdI gf_J29_290 rfl rfl rfl e3 dJ29_colorOf_9 ?_
    refine V_sub [] rfl ?_
    exact v_J29_colorOf_12 hst h
  · replace h := it_t c1 h
    refine V_iconst (v := 1) dJ29_colorOf_4 (by decide) ?_
    refine V_goto 12 dJ29_colorOf_5 (by decide) ?_
    refine V_sub [] rfl ?_
    exact v_J29_colorOf_12 hst h

abbrev VV_J29_setColor (l : Launch) (G : Gx) (σ0 : Hp) (o : Oc) (σe : Hp) (Se : Ms) := V l G RJ29 cJ29_setColor 2 none [] false 1 30 σ0 o σe Se
def f_J29_setColor_9 (σ : Hp) : Option (Unit × Hp) :=
  some ((), σ)
set_option maxHeartbeats 4000000 in
theorem v_J29_setColor_9 {l : Launch} {G : Gx} (hst : l.stackTraces = false) {σ0 σe : Hp} {Se : Ms} {r : Unit} {σ : Hp} (h : f_J29_setColor_9 σ  = some (r, σe)) : VV_J29_setColor l G σ0 (.inl none) σe Se 9 [] [] σ Se := by
  unfold f_J29_setColor_9 at h
  cases h
  exact V_vret rfl dJ29_setColor_9
def f_J29_setColor (σ : Hp) (a0 : Nat) (x1 : Int32) : Option (Unit × Hp) :=
  if a0 = 0 then (f_J29_setColor_9 σ ) else (bd (wrZ σ 16 a0 165 x1) fun σ2 => f_J29_setColor_9 σ2 )
set_option maxHeartbeats 4000000 in
theorem v_J29_setColor (l : Launch) (G : Gx) (hst : l.stackTraces = false) (S : Ms) {σ σe : Hp} {a0 : Nat} {x1 : Int32} {r : Unit} (h : f_J29_setColor σ a0 x1 = some (r, σe)) : MT l G yJ29_setColor (ws_ yJ29_setColor cJ29_setColor 2 none) 1 30 [pR a0, pI x1] σ S (.inl none) σe S := by
  refine MT_of (own := RJ29) (nL := 2) (ini := false) (by decide +kernel) rfl (Nat.le_of_ble_eq_true rfl) (fun h => by cases h) hst ?_
  show VV_J29_setColor l G σ (.inl none) σe S 0 [(0, pR a0), (1, pI x1)] [] σ S
  unfold f_J29_setColor at h
  refine V_aload_n (i := 0) 0 dJ29_setColor_0 rfl rfl ?_
  refine V_ifnull 9 dJ29_setColor_1 (by decide) (fun c1 => ?_) (fun c1 => ?_)
  · replace h := it_t c1 h
    refine V_sub [] rfl ?_
    exact v_J29_setColor_9 hst h
  · replace h := it_f c1 h
    refine V_aload_n (i := 0) 0 dJ29_setColor_4 rfl rfl ?_
    refine V_iload_n (i := 1) 1 dJ29_setColor_5 rfl rfl ?_
    obtain ⟨σ2, e3, h⟩ := bd_s h
    refine V_wrZ gw_J29_290 rfl rfl rfl e3 dJ29_setColor_6 ?_
    refine V_sub [] rfl ?_
    exact v_J29_setColor_9 hst h

abbrev VV_J29_rotateLeft (l : Launch) (G : Gx) (σ0 : Hp) (o : Oc) (σe : Hp) (Se : Ms) := V l G RJ29 cJ29_rotateLeft 3 none [] false 1 30 σ0 o σe Se
def f_J29_rotateLeft_95 (σ : Hp) : Option (Unit × Hp) :=
  some ((), σ)
set_option maxHeartbeats 4000000 in
theorem v_J29_rotateLeft_95 {l : Launch} {G : Gx} (hst : l.stackTraces = false) {σ0 σe : Hp} {Se : Ms} {r : Unit} {σ : Hp} (h : f_J29_rotateLeft_95 σ  = some (r, σe)) : VV_J29_rotateLeft l G σ0 (.inl none) σe Se 95 [] [] σ Se := by
  unfold f_J29_rotateLeft_95 at h
  cases h
  exact V_vret rfl dJ29_rotateLeft_95
def f_J29_rotateLeft_85 (σ : Hp) (a2 : Nat) (a1 : Nat) : Option (Unit × Hp) :=
  bd (wrR σ 16 a2 162 a1) fun σ1 => bd (wrR σ1 16 a1 164 a2) fun σ3 => f_J29_rotateLeft_95 σ3 
set_option maxHeartbeats 4000000 in
theorem v_J29_rotateLeft_85 {l : Launch} {G : Gx} (hst : l.stackTraces = false) {σ0 σe : Hp} {Se : Ms} {r : Unit} {σ : Hp} {a2 : Nat} {a1 : Nat} (h : f_J29_rotateLeft_85 σ a2 a1 = some (r, σe)) : VV_J29_rotateLeft l G σ0 (.inl none) σe Se 85 [(2, pR a2), (1, pR a1)] [] σ Se := by
  unfold f_J29_rotateLeft_85 at h
  refine V_aload_n (i := 2) 0 dJ29_rotateLeft_85 rfl rfl ?_
  refine V_aload_n (i := 1) 1 dJ29_rotateLeft_86 rfl rfl ?_
  obtain ⟨σ1, e2, h⟩ := bd_s h
  refine V_wrR gw_J29_111 (okF_obj _ rfl) rfl rfl e2 dJ29_rotateLeft_87 ?_
  refine V_aload_n (i := 1) 1 dJ29_rotateLeft_90 rfl rfl ?_
  refine V_aload_n (i := 2) 0 dJ29_rotateLeft_91 rfl rfl ?_
  obtain ⟨σ3, e4, h⟩ := bd_s h
  refine V_wrR gw_J29_124 (okF_obj _ rfl) rfl rfl e4 dJ29_rotateLeft_92 ?_
  refine V_sub [] rfl ?_
  exact v_J29_rotateLeft_95 hst h
def f_J29_rotateLeft_32 (σ : Hp) (a2 : Nat) (a0 : Nat) (a1 : Nat) : Option (Unit × Hp) :=
  bd (rdR σ 16 a1 164) fun b1 => bd (wrR σ 16 a2 164 b1) fun σ3 => bd (rdR σ3 16 a1 164) fun b5 => if b5 = 0 then (bd (wrR σ3 15 a0 153 a2) fun σ21 => f_J29_rotateLeft_85 σ21 a2 a1) else (bd (rdR σ3 16 a1 164) fun b8 => bd (rdR σ3 16 b8 162) fun b10 => if b10 = a1 then (bd (rdR σ3 16 a1 164) fun b17 => bd (wrR σ3 16 b17 162 a2) fun σ19 => f_J29_rotateLeft_85 σ19 a2 a1) else (bd (rdR σ3 16 a1 164) fun b13 => bd (wrR σ3 16 b13 163 a2) fun σ15 => f_J29_rotateLeft_85 σ15 a2 a1))
set_option maxHeartbeats 4000000 in
theorem v_J29_rotateLeft_32 {l : Launch} {G : Gx} (hst : l.stackTraces = false) {σ0 σe : Hp} {Se : Ms} {r : Unit} {σ : Hp} {a2 : Nat} {a0 : Nat} {a1 : Nat} (h : f_J29_rotateLeft_32 σ a2 a0 a1 = some (r, σe)) : VV_J29_rotateLeft l G σ0 (.inl none) σe Se 32 [(2, pR a2), (0, pR a0), (1, pR a1)] [] σ Se := by
  unfold f_J29_rotateLeft_32 at h
  refine V_aload_n (i := 2) 0 dJ29_rotateLeft_32 rfl rfl ?_
  refine V_aload_n (i := 1) 2 dJ29_rotateLeft_33 rfl rfl ?_
  obtain ⟨b1, e2, h⟩ := bd_s h
  refine V_rdR gf_J29_124 rfl rfl rfl e2 dJ29_rotateLeft_34 ?_
  obtain ⟨σ3, e4, h⟩ := bd_s h
  refine V_wrR gw_J29_124 (okF_obj _ rfl) rfl rfl e4 dJ29_rotateLeft_37 ?_
  refine V_aload_n (i := 1) 2 dJ29_rotateLeft_40 rfl rfl ?_
  obtain ⟨b5, e6, h⟩ := bd_s h
  refine V_rdR gf_J29_124 rfl rfl rfl e6 dJ29_rotateLeft_41 ?_
  refine V_ifnonnull 55 dJ29_rotateLeft_44 (by decide) (fun c7 => ?_) (fun c7 => ?_)
  · replace h := it_f c7 h
    refine V_aload_n (i := 1) 2 dJ29_rotateLeft_55 rfl rfl ?_
    obtain ⟨b8, e9, h⟩ := bd_s h
    refine V_rdR gf_J29_124 rfl rfl rfl e9 dJ29_rotateLeft_56 ?_
    obtain ⟨b10, e11, h⟩ := bd_s h
    refine V_rdR gf_J29_111 rfl rfl rfl e11 dJ29_rotateLeft_59 ?_
    refine V_aload_n (i := 1) 2 dJ29_rotateLeft_62 rfl rfl ?_
    refine V_acmp_ne 77 dJ29_rotateLeft_63 (by decide) (fun c12 => ?_) (fun c12 => ?_)
    · replace h := it_f c12 h
      refine V_aload_n (i := 1) 2 dJ29_rotateLeft_77 rfl rfl ?_
      obtain ⟨b13, e14, h⟩ := bd_s h
      refine V_rdR gf_J29_124 rfl rfl rfl e14 dJ29_rotateLeft_78 ?_
      refine V_aload_n (i := 2) 0 dJ29_rotateLeft_81 rfl rfl ?_
      obtain ⟨σ15, e16, h⟩ := bd_s h
      refine V_wrR gw_J29_114 (okF_obj _ rfl) rfl rfl e16 dJ29_rotateLeft_82 ?_
      refine V_sub [0, 2] rfl ?_
      exact v_J29_rotateLeft_85 hst h
    · replace h := it_t c12 h
      refine V_aload_n (i := 1) 2 dJ29_rotateLeft_66 rfl rfl ?_
      obtain ⟨b17, e18, h⟩ := bd_s h
      refine V_rdR gf_J29_124 rfl rfl rfl e18 dJ29_rotateLeft_67 ?_
      refine V_aload_n (i := 2) 0 dJ29_rotateLeft_70 rfl rfl ?_
      obtain ⟨σ19, e20, h⟩ := bd_s h
      refine V_wrR gw_J29_111 (okF_obj _ rfl) rfl rfl e20 dJ29_rotateLeft_71 ?_
      refine V_goto 85 dJ29_rotateLeft_74 (by decide) ?_
      refine V_sub [0, 2] rfl ?_
      exact v_J29_rotateLeft_85 hst h
  · replace h := it_t c7 h
    refine V_aload_n (i := 0) 1 dJ29_rotateLeft_47 rfl rfl ?_
    refine V_aload_n (i := 2) 0 dJ29_rotateLeft_48 rfl rfl ?_
    obtain ⟨σ21, e22, h⟩ := bd_s h
    refine V_wrR gw_J29_101 (okF_obj _ rfl) rfl rfl e22 dJ29_rotateLeft_49 ?_
    refine V_goto 85 dJ29_rotateLeft_52 (by decide) ?_
    refine V_sub [0, 2] rfl ?_
    exact v_J29_rotateLeft_85 hst h
def f_J29_rotateLeft (σ : Hp) (a0 : Nat) (a1 : Nat) : Option (Unit × Hp) :=
  if a1 = 0 then (f_J29_rotateLeft_95 σ ) else (bd (rdR σ 16 a1 163) fun b2 => bd (rdR σ 16 b2 162) fun b4 => bd (wrR σ 16 a1 163 b4) fun σ6 => bd (rdR σ6 16 b2 162) fun b8 => if b8 = 0 then (f_J29_rotateLeft_32 σ6 b2 a0 a1) else (bd (rdR σ6 16 b2 162) fun b11 => bd (wrR σ6 16 b11 164 a1) fun σ13 => f_J29_rotateLeft_32 σ13 b2 a0 a1))
set_option maxHeartbeats 4000000 in
theorem v_J29_rotateLeft (l : Launch) (G : Gx) (hst : l.stackTraces = false) (S : Ms) {σ σe : Hp} {a0 : Nat} {a1 : Nat} {r : Unit} (h : f_J29_rotateLeft σ a0 a1 = some (r, σe)) : MT l G yJ29_rotateLeft (ws_ yJ29_rotateLeft cJ29_rotateLeft 3 none) 1 30 [pR a0, pR a1] σ S (.inl none) σe S := by
  refine MT_of (own := RJ29) (nL := 3) (ini := false) (by decide +kernel) rfl (Nat.le_of_ble_eq_true rfl) (fun h => by cases h) hst ?_
  show VV_J29_rotateLeft l G σ (.inl none) σe S 0 [(0, pR a0), (1, pR a1)] [] σ S
  unfold f_J29_rotateLeft at h
  refine V_aload_n (i := 1) 1 dJ29_rotateLeft_0 rfl rfl ?_
  refine V_ifnull 95 dJ29_rotateLeft_1 (by decide) (fun c1 => ?_) (fun c1 => ?_)
  · replace h := it_t c1 h
    refine V_sub [] rfl ?_
    exact v_J29_rotateLeft_95 hst h
  · replace h := it_f c1 h
    refine V_aload_n (i := 1) 1 dJ29_rotateLeft_4 rfl rfl ?_
    obtain ⟨b2, e3, h⟩ := bd_s h
    refine V_rdR gf_J29_114 rfl rfl rfl e3 dJ29_rotateLeft_5 ?_
    refine V_astore_n (i := 2) (L' := [(2, pR b2), (0, pR a0), (1, pR a1)]) dJ29_rotateLeft_8 rfl (by decide) rfl ?_
    refine V_aload_n (i := 1) 2 dJ29_rotateLeft_9 rfl rfl ?_
    refine V_aload_n (i := 2) 0 dJ29_rotateLeft_10 rfl rfl ?_
    obtain ⟨b4, e5, h⟩ := bd_s h
    refine V_rdR gf_J29_111 rfl rfl rfl e5 dJ29_rotateLeft_11 ?_
    obtain ⟨σ6, e7, h⟩ := bd_s h
    refine V_wrR gw_J29_114 (okF_obj _ rfl) rfl rfl e7 dJ29_rotateLeft_14 ?_
    refine V_aload_n (i := 2) 0 dJ29_rotateLeft_17 rfl rfl ?_
    obtain ⟨b8, e9, h⟩ := bd_s h
    refine V_rdR gf_J29_111 rfl rfl rfl e9 dJ29_rotateLeft_18 ?_
    refine V_ifnull 32 dJ29_rotateLeft_21 (by decide) (fun c10 => ?_) (fun c10 => ?_)
    · replace h := it_t c10 h
      refine V_sub [0, 1, 2] rfl ?_
      exact v_J29_rotateLeft_32 hst h
    · replace h := it_f c10 h
      refine V_aload_n (i := 2) 0 dJ29_rotateLeft_24 rfl rfl ?_
      obtain ⟨b11, e12, h⟩ := bd_s h
      refine V_rdR gf_J29_111 rfl rfl rfl e12 dJ29_rotateLeft_25 ?_
      refine V_aload_n (i := 1) 2 dJ29_rotateLeft_28 rfl rfl ?_
      obtain ⟨σ13, e14, h⟩ := bd_s h
      refine V_wrR gw_J29_124 (okF_obj _ rfl) rfl rfl e14 dJ29_rotateLeft_29 ?_
      refine V_sub [0, 1, 2] rfl ?_
      exact v_J29_rotateLeft_32 hst h

abbrev VV_J29_rotateRight (l : Launch) (G : Gx) (σ0 : Hp) (o : Oc) (σe : Hp) (Se : Ms) := V l G RJ29 cJ29_rotateRight 3 none [] false 1 30 σ0 o σe Se
def f_J29_rotateRight_95 (σ : Hp) : Option (Unit × Hp) :=
  some ((), σ)
set_option maxHeartbeats 4000000 in
theorem v_J29_rotateRight_95 {l : Launch} {G : Gx} (hst : l.stackTraces = false) {σ0 σe : Hp} {Se : Ms} {r : Unit} {σ : Hp} (h : f_J29_rotateRight_95 σ  = some (r, σe)) : VV_J29_rotateRight l G σ0 (.inl none) σe Se 95 [] [] σ Se := by
  unfold f_J29_rotateRight_95 at h
  cases h
  exact V_vret rfl dJ29_rotateRight_95
def f_J29_rotateRight_85 (σ : Hp) (a2 : Nat) (a1 : Nat) : Option (Unit × Hp) :=
  bd (wrR σ 16 a2 163 a1) fun σ1 => bd (wrR σ1 16 a1 164 a2) fun σ3 => f_J29_rotateRight_95 σ3 
set_option maxHeartbeats 4000000 in
theorem v_J29_rotateRight_85 {l : Launch} {G : Gx} (hst : l.stackTraces = false) {σ0 σe : Hp} {Se : Ms} {r : Unit} {σ : Hp} {a2 : Nat} {a1 : Nat} (h : f_J29_rotateRight_85 σ a2 a1 = some (r, σe)) : VV_J29_rotateRight l G σ0 (.inl none) σe Se 85 [(2, pR a2), (1, pR a1)] [] σ Se := by
  unfold f_J29_rotateRight_85 at h
  refine V_aload_n (i := 2) 0 dJ29_rotateRight_85 rfl rfl ?_
  refine V_aload_n (i := 1) 1 dJ29_rotateRight_86 rfl rfl ?_
  obtain ⟨σ1, e2, h⟩ := bd_s h
  refine V_wrR gw_J29_114 (okF_obj _ rfl) rfl rfl e2 dJ29_rotateRight_87 ?_
  refine V_aload_n (i := 1) 1 dJ29_rotateRight_90 rfl rfl ?_
  refine V_aload_n (i := 2) 0 dJ29_rotateRight_91 rfl rfl ?_
  obtain ⟨σ3, e4, h⟩ := bd_s h
  refine V_wrR gw_J29_124 (okF_obj _ rfl) rfl rfl e4 dJ29_rotateRight_92 ?_
  refine V_sub [] rfl ?_
  exact v_J29_rotateRight_95 hst h
def f_J29_rotateRight_32 (σ : Hp) (a2 : Nat) (a0 : Nat) (a1 : Nat) : Option (Unit × Hp) :=
  bd (rdR σ 16 a1 164) fun b1 => bd (wrR σ 16 a2 164 b1) fun σ3 => bd (rdR σ3 16 a1 164) fun b5 => if b5 = 0 then (bd (wrR σ3 15 a0 153 a2) fun σ21 => f_J29_rotateRight_85 σ21 a2 a1) else (bd (rdR σ3 16 a1 164) fun b8 => bd (rdR σ3 16 b8 163) fun b10 => if b10 = a1 then (bd (rdR σ3 16 a1 164) fun b17 => bd (wrR σ3 16 b17 163 a2) fun σ19 => f_J29_rotateRight_85 σ19 a2 a1) else (bd (rdR σ3 16 a1 164) fun b13 => bd (wrR σ3 16 b13 162 a2) fun σ15 => f_J29_rotateRight_85 σ15 a2 a1))
set_option maxHeartbeats 4000000 in
theorem v_J29_rotateRight_32 {l : Launch} {G : Gx} (hst : l.stackTraces = false) {σ0 σe : Hp} {Se : Ms} {r : Unit} {σ : Hp} {a2 : Nat} {a0 : Nat} {a1 : Nat} (h : f_J29_rotateRight_32 σ a2 a0 a1 = some (r, σe)) : VV_J29_rotateRight l G σ0 (.inl none) σe Se 32 [(2, pR a2), (0, pR a0), (1, pR a1)] [] σ Se := by
  unfold f_J29_rotateRight_32 at h
  refine V_aload_n (i := 2) 0 dJ29_rotateRight_32 rfl rfl ?_
  refine V_aload_n (i := 1) 2 dJ29_rotateRight_33 rfl rfl ?_
  obtain ⟨b1, e2, h⟩ := bd_s h
  refine V_rdR gf_J29_124 rfl rfl rfl e2 dJ29_rotateRight_34 ?_
  obtain ⟨σ3, e4, h⟩ := bd_s h
  refine V_wrR gw_J29_124 (okF_obj _ rfl) rfl rfl e4 dJ29_rotateRight_37 ?_
  refine V_aload_n (i := 1) 2 dJ29_rotateRight_40 rfl rfl ?_
  obtain ⟨b5, e6, h⟩ := bd_s h
  refine V_rdR gf_J29_124 rfl rfl rfl e6 dJ29_rotateRight_41 ?_
  refine V_ifnonnull 55 dJ29_rotateRight_44 (by decide) (fun c7 => ?_) (fun c7 => ?_)
  · replace h := it_f c7 h
    refine V_aload_n (i := 1) 2 dJ29_rotateRight_55 rfl rfl ?_
    obtain ⟨b8, e9, h⟩ := bd_s h
    refine V_rdR gf_J29_124 rfl rfl rfl e9 dJ29_rotateRight_56 ?_
    obtain ⟨b10, e11, h⟩ := bd_s h
    refine V_rdR gf_J29_114 rfl rfl rfl e11 dJ29_rotateRight_59 ?_
    refine V_aload_n (i := 1) 2 dJ29_rotateRight_62 rfl rfl ?_
    refine V_acmp_ne 77 dJ29_rotateRight_63 (by decide) (fun c12 => ?_) (fun c12 => ?_)
    · replace h := it_f c12 h
      refine V_aload_n (i := 1) 2 dJ29_rotateRight_77 rfl rfl ?_
      obtain ⟨b13, e14, h⟩ := bd_s h
      refine V_rdR gf_J29_124 rfl rfl rfl e14 dJ29_rotateRight_78 ?_
      refine V_aload_n (i := 2) 0 dJ29_rotateRight_81 rfl rfl ?_
      obtain ⟨σ15, e16, h⟩ := bd_s h
      refine V_wrR gw_J29_111 (okF_obj _ rfl) rfl rfl e16 dJ29_rotateRight_82 ?_
      refine V_sub [0, 2] rfl ?_
      exact v_J29_rotateRight_85 hst h
    · replace h := it_t c12 h
      refine V_aload_n (i := 1) 2 dJ29_rotateRight_66 rfl rfl ?_
      obtain ⟨b17, e18, h⟩ := bd_s h
      refine V_rdR gf_J29_124 rfl rfl rfl e18 dJ29_rotateRight_67 ?_
      refine V_aload_n (i := 2) 0 dJ29_rotateRight_70 rfl rfl ?_
      obtain ⟨σ19, e20, h⟩ := bd_s h
      refine V_wrR gw_J29_114 (okF_obj _ rfl) rfl rfl e20 dJ29_rotateRight_71 ?_
      refine V_goto 85 dJ29_rotateRight_74 (by decide) ?_
      refine V_sub [0, 2] rfl ?_
      exact v_J29_rotateRight_85 hst h
  · replace h := it_t c7 h
    refine V_aload_n (i := 0) 1 dJ29_rotateRight_47 rfl rfl ?_
    refine V_aload_n (i := 2) 0 dJ29_rotateRight_48 rfl rfl ?_
    obtain ⟨σ21, e22, h⟩ := bd_s h
    refine V_wrR gw_J29_101 (okF_obj _ rfl) rfl rfl e22 dJ29_rotateRight_49 ?_
    refine V_goto 85 dJ29_rotateRight_52 (by decide) ?_
    refine V_sub [0, 2] rfl ?_
    exact v_J29_rotateRight_85 hst h
def f_J29_rotateRight (σ : Hp) (a0 : Nat) (a1 : Nat) : Option (Unit × Hp) :=
  if a1 = 0 then (f_J29_rotateRight_95 σ ) else (bd (rdR σ 16 a1 162) fun b2 => bd (rdR σ 16 b2 163) fun b4 => bd (wrR σ 16 a1 162 b4) fun σ6 => bd (rdR σ6 16 b2 163) fun b8 => if b8 = 0 then (f_J29_rotateRight_32 σ6 b2 a0 a1) else (bd (rdR σ6 16 b2 163) fun b11 => bd (wrR σ6 16 b11 164 a1) fun σ13 => f_J29_rotateRight_32 σ13 b2 a0 a1))
set_option maxHeartbeats 4000000 in
theorem v_J29_rotateRight (l : Launch) (G : Gx) (hst : l.stackTraces = false) (S : Ms) {σ σe : Hp} {a0 : Nat} {a1 : Nat} {r : Unit} (h : f_J29_rotateRight σ a0 a1 = some (r, σe)) : MT l G yJ29_rotateRight (ws_ yJ29_rotateRight cJ29_rotateRight 3 none) 1 30 [pR a0, pR a1] σ S (.inl none) σe S := by
  refine MT_of (own := RJ29) (nL := 3) (ini := false) (by decide +kernel) rfl (Nat.le_of_ble_eq_true rfl) (fun h => by cases h) hst ?_
  show VV_J29_rotateRight l G σ (.inl none) σe S 0 [(0, pR a0), (1, pR a1)] [] σ S
  unfold f_J29_rotateRight at h
  refine V_aload_n (i := 1) 1 dJ29_rotateRight_0 rfl rfl ?_
  refine V_ifnull 95 dJ29_rotateRight_1 (by decide) (fun c1 => ?_) (fun c1 => ?_)
  · replace h := it_t c1 h
    refine V_sub [] rfl ?_
    exact v_J29_rotateRight_95 hst h
  · replace h := it_f c1 h
    refine V_aload_n (i := 1) 1 dJ29_rotateRight_4 rfl rfl ?_
    obtain ⟨b2, e3, h⟩ := bd_s h
    refine V_rdR gf_J29_111 rfl rfl rfl e3 dJ29_rotateRight_5 ?_
    refine V_astore_n (i := 2) (L' := [(2, pR b2), (0, pR a0), (1, pR a1)]) dJ29_rotateRight_8 rfl (by decide) rfl ?_
    refine V_aload_n (i := 1) 2 dJ29_rotateRight_9 rfl rfl ?_
    refine V_aload_n (i := 2) 0 dJ29_rotateRight_10 rfl rfl ?_
    obtain ⟨b4, e5, h⟩ := bd_s h
    refine V_rdR gf_J29_114 rfl rfl rfl e5 dJ29_rotateRight_11 ?_
    obtain ⟨σ6, e7, h⟩ := bd_s h
    refine V_wrR gw_J29_111 (okF_obj _ rfl) rfl rfl e7 dJ29_rotateRight_14 ?_
    refine V_aload_n (i := 2) 0 dJ29_rotateRight_17 rfl rfl ?_
    obtain ⟨b8, e9, h⟩ := bd_s h
    refine V_rdR gf_J29_114 rfl rfl rfl e9 dJ29_rotateRight_18 ?_
    refine V_ifnull 32 dJ29_rotateRight_21 (by decide) (fun c10 => ?_) (fun c10 => ?_)
    · replace h := it_t c10 h
      refine V_sub [0, 1, 2] rfl ?_
      exact v_J29_rotateRight_32 hst h
    · replace h := it_f c10 h
      refine V_aload_n (i := 2) 0 dJ29_rotateRight_24 rfl rfl ?_
      obtain ⟨b11, e12, h⟩ := bd_s h
      refine V_rdR gf_J29_114 rfl rfl rfl e12 dJ29_rotateRight_25 ?_
      refine V_aload_n (i := 1) 2 dJ29_rotateRight_28 rfl rfl ?_
      obtain ⟨σ13, e14, h⟩ := bd_s h
      refine V_wrR gw_J29_124 (okF_obj _ rfl) rfl rfl e14 dJ29_rotateRight_29 ?_
      refine V_sub [0, 1, 2] rfl ?_
      exact v_J29_rotateRight_32 hst h

abbrev VV_J29_fixAfterInsertion (l : Launch) (G : Gx) (σ0 : Hp) (o : Oc) (σe : Hp) (Se : Ms) := V l G RJ29 cJ29_fixAfterInsertion 3 none [] false 2 52 σ0 o σe Se
def f_J29_fixAfterInsertion_258 (σ : Hp) (a0 : Nat) : Option (Unit × Hp) :=
  bd (rdR σ 15 a0 153) fun b1 => bd (wrZ σ 16 b1 165 (1 : Int32)) fun σ3 => some ((), σ3)
set_option maxHeartbeats 4000000 in
theorem v_J29_fixAfterInsertion_258 {l : Launch} {G : Gx} (hst : l.stackTraces = false) {σ0 σe : Hp} {Se : Ms} {r : Unit} {σ : Hp} {a0 : Nat} (h : f_J29_fixAfterInsertion_258 σ a0 = some (r, σe)) : VV_J29_fixAfterInsertion l G σ0 (.inl none) σe Se 258 [(0, pR a0)] [] σ Se := by
  unfold f_J29_fixAfterInsertion_258 at h
  refine V_aload_n (i := 0) 0 dJ29_fixAfterInsertion_258 rfl rfl ?_
  obtain ⟨b1, e2, h⟩ := bd_s h
  refine V_rdR gf_J29_101 rfl rfl rfl e2 dJ29_fixAfterInsertion_259 ?_
  refine V_iconst (v := 1) dJ29_fixAfterInsertion_262 (by decide) ?_
  obtain ⟨σ3, e4, h⟩ := bd_s h
  refine V_wrZ gw_J29_290 rfl rfl rfl e4 dJ29_fixAfterInsertion_263 ?_
  cases h
  exact V_vret rfl dJ29_fixAfterInsertion_266
def f_J29_fixAfterInsertion_255 (k5 : Hp → Nat → Nat → Option (Unit × Hp)) (σ : Hp) (a0 : Nat) (a1 : Nat) : Option (Unit × Hp) :=
  k5 σ a0 a1
set_option maxHeartbeats 4000000 in
theorem v_J29_fixAfterInsertion_255 {l : Launch} {G : Gx} (hst : l.stackTraces = false) {σ0 σe : Hp} {Se : Ms} {r : Unit} {k5 : Hp → Nat → Nat → Option (Unit × Hp)} (hk5 : ∀ (σ : Hp) (a0 : Nat) (a1 : Nat), k5 σ a0 a1 = some (r, σe) → VV_J29_fixAfterInsertion l G σ0 (.inl none) σe Se 5 [(0, pR a0), (1, pR a1)] [] σ Se) {σ : Hp} {a0 : Nat} {a1 : Nat} (h : f_J29_fixAfterInsertion_255 k5 σ a0 a1 = some (r, σe)) : VV_J29_fixAfterInsertion l G σ0 (.inl none) σe Se 255 [(0, pR a0), (1, pR a1)] [] σ Se := by
  unfold f_J29_fixAfterInsertion_255 at h
  refine V_goto 5 dJ29_fixAfterInsertion_255 (by decide) ?_
  refine V_sub [0, 1] rfl ?_
  exact hk5 _ _ _ h
def f_J29_fixAfterInsertion_225 (k5 : Hp → Nat → Nat → Option (Unit × Hp)) (σ : Hp) (a0 : Nat) (a1 : Nat) : Option (Unit × Hp) :=
  bp (f_J29_parentOf σ a1) fun b1 σ2 => bp (f_J29_setColor σ2 b1 (1 : Int32)) fun e4 σ5 => bp (f_J29_parentOf σ5 a1) fun b7 σ8 => bp (f_J29_parentOf σ8 b7) fun b10 σ11 => bp (f_J29_setColor σ11 b10 (0 : Int32)) fun e13 σ14 => bp (f_J29_parentOf σ14 a1) fun b16 σ17 => bp (f_J29_parentOf σ17 b16) fun b19 σ20 => bd (gk σ20 15 a0) fun e22 => bp (f_J29_rotateLeft σ20 a0 b19) fun e24 σ25 => f_J29_fixAfterInsertion_255 k5 σ25 a0 a1
set_option maxHeartbeats 4000000 in
theorem v_J29_fixAfterInsertion_225 {l : Launch} {G : Gx} (hst : l.stackTraces = false) {σ0 σe : Hp} {Se : Ms} {r : Unit} {k5 : Hp → Nat → Nat → Option (Unit × Hp)} (hk5 : ∀ (σ : Hp) (a0 : Nat) (a1 : Nat), k5 σ a0 a1 = some (r, σe) → VV_J29_fixAfterInsertion l G σ0 (.inl none) σe Se 5 [(0, pR a0), (1, pR a1)] [] σ Se) {σ : Hp} {a0 : Nat} {a1 : Nat} (h : f_J29_fixAfterInsertion_225 k5 σ a0 a1 = some (r, σe)) : VV_J29_fixAfterInsertion l G σ0 (.inl none) σe Se 225 [(0, pR a0), (1, pR a1)] [] σ Se := by
  unfold f_J29_fixAfterInsertion_225 at h
  refine V_aload_n (i := 1) 1 dJ29_fixAfterInsertion_225 rfl rfl ?_
  obtain ⟨b1, σ2, e3, h⟩ := bp_s h
  refine V_callS_v (n9 := 1) [] (v_J29_parentOf l G hst _ e3) rfl rfl (lw_S q1818 q1819 q117 q1820) (by decide +kernel) (by decide) (Nat.le_of_ble_eq_true rfl) dJ29_fixAfterInsertion_226 ?_
  refine V_iconst (v := 1) dJ29_fixAfterInsertion_229 (by decide) ?_
  obtain ⟨e4, σ5, e6, h⟩ := bp_s h
  refine V_callS_0 (n9 := 2) [] (v_J29_setColor l G hst _ e6) rfl rfl (lw_S q1830 q1831 q117 q1832) (by decide +kernel) (by decide) (Nat.le_of_ble_eq_true rfl) dJ29_fixAfterInsertion_230 ?_
  refine V_aload_n (i := 1) 1 dJ29_fixAfterInsertion_233 rfl rfl ?_
  obtain ⟨b7, σ8, e9, h⟩ := bp_s h
  refine V_callS_v (n9 := 1) [] (v_J29_parentOf l G hst _ e9) rfl rfl (lw_S q1818 q1819 q117 q1820) (by decide +kernel) (by decide) (Nat.le_of_ble_eq_true rfl) dJ29_fixAfterInsertion_234 ?_
  obtain ⟨b10, σ11, e12, h⟩ := bp_s h
  refine V_callS_v (n9 := 1) [] (v_J29_parentOf l G hst _ e12) rfl rfl (lw_S q1818 q1819 q117 q1820) (by decide +kernel) (by decide) (Nat.le_of_ble_eq_true rfl) dJ29_fixAfterInsertion_237 ?_
  refine V_iconst (v := 0) dJ29_fixAfterInsertion_240 (by decide) ?_
  obtain ⟨e13, σ14, e15, h⟩ := bp_s h
  refine V_callS_0 (n9 := 2) [] (v_J29_setColor l G hst _ e15) rfl rfl (lw_S q1830 q1831 q117 q1832) (by decide +kernel) (by decide) (Nat.le_of_ble_eq_true rfl) dJ29_fixAfterInsertion_241 ?_
  refine V_aload_n (i := 0) 0 dJ29_fixAfterInsertion_244 rfl rfl ?_
  refine V_aload_n (i := 1) 1 dJ29_fixAfterInsertion_245 rfl rfl ?_
  obtain ⟨b16, σ17, e18, h⟩ := bp_s h
  refine V_callS_v (n9 := 1) [pR a0] (v_J29_parentOf l G hst _ e18) rfl rfl (lw_S q1818 q1819 q117 q1820) (by decide +kernel) (by decide) (Nat.le_of_ble_eq_true rfl) dJ29_fixAfterInsertion_246 ?_
  obtain ⟨b19, σ20, e21, h⟩ := bp_s h
  refine V_callS_v (n9 := 1) [pR a0] (v_J29_parentOf l G hst _ e21) rfl rfl (lw_S q1818 q1819 q117 q1820) (by decide +kernel) (by decide) (Nat.le_of_ble_eq_true rfl) dJ29_fixAfterInsertion_249 ?_
  obtain ⟨e22, e23, h⟩ := bd_s h
  obtain ⟨e24, σ25, e26, h⟩ := bp_s h
  refine V_callV_0 (n9 := 1) (c := 14) (r := (RJ29, TJ29, 9)) [] (v_J29_rotateLeft l G hst _ e26) rfl rfl (lw_V q1833 q1835 qs25 q117 q1836) (by decide +kernel) (by decide) (Nat.le_of_ble_eq_true rfl) (gk_k e23 rfl) rfl dJ29_fixAfterInsertion_252 ?_
  refine V_sub [0, 1] rfl ?_
  exact v_J29_fixAfterInsertion_255 hst hk5 h
def f_J29_fixAfterInsertion_148 (k5 : Hp → Nat → Nat → Option (Unit × Hp)) (σ : Hp) (a0 : Nat) (a1 : Nat) : Option (Unit × Hp) :=
  k5 σ a0 a1
set_option maxHeartbeats 4000000 in
theorem v_J29_fixAfterInsertion_148 {l : Launch} {G : Gx} (hst : l.stackTraces = false) {σ0 σe : Hp} {Se : Ms} {r : Unit} {k5 : Hp → Nat → Nat → Option (Unit × Hp)} (hk5 : ∀ (σ : Hp) (a0 : Nat) (a1 : Nat), k5 σ a0 a1 = some (r, σe) → VV_J29_fixAfterInsertion l G σ0 (.inl none) σe Se 5 [(0, pR a0), (1, pR a1)] [] σ Se) {σ : Hp} {a0 : Nat} {a1 : Nat} (h : f_J29_fixAfterInsertion_148 k5 σ a0 a1 = some (r, σe)) : VV_J29_fixAfterInsertion l G σ0 (.inl none) σe Se 148 [(0, pR a0), (1, pR a1)] [] σ Se := by
  unfold f_J29_fixAfterInsertion_148 at h
  refine V_goto 5 dJ29_fixAfterInsertion_148 (by decide) ?_
  refine V_sub [0, 1] rfl ?_
  exact hk5 _ _ _ h
def f_J29_fixAfterInsertion_118 (k5 : Hp → Nat → Nat → Option (Unit × Hp)) (σ : Hp) (a0 : Nat) (a1 : Nat) : Option (Unit × Hp) :=
  bp (f_J29_parentOf σ a1) fun b1 σ2 => bp (f_J29_setColor σ2 b1 (1 : Int32)) fun e4 σ5 => bp (f_J29_parentOf σ5 a1) fun b7 σ8 => bp (f_J29_parentOf σ8 b7) fun b10 σ11 => bp (f_J29_setColor σ11 b10 (0 : Int32)) fun e13 σ14 => bp (f_J29_parentOf σ14 a1) fun b16 σ17 => bp (f_J29_parentOf σ17 b16) fun b19 σ20 => bd (gk σ20 15 a0) fun e22 => bp (f_J29_rotateRight σ20 a0 b19) fun e24 σ25 => f_J29_fixAfterInsertion_148 k5 σ25 a0 a1
set_option maxHeartbeats 4000000 in
theorem v_J29_fixAfterInsertion_118 {l : Launch} {G : Gx} (hst : l.stackTraces = false) {σ0 σe : Hp} {Se : Ms} {r : Unit} {k5 : Hp → Nat → Nat → Option (Unit × Hp)} (hk5 : ∀ (σ : Hp) (a0 : Nat) (a1 : Nat), k5 σ a0 a1 = some (r, σe) → VV_J29_fixAfterInsertion l G σ0 (.inl none) σe Se 5 [(0, pR a0), (1, pR a1)] [] σ Se) {σ : Hp} {a0 : Nat} {a1 : Nat} (h : f_J29_fixAfterInsertion_118 k5 σ a0 a1 = some (r, σe)) : VV_J29_fixAfterInsertion l G σ0 (.inl none) σe Se 118 [(0, pR a0), (1, pR a1)] [] σ Se := by
  unfold f_J29_fixAfterInsertion_118 at h
  refine V_aload_n (i := 1) 1 dJ29_fixAfterInsertion_118 rfl rfl ?_
  obtain ⟨b1, σ2, e3, h⟩ := bp_s h
  refine V_callS_v (n9 := 1) [] (v_J29_parentOf l G hst _ e3) rfl rfl (lw_S q1818 q1819 q117 q1820) (by decide +kernel) (by decide) (Nat.le_of_ble_eq_true rfl) dJ29_fixAfterInsertion_119 ?_
  refine V_iconst (v := 1) dJ29_fixAfterInsertion_122 (by decide) ?_
  obtain ⟨e4, σ5, e6, h⟩ := bp_s h
  refine V_callS_0 (n9 := 2) [] (v_J29_setColor l G hst _ e6) rfl rfl (lw_S q1830 q1831 q117 q1832) (by decide +kernel) (by decide) (Nat.le_of_ble_eq_true rfl) dJ29_fixAfterInsertion_123 ?_
  refine V_aload_n (i := 1) 1 dJ29_fixAfterInsertion_126 rfl rfl ?_
  obtain ⟨b7, σ8, e9, h⟩ := bp_s h
  refine V_callS_v (n9 := 1) [] (v_J29_parentOf l G hst _ e9) rfl rfl (lw_S q1818 q1819 q117 q1820) (by decide +kernel) (by decide) (Nat.le_of_ble_eq_true rfl) dJ29_fixAfterInsertion_127 ?_
  obtain ⟨b10, σ11, e12, h⟩ := bp_s h
  refine V_callS_v (n9 := 1) [] (v_J29_parentOf l G hst _ e12) rfl rfl (lw_S q1818 q1819 q117 q1820) (by decide +kernel) (by decide) (Nat.le_of_ble_eq_true rfl) dJ29_fixAfterInsertion_130 ?_
  refine V_iconst (v := 0) dJ29_fixAfterInsertion_133 (by decide) ?_
  obtain ⟨e13, σ14, e15, h⟩ := bp_s h
  refine V_callS_0 (n9 := 2) [] (v_J29_setColor l G hst _ e15) rfl rfl (lw_S q1830 q1831 q117 q1832) (by decide +kernel) (by decide) (Nat.le_of_ble_eq_true rfl) dJ29_fixAfterInsertion_134 ?_
  refine V_aload_n (i := 0) 0 dJ29_fixAfterInsertion_137 rfl rfl ?_
  refine V_aload_n (i := 1) 1 dJ29_fixAfterInsertion_138 rfl rfl ?_
  obtain ⟨b16, σ17, e18, h⟩ := bp_s h
  refine V_callS_v (n9 := 1) [pR a0] (v_J29_parentOf l G hst _ e18) rfl rfl (lw_S q1818 q1819 q117 q1820) (by decide +kernel) (by decide) (Nat.le_of_ble_eq_true rfl) dJ29_fixAfterInsertion_139 ?_
  obtain ⟨b19, σ20, e21, h⟩ := bp_s h
  refine V_callS_v (n9 := 1) [pR a0] (v_J29_parentOf l G hst _ e21) rfl rfl (lw_S q1818 q1819 q117 q1820) (by decide +kernel) (by decide) (Nat.le_of_ble_eq_true rfl) dJ29_fixAfterInsertion_142 ?_
  obtain ⟨e22, e23, h⟩ := bd_s h
  obtain ⟨e24, σ25, e26, h⟩ := bp_s h
  refine V_callV_0 (n9 := 1) (c := 14) (r := (RJ29, TJ29, 9)) [] (v_J29_rotateRight l G hst _ e26) rfl rfl (lw_V q1837 q1839 qs26 q117 q1840) (by decide +kernel) (by decide) (Nat.le_of_ble_eq_true rfl) (gk_k e23 rfl) rfl dJ29_fixAfterInsertion_145 ?_
  refine V_sub [0, 1] rfl ?_
  exact v_J29_fixAfterInsertion_148 hst hk5 h
def f_J29_fixAfterInsertion_5_b (k5 : Hp → Nat → Nat → Option (Unit × Hp)) (σ : Hp) (a0 : Nat) (a1 : Nat) : Option (Unit × Hp) :=
  if a1 = 0 then (f_J29_fixAfterInsertion_258 σ a0) else (bd (rdR σ 15 a0 153) fun b2 => if a1 = b2 then (f_J29_fixAfterInsertion_258 σ a0) else (bd (rdR σ 16 a1 164) fun b5 => bd (rdI σ 16 b5 165) fun y7 => if y7 = (0 : Int32) then (bp (f_J29_parentOf σ a1) fun b10 σ11 => bp (f_J29_parentOf σ11 a1) fun b13 σ14 => bp (f_J29_parentOf σ14 b13) fun b16 σ17 => bp (f_J29_leftOf σ17 b16) fun b19 σ20 => if b10 = b19 then (bp (f_J29_parentOf σ20 a1) fun b75 σ76 => bp (f_J29_parentOf σ76 b75) fun b78 σ79 => bp (f_J29_rightOf σ79 b78) fun b81 σ82 => bp (f_J29_colorOf σ82 b81) fun y84 σ85 => if y84 = (0 : Int32) then (bp (f_J29_parentOf σ85 a1) fun b103 σ104 => bp (f_J29_setColor σ104 b103 (1 : Int32)) fun e106 σ107 => bp (f_J29_setColor σ107 b81 (1 : Int32)) fun e109 σ110 => bp (f_J29_parentOf σ110 a1) fun b112 σ113 => bp (f_J29_parentOf σ113 b112) fun b115 σ116 => bp (f_J29_setColor σ116 b115 (0 : Int32)) fun e118 σ119 => bp (f_J29_parentOf σ119 a1) fun b121 σ122 => bp (f_J29_parentOf σ122 b121) fun b124 σ125 => f_J29_fixAfterInsertion_148 k5 σ125 a0 b124) else (bp (f_J29_parentOf σ85 a1) fun b88 σ89 => bp (f_J29_rightOf σ89 b88) fun b91 σ92 => if a1 = b91 then (bp (f_J29_parentOf σ92 a1) fun b95 σ96 => bd (gk σ96 15 a0) fun e98 => bp (f_J29_rotateLeft σ96 a0 b95) fun e100 σ101 => f_J29_fixAfterInsertion_118 k5 σ101 a0 b95) else (f_J29_fixAfterInsertion_118 k5 σ92 a0 a1))) else (bp (f_J29_parentOf σ20 a1) fun b23 σ24 => bp (f_J29_parentOf σ24 b23) fun b26 σ27 => bp (f_J29_leftOf σ27 b26) fun b29 σ30 => bp (f_J29_colorOf σ30 b29) fun y32 σ33 => if y32 = (0 : Int32) then (bp (f_J29_parentOf σ33 a1) fun b51 σ52 => bp (f_J29_setColor σ52 b51 (1 : Int32)) fun e54 σ55 => bp (f_J29_setColor σ55 b29 (1 : Int32)) fun e57 σ58 => bp (f_J29_parentOf σ58 a1) fun b60 σ61 => bp (f_J29_parentOf σ61 b60) fun b63 σ64 => bp (f_J29_setColor σ64 b63 (0 : Int32)) fun e66 σ67 => bp (f_J29_parentOf σ67 a1) fun b69 σ70 => bp (f_J29_parentOf σ70 b69) fun b72 σ73 => f_J29_fixAfterInsertion_255 k5 σ73 a0 b72) else (bp (f_J29_parentOf σ33 a1) fun b36 σ37 => bp (f_J29_leftOf σ37 b36) fun b39 σ40 => if a1 = b39 then (bp (f_J29_parentOf σ40 a1) fun b43 σ44 => bd (gk σ44 15 a0) fun e46 => bp (f_J29_rotateRight σ44 a0 b43) fun e48 σ49 => f_J29_fixAfterInsertion_225 k5 σ49 a0 b43) else (f_J29_fixAfterInsertion_225 k5 σ40 a0 a1)))) else (f_J29_fixAfterInsertion_258 σ a0)))
set_option maxHeartbeats 4000000 in
theorem v_J29_fixAfterInsertion_5_b {l : Launch} {G : Gx} (hst : l.stackTraces = false) {σ0 σe : Hp} {Se : Ms} {r : Unit} {k5 : Hp → Nat → Nat → Option (Unit × Hp)} (hk5 : ∀ (σ : Hp) (a0 : Nat) (a1 : Nat), k5 σ a0 a1 = some (r, σe) → VV_J29_fixAfterInsertion l G σ0 (.inl none) σe Se 5 [(0, pR a0), (1, pR a1)] [] σ Se) {σ : Hp} {a0 : Nat} {a1 : Nat} (h : f_J29_fixAfterInsertion_5_b k5 σ a0 a1 = some (r, σe)) : VV_J29_fixAfterInsertion l G σ0 (.inl none) σe Se 5 [(0, pR a0), (1, pR a1)] [] σ Se := by
  unfold f_J29_fixAfterInsertion_5_b at h
  refine V_aload_n (i := 1) 1 dJ29_fixAfterInsertion_5 rfl rfl ?_
  refine V_ifnull 258 dJ29_fixAfterInsertion_6 (by decide) (fun c1 => ?_) (fun c1 => ?_)
  · replace h := it_t c1 h
    refine V_sub [0] rfl ?_
    exact v_J29_fixAfterInsertion_258 hst h
  · replace h := it_f c1 h
    refine V_aload_n (i := 1) 1 dJ29_fixAfterInsertion_9 rfl rfl ?_
    refine V_aload_n (i := 0) 0 dJ29_fixAfterInsertion_10 rfl rfl ?_
    obtain ⟨b2, e3, h⟩ := bd_s h
    refine V_rdR gf_J29_101 rfl rfl rfl e3 dJ29_fixAfterInsertion_11 ?_
    refine V_acmp_eq 258 dJ29_fixAfterInsertion_14 (by decide) (fun c4 => ?_) (fun c4 => ?_)
    · replace h := it_t c4 h
      refine V_sub [0] rfl ?_
      exact v_J29_fixAfterInsertion_258 hst h
    · replace h := it_f c4 h
      refine V_aload_n (i := 1) 1 dJ29_fixAfterInsertion_17 rfl rfl ?_
      obtain ⟨b5, e6, h⟩ := bd_s h
      refine V_rdR gf_J29_124 rfl rfl rfl e6 dJ29_fixAfterInsertion_18 ?_
      obtain ⟨y7, e8, h⟩ := bd_s h
      refine V_rdI gf_J29_290 rfl rfl rfl e8 dJ29_fixAfterInsertion_21 ?_
      refine V_if_ne 258 dJ29_fixAfterInsertion_24 (by decide) (fun c9 => ?_) (fun c9 => ?_)
      · replace h := it_f c9 h
        refine V_sub [0] rfl ?_
        exact v_J29_fixAfterInsertion_258 hst h
      · replace h := it_t c9 h
        refine V_aload_n (i := 1) 1 dJ29_fixAfterInsertion_27 rfl rfl ?_
        obtain ⟨b10, σ11, e12, h⟩ := bp_s h
        refine V_callS_v (n9 := 1) [] (v_J29_parentOf l G hst _ e12) rfl rfl (lw_S q1818 q1819 q117 q1820) (by decide +kernel) (by decide) (Nat.le_of_ble_eq_true rfl) dJ29_fixAfterInsertion_28 ?_
        refine V_aload_n (i := 1) 1 dJ29_fixAfterInsertion_31 rfl rfl ?_
        obtain ⟨b13, σ14, e15, h⟩ := bp_s h
        refine V_callS_v (n9 := 1) [pR b10] (v_J29_parentOf l G hst _ e15) rfl rfl (lw_S q1818 q1819 q117 q1820) (by decide +kernel) (by decide) (Nat.le_of_ble_eq_true rfl) dJ29_fixAfterInsertion_32 ?_
        obtain ⟨b16, σ17, e18, h⟩ := bp_s h
        refine V_callS_v (n9 := 1) [pR b10] (v_J29_parentOf l G hst _ e18) rfl rfl (lw_S q1818 q1819 q117 q1820) (by decide +kernel) (by decide) (Nat.le_of_ble_eq_true rfl) dJ29_fixAfterInsertion_35 ?_
        obtain ⟨b19, σ20, e21, h⟩ := bp_s h
        refine V_callS_v (n9 := 1) [pR b10] (v_J29_leftOf l G hst _ e21) rfl rfl (lw_S q1821 q1822 q117 q1823) (by decide +kernel) (by decide) (Nat.le_of_ble_eq_true rfl) dJ29_fixAfterInsertion_38 ?_
        refine V_acmp_ne 151 dJ29_fixAfterInsertion_41 (by decide) (fun c22 => ?_) (fun c22 => ?_)
        · replace h := it_f c22 h
          refine V_aload_n (i := 1) 1 dJ29_fixAfterInsertion_151 rfl rfl ?_
          obtain ⟨b23, σ24, e25, h⟩ := bp_s h
          refine V_callS_v (n9 := 1) [] (v_J29_parentOf l G hst _ e25) rfl rfl (lw_S q1818 q1819 q117 q1820) (by decide +kernel) (by decide) (Nat.le_of_ble_eq_true rfl) dJ29_fixAfterInsertion_152 ?_
          obtain ⟨b26, σ27, e28, h⟩ := bp_s h
          refine V_callS_v (n9 := 1) [] (v_J29_parentOf l G hst _ e28) rfl rfl (lw_S q1818 q1819 q117 q1820) (by decide +kernel) (by decide) (Nat.le_of_ble_eq_true rfl) dJ29_fixAfterInsertion_155 ?_
          obtain ⟨b29, σ30, e31, h⟩ := bp_s h
          refine V_callS_v (n9 := 1) [] (v_J29_leftOf l G hst _ e31) rfl rfl (lw_S q1821 q1822 q117 q1823) (by decide +kernel) (by decide) (Nat.le_of_ble_eq_true rfl) dJ29_fixAfterInsertion_158 ?_
          refine V_astore_n (i := 2) (L' := [(2, pR b29), (0, pR a0), (1, pR a1)]) dJ29_fixAfterInsertion_161 rfl (by decide) rfl ?_
          refine V_aload_n (i := 2) 0 dJ29_fixAfterInsertion_162 rfl rfl ?_
          obtain ⟨y32, σ33, e34, h⟩ := bp_s h
          refine V_callS_v (n9 := 1) [] (v_J29_colorOf l G hst _ e34) rfl rfl (lw_S q1827 q1828 q117 q1829) (by decide +kernel) (by decide) (Nat.le_of_ble_eq_true rfl) dJ29_fixAfterInsertion_163 ?_
          refine V_if_ne 204 dJ29_fixAfterInsertion_166 (by decide) (fun c35 => ?_) (fun c35 => ?_)
          · replace h := it_f c35 h
            refine V_aload_n (i := 1) 2 dJ29_fixAfterInsertion_204 rfl rfl ?_
            refine V_aload_n (i := 1) 2 dJ29_fixAfterInsertion_205 rfl rfl ?_
            obtain ⟨b36, σ37, e38, h⟩ := bp_s h
            refine V_callS_v (n9 := 1) [pR a1] (v_J29_parentOf l G hst _ e38) rfl rfl (lw_S q1818 q1819 q117 q1820) (by decide +kernel) (by decide) (Nat.le_of_ble_eq_true rfl) dJ29_fixAfterInsertion_206 ?_
            obtain ⟨b39, σ40, e41, h⟩ := bp_s h
            refine V_callS_v (n9 := 1) [pR a1] (v_J29_leftOf l G hst _ e41) rfl rfl (lw_S q1821 q1822 q117 q1823) (by decide +kernel) (by decide) (Nat.le_of_ble_eq_true rfl) dJ29_fixAfterInsertion_209 ?_
            refine V_acmp_ne 225 dJ29_fixAfterInsertion_212 (by decide) (fun c42 => ?_) (fun c42 => ?_)
            · replace h := it_f c42 h
              refine V_sub [1, 2] rfl ?_
              exact v_J29_fixAfterInsertion_225 hst hk5 h
            · replace h := it_t c42 h
              refine V_aload_n (i := 1) 2 dJ29_fixAfterInsertion_215 rfl rfl ?_
              obtain ⟨b43, σ44, e45, h⟩ := bp_s h
              refine V_callS_v (n9 := 1) [] (v_J29_parentOf l G hst _ e45) rfl rfl (lw_S q1818 q1819 q117 q1820) (by decide +kernel) (by decide) (Nat.le_of_ble_eq_true rfl) dJ29_fixAfterInsertion_216 ?_
              refine V_astore_n (i := 1) (L' := [(1, pR b43), (2, pR b29), (0, pR a0)]) dJ29_fixAfterInsertion_219 rfl (by decide) rfl ?_
              refine V_aload_n (i := 0) 2 dJ29_fixAfterInsertion_220 rfl rfl ?_
              refine V_aload_n (i := 1) 0 dJ29_fixAfterInsertion_221 rfl rfl ?_
              obtain ⟨e46, e47, h⟩ := bd_s h
              obtain ⟨e48, σ49, e50, h⟩ := bp_s h
              refine V_callV_0 (n9 := 1) (c := 14) (r := (RJ29, TJ29, 9)) [] (v_J29_rotateRight l G hst _ e50) rfl rfl (lw_V q1837 q1839 qs26 q117 q1840) (by decide +kernel) (by decide) (Nat.le_of_ble_eq_true rfl) (gk_k e47 rfl) rfl dJ29_fixAfterInsertion_222 ?_
              refine V_sub [2, 0] rfl ?_
              exact v_J29_fixAfterInsertion_225 hst hk5 h
          · replace h := it_t c35 h
            refine V_aload_n (i := 1) 2 dJ29_fixAfterInsertion_169 rfl rfl ?_
            obtain ⟨b51, σ52, e53, h⟩ := bp_s h
            refine V_callS_v (n9 := 1) [] (v_J29_parentOf l G hst _ e53) rfl rfl (lw_S q1818 q1819 q117 q1820) (by decide +kernel) (by decide) (Nat.le_of_ble_eq_true rfl) dJ29_fixAfterInsertion_170 ?_
            refine V_iconst (v := 1) dJ29_fixAfterInsertion_173 (by decide) ?_
            obtain ⟨e54, σ55, e56, h⟩ := bp_s h
            refine V_callS_0 (n9 := 2) [] (v_J29_setColor l G hst _ e56) rfl rfl (lw_S q1830 q1831 q117 q1832) (by decide +kernel) (by decide) (Nat.le_of_ble_eq_true rfl) dJ29_fixAfterInsertion_174 ?_
            refine V_aload_n (i := 2) 0 dJ29_fixAfterInsertion_177 rfl rfl ?_
            refine V_iconst (v := 1) dJ29_fixAfterInsertion_178 (by decide) ?_
            obtain ⟨e57, σ58, e59, h⟩ := bp_s h
            refine V_callS_0 (n9 := 2) [] (v_J29_setColor l G hst _ e59) rfl rfl (lw_S q1830 q1831 q117 q1832) (by decide +kernel) (by decide) (Nat.le_of_ble_eq_true rfl) dJ29_fixAfterInsertion_179 ?_
            refine V_aload_n (i := 1) 2 dJ29_fixAfterInsertion_182 rfl rfl ?_
            obtain ⟨b60, σ61, e62, h⟩ := bp_s h
            refine V_callS_v (n9 := 1) [] (v_J29_parentOf l G hst _ e62) rfl rfl (lw_S q1818 q1819 q117 q1820) (by decide +kernel) (by decide) (Nat.le_of_ble_eq_true rfl) dJ29_fixAfterInsertion_183 ?_
            obtain ⟨b63, σ64, e65, h⟩ := bp_s h
            refine V_callS_v (n9 := 1) [] (v_J29_parentOf l G hst _ e65) rfl rfl (lw_S q1818 q1819 q117 q1820) (by decide +kernel) (by decide) (Nat.le_of_ble_eq_true rfl) dJ29_fixAfterInsertion_186 ?_
            refine V_iconst (v := 0) dJ29_fixAfterInsertion_189 (by decide) ?_
            obtain ⟨e66, σ67, e68, h⟩ := bp_s h
            refine V_callS_0 (n9 := 2) [] (v_J29_setColor l G hst _ e68) rfl rfl (lw_S q1830 q1831 q117 q1832) (by decide +kernel) (by decide) (Nat.le_of_ble_eq_true rfl) dJ29_fixAfterInsertion_190 ?_
            refine V_aload_n (i := 1) 2 dJ29_fixAfterInsertion_193 rfl rfl ?_
            obtain ⟨b69, σ70, e71, h⟩ := bp_s h
            refine V_callS_v (n9 := 1) [] (v_J29_parentOf l G hst _ e71) rfl rfl (lw_S q1818 q1819 q117 q1820) (by decide +kernel) (by decide) (Nat.le_of_ble_eq_true rfl) dJ29_fixAfterInsertion_194 ?_
            obtain ⟨b72, σ73, e74, h⟩ := bp_s h
            refine V_callS_v (n9 := 1) [] (v_J29_parentOf l G hst _ e74) rfl rfl (lw_S q1818 q1819 q117 q1820) (by decide +kernel) (by decide) (Nat.le_of_ble_eq_true rfl) dJ29_fixAfterInsertion_197 ?_
            refine V_astore_n (i := 1) (L' := [(1, pR b72), (2, pR b29), (0, pR a0)]) dJ29_fixAfterInsertion_200 rfl (by decide) rfl ?_
            refine V_goto 255 dJ29_fixAfterInsertion_201 (by decide) ?_
            refine V_sub [2, 0] rfl ?_
            exact v_J29_fixAfterInsertion_255 hst hk5 h
        · replace h := it_t c22 h
          refine V_aload_n (i := 1) 1 dJ29_fixAfterInsertion_44 rfl rfl ?_
          obtain ⟨b75, σ76, e77, h⟩ := bp_s h
          refine V_callS_v (n9 := 1) [] (v_J29_parentOf l G hst _ e77) rfl rfl (lw_S q1818 q1819 q117 q1820) (by decide +kernel) (by decide) (Nat.le_of_ble_eq_true rfl) dJ29_fixAfterInsertion_45 ?_
          obtain ⟨b78, σ79, e80, h⟩ := bp_s h
          refine V_callS_v (n9 := 1) [] (v_J29_parentOf l G hst _ e80) rfl rfl (lw_S q1818 q1819 q117 q1820) (by decide +kernel) (by decide) (Nat.le_of_ble_eq_true rfl) dJ29_fixAfterInsertion_48 ?_
          obtain ⟨b81, σ82, e83, h⟩ := bp_s h
          refine V_callS_v (n9 := 1) [] (v_J29_rightOf l G hst _ e83) rfl rfl (lw_S q1824 q1825 q117 q1826) (by decide +kernel) (by decide) (Nat.le_of_ble_eq_true rfl) dJ29_fixAfterInsertion_51 ?_
          refine V_astore_n (i := 2) (L' := [(2, pR b81), (0, pR a0), (1, pR a1)]) dJ29_fixAfterInsertion_54 rfl (by decide) rfl ?_
          refine V_aload_n (i := 2) 0 dJ29_fixAfterInsertion_55 rfl rfl ?_
          obtain ⟨y84, σ85, e86, h⟩ := bp_s h
          refine V_callS_v (n9 := 1) [] (v_J29_colorOf l G hst _ e86) rfl rfl (lw_S q1827 q1828 q117 q1829) (by decide +kernel) (by decide) (Nat.le_of_ble_eq_true rfl) dJ29_fixAfterInsertion_56 ?_
          refine V_if_ne 97 dJ29_fixAfterInsertion_59 (by decide) (fun c87 => ?_) (fun c87 => ?_)
          · replace h := it_f c87 h
            refine V_aload_n (i := 1) 2 dJ29_fixAfterInsertion_97 rfl rfl ?_
            refine V_aload_n (i := 1) 2 dJ29_fixAfterInsertion_98 rfl rfl ?_
            obtain ⟨b88, σ89, e90, h⟩ := bp_s h
            refine V_callS_v (n9 := 1) [pR a1] (v_J29_parentOf l G hst _ e90) rfl rfl (lw_S q1818 q1819 q117 q1820) (by decide +kernel) (by decide) (Nat.le_of_ble_eq_true rfl) dJ29_fixAfterInsertion_99 ?_
            obtain ⟨b91, σ92, e93, h⟩ := bp_s h
            refine V_callS_v (n9 := 1) [pR a1] (v_J29_rightOf l G hst _ e93) rfl rfl (lw_S q1824 q1825 q117 q1826) (by decide +kernel) (by decide) (Nat.le_of_ble_eq_true rfl) dJ29_fixAfterInsertion_102 ?_
            refine V_acmp_ne 118 dJ29_fixAfterInsertion_105 (by decide) (fun c94 => ?_) (fun c94 => ?_)
            · replace h := it_f c94 h
              refine V_sub [1, 2] rfl ?_
              exact v_J29_fixAfterInsertion_118 hst hk5 h
            · replace h := it_t c94 h
              refine V_aload_n (i := 1) 2 dJ29_fixAfterInsertion_108 rfl rfl ?_
              obtain ⟨b95, σ96, e97, h⟩ := bp_s h
              refine V_callS_v (n9 := 1) [] (v_J29_parentOf l G hst _ e97) rfl rfl (lw_S q1818 q1819 q117 q1820) (by decide +kernel) (by decide) (Nat.le_of_ble_eq_true rfl) dJ29_fixAfterInsertion_109 ?_
              refine V_astore_n (i := 1) (L' := [(1, pR b95), (2, pR b81), (0, pR a0)]) dJ29_fixAfterInsertion_112 rfl (by decide) rfl ?_
              refine V_aload_n (i := 0) 2 dJ29_fixAfterInsertion_113 rfl rfl ?_
              refine V_aload_n (i := 1) 0 dJ29_fixAfterInsertion_114 rfl rfl ?_
              obtain ⟨e98, e99, h⟩ := bd_s h
              obtain ⟨e100, σ101, e102, h⟩ := bp_s h
              refine V_callV_0 (n9 := 1) (c := 14) (r := (RJ29, TJ29, 9)) [] (v_J29_rotateLeft l G hst _ e102) rfl rfl (lw_V q1833 q1835 qs25 q117 q1836) (by decide +kernel) (by decide) (Nat.le_of_ble_eq_true rfl) (gk_k e99 rfl) rfl dJ29_fixAfterInsertion_115 ?_
              refine V_sub [2, 0] rfl ?_
              exact v_J29_fixAfterInsertion_118 hst hk5 h
          · replace h := it_t c87 h
            refine V_aload_n (i := 1) 2 dJ29_fixAfterInsertion_62 rfl rfl ?_
            obtain ⟨b103, σ104, e105, h⟩ := bp_s h
            refine V_callS_v (n9 := 1) [] (v_J29_parentOf l G hst _ e105) rfl rfl (lw_S q1818 q1819 q117 q1820) (by decide +kernel) (by decide) (Nat.le_of_ble_eq_true rfl) dJ29_fixAfterInsertion_63 ?_
            refine V_iconst (v := 1) dJ29_fixAfterInsertion_66 (by decide) ?_
            obtain ⟨e106, σ107, e108, h⟩ := bp_s h
            refine V_callS_0 (n9 := 2) [] (v_J29_setColor l G hst _ e108) rfl rfl (lw_S q1830 q1831 q117 q1832) (by decide +kernel) (by decide) (Nat.le_of_ble_eq_true rfl) dJ29_fixAfterInsertion_67 ?_
            refine V_aload_n (i := 2) 0 dJ29_fixAfterInsertion_70 rfl rfl ?_
            refine V_iconst (v := 1) dJ29_fixAfterInsertion_71 (by decide) ?_
            obtain ⟨e109, σ110, e111, h⟩ := bp_s h
            refine V_callS_0 (n9 := 2) [] (v_J29_setColor l G hst _ e111) rfl rfl (lw_S q1830 q1831 q117 q1832) (by decide +kernel) (by decide) (Nat.le_of_ble_eq_true rfl) dJ29_fixAfterInsertion_72 ?_
            refine V_aload_n (i := 1) 2 dJ29_fixAfterInsertion_75 rfl rfl ?_
            obtain ⟨b112, σ113, e114, h⟩ := bp_s h
            refine V_callS_v (n9 := 1) [] (v_J29_parentOf l G hst _ e114) rfl rfl (lw_S q1818 q1819 q117 q1820) (by decide +kernel) (by decide) (Nat.le_of_ble_eq_true rfl) dJ29_fixAfterInsertion_76 ?_
            obtain ⟨b115, σ116, e117, h⟩ := bp_s h
            refine V_callS_v (n9 := 1) [] (v_J29_parentOf l G hst _ e117) rfl rfl (lw_S q1818 q1819 q117 q1820) (by decide +kernel) (by decide) (Nat.le_of_ble_eq_true rfl) dJ29_fixAfterInsertion_79 ?_
            refine V_iconst (v := 0) dJ29_fixAfterInsertion_82 (by decide) ?_
            obtain ⟨e118, σ119, e120, h⟩ := bp_s h
            refine V_callS_0 (n9 := 2) [] (v_J29_setColor l G hst _ e120) rfl rfl (lw_S q1830 q1831 q117 q1832) (by decide +kernel) (by decide) (Nat.le_of_ble_eq_true rfl) dJ29_fixAfterInsertion_83 ?_
            refine V_aload_n (i := 1) 2 dJ29_fixAfterInsertion_86 rfl rfl ?_
            obtain ⟨b121, σ122, e123, h⟩ := bp_s h
            refine V_callS_v (n9 := 1) [] (v_J29_parentOf l G hst _ e123) rfl rfl (lw_S q1818 q1819 q117 q1820) (by decide +kernel) (by decide) (Nat.le_of_ble_eq_true rfl) dJ29_fixAfterInsertion_87 ?_
            obtain ⟨b124, σ125, e126, h⟩ := bp_s h
            refine V_callS_v (n9 := 1) [] (v_J29_parentOf l G hst _ e126) rfl rfl (lw_S q1818 q1819 q117 q1820) (by decide +kernel) (by decide) (Nat.le_of_ble_eq_true rfl) dJ29_fixAfterInsertion_90 ?_
            refine V_astore_n (i := 1) (L' := [(1, pR b124), (2, pR b81), (0, pR a0)]) dJ29_fixAfterInsertion_93 rfl (by decide) rfl ?_
            refine V_goto 148 dJ29_fixAfterInsertion_94 (by decide) ?_
            refine V_sub [2, 0] rfl ?_
            exact v_J29_fixAfterInsertion_148 hst hk5 h
def f_J29_fixAfterInsertion_5 : Nat → Hp → Nat → Nat → Option (Unit × Hp)
  | 0, _, _, _ => none
  | n + 1, σ, a0, a1 => f_J29_fixAfterInsertion_5_b (f_J29_fixAfterInsertion_5 n) σ a0 a1
theorem v_J29_fixAfterInsertion_5 {l : Launch} {G : Gx} (hst : l.stackTraces = false) {σ0 σe : Hp} {Se : Ms} {r : Unit} : ∀ (n : Nat) (σ : Hp) (a0 : Nat) (a1 : Nat), f_J29_fixAfterInsertion_5 n σ a0 a1 = some (r, σe) → VV_J29_fixAfterInsertion l G σ0 (.inl none) σe Se 5 [(0, pR a0), (1, pR a1)] [] σ Se
  | 0, _, _, _, h => by cases h
  | n + 1, _, _, _, h => v_J29_fixAfterInsertion_5_b hst (v_J29_fixAfterInsertion_5 hst n) h
def f_J29_fixAfterInsertion (σ : Hp) (a0 : Nat) (a1 : Nat) : Option (Unit × Hp) :=
  bd (wrZ σ 16 a1 165 (0 : Int32)) fun σ1 => f_J29_fixAfterInsertion_5 FU σ1 a0 a1
set_option maxHeartbeats 4000000 in
theorem v_J29_fixAfterInsertion (l : Launch) (G : Gx) (hst : l.stackTraces = false) (S : Ms) {σ σe : Hp} {a0 : Nat} {a1 : Nat} {r : Unit} (h : f_J29_fixAfterInsertion σ a0 a1 = some (r, σe)) : MT l G yJ29_fixAfterInsertion (ws_ yJ29_fixAfterInsertion cJ29_fixAfterInsertion 3 none) 2 52 [pR a0, pR a1] σ S (.inl none) σe S := by
  refine MT_of (own := RJ29) (nL := 3) (ini := false) (by decide +kernel) rfl (Nat.le_of_ble_eq_true rfl) (fun h => by cases h) hst ?_
  show VV_J29_fixAfterInsertion l G σ (.inl none) σe S 0 [(0, pR a0), (1, pR a1)] [] σ S
  unfold f_J29_fixAfterInsertion at h
  refine V_aload_n (i := 1) 1 dJ29_fixAfterInsertion_0 rfl rfl ?_
  refine V_iconst (v := 0) dJ29_fixAfterInsertion_1 (by decide) ?_
  obtain ⟨σ1, e2, h⟩ := bd_s h
  refine V_wrZ gw_J29_290 rfl rfl rfl e2 dJ29_fixAfterInsertion_2 ?_
  refine V_sub [0, 1] rfl ?_
  exact v_J29_fixAfterInsertion_5 hst FU _ _ _ h
