/-! the component and the JDK, decompiled: written by gen/dec.py -/
set_option maxRecDepth 100000
abbrev VV_J29_addEntry (l : Launch) (G : Gx) (σ0 : Hp) (o : Oc) (σe : Hp) (Se : Ms) := V l G RJ29 cJ29_addEntry 6 none [] false 3 74 σ0 o σe Se
def f_J29_addEntry_32 (σ : Hp) (a5 : Nat) (a0 : Nat) : Option (Unit × Hp) :=
  bd (gk σ 15 a0) fun e1 => bp (f_J29_fixAfterInsertion σ a0 a5) fun e3 σ4 => bd (rdI σ4 15 a0 154) fun y6 => bd (wrI σ4 15 a0 154 (y6 + (1 : Int32))) fun σ8 => bd (rdI σ8 15 a0 155) fun y10 => bd (wrI σ8 15 a0 155 (y10 + (1 : Int32))) fun σ12 => some ((), σ12)
set_option maxHeartbeats 4000000 in
theorem v_J29_addEntry_32 {l : Launch} {G : Gx} (hst : l.stackTraces = false) {σ0 σe : Hp} {Se : Ms} {r : Unit} {σ : Hp} {a5 : Nat} {a0 : Nat} (h : f_J29_addEntry_32 σ a5 a0 = some (r, σe)) : VV_J29_addEntry l G σ0 (.inl none) σe Se 32 [(5, pR a5), (0, pR a0)] [] σ Se := by
  unfold f_J29_addEntry_32 at h
  refine V_aload_n (i := 0) 1 dJ29_addEntry_32 rfl rfl ?_
  refine V_aload (i := 5) 0 dJ29_addEntry_33 rfl ?_
  obtain ⟨e1, e2, h⟩ := bd_s h
  obtain ⟨e3, σ4, e5, h⟩ := bp_s h
  refine V_callV_0 (n9 := 1) (c := 14) (r := (RJ29, TJ29, 9)) [] (v_J29_fixAfterInsertion l G hst _ e5) rfl rfl (lw_V q1814 q1816 qs24 q117 q1817) (by decide +kernel) (by decide) (Nat.le_of_ble_eq_true rfl) (gk_k e2 rfl) rfl dJ29_addEntry_35 ?_
  refine V_aload_n (i := 0) 1 dJ29_addEntry_38 rfl rfl ?_
  refine V_dup dJ29_addEntry_39 rfl ?_
  obtain ⟨y6, e7, h⟩ := bd_s h
  refine V_rdI gf_J29_7 rfl rfl rfl e7 dJ29_addEntry_40 ?_
  refine V_iconst (v := 1) dJ29_addEntry_43 (by decide) ?_
  refine V_iadd dJ29_addEntry_44 ?_
  obtain ⟨σ8, e9, h⟩ := bd_s h
  refine V_wrI gw_J29_7 rfl rfl rfl e9 dJ29_addEntry_45 ?_
  refine V_aload_n (i := 0) 1 dJ29_addEntry_48 rfl rfl ?_
  refine V_dup dJ29_addEntry_49 rfl ?_
  obtain ⟨y10, e11, h⟩ := bd_s h
  refine V_rdI gf_J29_13 rfl rfl rfl e11 dJ29_addEntry_50 ?_
  refine V_iconst (v := 1) dJ29_addEntry_53 (by decide) ?_
  refine V_iadd dJ29_addEntry_54 ?_
  obtain ⟨σ12, e13, h⟩ := bd_s h
  refine V_wrI gw_J29_13 rfl rfl rfl e13 dJ29_addEntry_55 ?_
  cases h
  exact V_vret rfl dJ29_addEntry_58
def f_J29_addEntry (σ : Hp) (a0 : Nat) (a1 : Nat) (a2 : Nat) (a3 : Nat) (x4 : Int32) : Option (Unit × Hp) :=
  bd (gz (nC σ 16 6) (hN σ)) fun e1 => bp (f_J30_init (nC σ 16 6) (hN σ) a1 a2 a3) fun e3 σ4 => if x4 = (0 : Int32) then (bd (wrR σ4 16 a3 163 (hN σ)) fun σ7 => f_J29_addEntry_32 σ7 (hN σ) a0) else (bd (wrR σ4 16 a3 162 (hN σ)) fun σ9 => f_J29_addEntry_32 σ9 (hN σ) a0)
set_option maxHeartbeats 4000000 in
theorem v_J29_addEntry (l : Launch) (G : Gx) (hst : l.stackTraces = false) (S : Ms) {σ σe : Hp} {a0 : Nat} {a1 : Nat} {a2 : Nat} {a3 : Nat} {x4 : Int32} {r : Unit} (h : f_J29_addEntry σ a0 a1 a2 a3 x4 = some (r, σe)) : MT l G yJ29_addEntry (ws_ yJ29_addEntry cJ29_addEntry 6 none) 3 74 [pR a0, pR a1, pR a2, pR a3, pI x4] σ S (.inl none) σe S := by
  refine MT_of (own := RJ29) (nL := 6) (ini := false) (by decide +kernel) rfl (Nat.le_of_ble_eq_true rfl) (fun h => by cases h) hst ?_
  show VV_J29_addEntry l G σ (.inl none) σe S 0 [(0, pR a0), (1, pR a1), (2, pR a2), (3, pR a3), (4, pI x4)] [] σ S
  unfold f_J29_addEntry at h
  refine V_new (n := 6) ci_15 (by decide +kernel) q1780 q1781 q119 dJ29_addEntry_0 ?_
  refine V_dup dJ29_addEntry_3 rfl ?_
  refine V_aload_n (i := 1) 1 dJ29_addEntry_4 rfl rfl ?_
  refine V_aload_n (i := 2) 2 dJ29_addEntry_5 rfl rfl ?_
  refine V_aload_n (i := 3) 3 dJ29_addEntry_6 rfl rfl ?_
  obtain ⟨e1, e2, h⟩ := bd_s h
  obtain ⟨e3, σ4, e5, h⟩ := bp_s h
  refine V_callI_0 (n9 := 3) [pR (hN σ)] (v_J30_init l G hst _ e5) rfl rfl q1784 q119 q1782 q1783 rfl (by decide +kernel) (by decide) (Nat.le_of_ble_eq_true rfl) (gz_n e2) dJ29_addEntry_7 ?_
  refine V_astore (i := 5) (L' := [(5, pR (hN σ)), (0, pR a0), (1, pR a1), (2, pR a2), (3, pR a3), (4, pI x4)]) dJ29_addEntry_10 (by decide) rfl ?_
  refine V_iload (i := 4) 5 dJ29_addEntry_12 rfl ?_
  refine V_if_eq 26 dJ29_addEntry_14 (by decide) (fun c6 => ?_) (fun c6 => ?_)
  · replace h := it_t c6 h
    refine V_aload_n (i := 3) 4 dJ29_addEntry_26 rfl rfl ?_
    refine V_aload (i := 5) 0 dJ29_addEntry_27 rfl ?_
    obtain ⟨σ7, e8, h⟩ := bd_s h
    refine V_wrR gw_J29_114 (okF_obj _ rfl) rfl rfl e8 dJ29_addEntry_29 ?_
    refine V_sub [0, 1] rfl ?_
    exact v_J29_addEntry_32 hst h
  · replace h := it_f c6 h
    refine V_aload_n (i := 3) 4 dJ29_addEntry_17 rfl rfl ?_
    refine V_aload (i := 5) 0 dJ29_addEntry_18 rfl ?_
    obtain ⟨σ9, e10, h⟩ := bd_s h
    refine V_wrR gw_J29_111 (okF_obj _ rfl) rfl rfl e10 dJ29_addEntry_20 ?_
    refine V_goto 32 dJ29_addEntry_23 (by decide) ?_
    refine V_sub [0, 1] rfl ?_
    exact v_J29_addEntry_32 hst h

abbrev VV_J29_put_2 (l : Launch) (G : Gx) (σ0 : Hp) (o : Oc) (σe : Hp) (Se : Ms) := V l G RJ29 cJ29_put_2 10 (some (.object "java/lang/Object")) [] false 7 161 σ0 o σe Se
def f_J29_put_2_193 (σ : Hp) (a9 : Nat) : Option (Nat × Hp) :=
  some (a9, σ)
set_option maxHeartbeats 4000000 in
theorem v_J29_put_2_193 {l : Launch} {G : Gx} (hst : l.stackTraces = false) {σ0 σe : Hp} {Se : Ms} {r : Nat} {σ : Hp} {a9 : Nat} (h : f_J29_put_2_193 σ a9 = some (r, σe)) : VV_J29_put_2 l G σ0 (.inl (some (pR r))) σe Se 193 [(9, pR a9)] [] σ Se := by
  unfold f_J29_put_2_193 at h
  refine V_aload (i := 9) 0 dJ29_put_2_193 rfl ?_
  cases h
  exact V_aret rfl (Or.inl ⟨_, rfl⟩) dJ29_put_2_195
def f_J29_put_2_187 (σ : Hp) (a9 : Nat) (a4 : Nat) (a2 : Nat) : Option (Nat × Hp) :=
  bd (wrR σ 16 a4 161 a2) fun σ1 => f_J29_put_2_193 σ1 a9
set_option maxHeartbeats 4000000 in
theorem v_J29_put_2_187 {l : Launch} {G : Gx} (hst : l.stackTraces = false) {σ0 σe : Hp} {Se : Ms} {r : Nat} {σ : Hp} {a9 : Nat} {a4 : Nat} {a2 : Nat} (h : f_J29_put_2_187 σ a9 a4 a2 = some (r, σe)) : VV_J29_put_2 l G σ0 (.inl (some (pR r))) σe Se 187 [(9, pR a9), (4, pR a4), (2, pR a2)] [] σ Se := by
  unfold f_J29_put_2_187 at h
  refine V_aload (i := 4) 1 dJ29_put_2_187 rfl ?_
  refine V_aload_n (i := 2) 2 dJ29_put_2_189 rfl rfl ?_
  obtain ⟨σ1, e2, h⟩ := bd_s h
  refine V_wrR gw_J29_58 (okF_obj _ rfl) rfl rfl e2 dJ29_put_2_190 ?_
  refine V_sub [0] rfl ?_
  exact v_J29_put_2_193 hst h
def f_J29_put_2_216 (σ : Hp) (s0 : Int32) (t1 : Nat) (t2 : Nat) (t3 : Nat) (t4 : Nat) : Option (Nat × Hp) :=
  bd (gk σ 15 t4) fun e1 => bp (f_J29_addEntry σ t4 t3 t2 t1 s0) fun e3 σ4 => some (0, σ4)
set_option maxHeartbeats 4000000 in
theorem v_J29_put_2_216 {l : Launch} {G : Gx} (hst : l.stackTraces = false) {σ0 σe : Hp} {Se : Ms} {r : Nat} {σ : Hp} {s0 : Int32} {t1 : Nat} {t2 : Nat} {t3 : Nat} {t4 : Nat} (h : f_J29_put_2_216 σ s0 t1 t2 t3 t4 = some (r, σe)) : VV_J29_put_2 l G σ0 (.inl (some (pR r))) σe Se 216 [] [pI s0, pR t1, pR t2, pR t3, pR t4] σ Se := by
  unfold f_J29_put_2_216 at h
  obtain ⟨e1, e2, h⟩ := bd_s h
  obtain ⟨e3, σ4, e5, h⟩ := bp_s h
  refine V_callV_0 (n9 := 4) (c := 14) (r := (RJ29, TJ29, 9)) [] (v_J29_addEntry l G hst _ e5) rfl rfl (lw_V q1810 q1812 qs23 q117 q1813) (by decide +kernel) (by decide) (Nat.le_of_ble_eq_true rfl) (gk_k e2 rfl) rfl dJ29_put_2_216 ?_
  refine V_null dJ29_put_2_219 ?_
  cases h
  exact V_aret rfl (Or.inl ⟨_, rfl⟩) dJ29_put_2_220
def f_J29_put_2_201 (σ : Hp) (x5 : Int32) (a6 : Nat) (a0 : Nat) (a1 : Nat) (a2 : Nat) : Option (Nat × Hp) :=
  if (0 : Int32) ≤ x5 then (f_J29_put_2_216 σ (0 : Int32) a6 a2 a1 a0) else (f_J29_put_2_216 σ (1 : Int32) a6 a2 a1 a0)
set_option maxHeartbeats 4000000 in
theorem v_J29_put_2_201 {l : Launch} {G : Gx} (hst : l.stackTraces = false) {σ0 σe : Hp} {Se : Ms} {r : Nat} {σ : Hp} {x5 : Int32} {a6 : Nat} {a0 : Nat} {a1 : Nat} {a2 : Nat} (h : f_J29_put_2_201 σ x5 a6 a0 a1 a2 = some (r, σe)) : VV_J29_put_2 l G σ0 (.inl (some (pR r))) σe Se 201 [(5, pI x5), (6, pR a6), (0, pR a0), (1, pR a1), (2, pR a2)] [] σ Se := by
  unfold f_J29_put_2_201 at h
  refine V_aload_n (i := 0) 2 dJ29_put_2_201 rfl rfl ?_
  refine V_aload_n (i := 1) 3 dJ29_put_2_202 rfl rfl ?_
  refine V_aload_n (i := 2) 4 dJ29_put_2_203 rfl rfl ?_
  refine V_aload (i := 6) 1 dJ29_put_2_204 rfl ?_
  refine V_iload (i := 5) 0 dJ29_put_2_206 rfl ?_
  refine V_if_ge 215 dJ29_put_2_208 (by decide) (fun c1 => ?_) (fun c1 => ?_)
  · replace h := it_t c1 h
    refine V_iconst (v := 0) dJ29_put_2_215 (by decide) ?_
    refine V_sub [] rfl ?_
    exact v_J29_put_2_216 hst h
  · replace h := it_f c1 h
    refine V_iconst (v := 1) dJ29_put_2_211 (by decide) ?_
    refine V_goto 216 dJ29_put_2_212 (by decide) ?_
    refine V_sub [] rfl ?_
    exact v_J29_put_2_216 hst h
def f_J29_put_2_196 (k123 : Hp → Nat → Nat → Nat → Nat → Nat → Int32 → Option (Nat × Hp)) (σ : Hp) (a4 : Nat) (x5 : Int32) (a6 : Nat) (a8 : Nat) (a0 : Nat) (a1 : Nat) (a2 : Nat) (x3 : Int32) : Option (Nat × Hp) :=
  if a4 = 0 then (f_J29_put_2_201 σ x5 a6 a0 a1 a2) else (k123 σ a8 a4 a0 a1 a2 x3)
set_option maxHeartbeats 4000000 in
theorem v_J29_put_2_196 {l : Launch} {G : Gx} (hst : l.stackTraces = false) {σ0 σe : Hp} {Se : Ms} {r : Nat} {k123 : Hp → Nat → Nat → Nat → Nat → Nat → Int32 → Option (Nat × Hp)} (hk123 : ∀ (σ : Hp) (a8 : Nat) (a4 : Nat) (a0 : Nat) (a1 : Nat) (a2 : Nat) (x3 : Int32), k123 σ a8 a4 a0 a1 a2 x3 = some (r, σe) → VV_J29_put_2 l G σ0 (.inl (some (pR r))) σe Se 123 [(8, pR a8), (4, pR a4), (0, pR a0), (1, pR a1), (2, pR a2), (3, pI x3)] [] σ Se) {σ : Hp} {a4 : Nat} {x5 : Int32} {a6 : Nat} {a8 : Nat} {a0 : Nat} {a1 : Nat} {a2 : Nat} {x3 : Int32} (h : f_J29_put_2_196 k123 σ a4 x5 a6 a8 a0 a1 a2 x3 = some (r, σe)) : VV_J29_put_2 l G σ0 (.inl (some (pR r))) σe Se 196 [(4, pR a4), (5, pI x5), (6, pR a6), (8, pR a8), (0, pR a0), (1, pR a1), (2, pR a2), (3, pI x3)] [] σ Se := by
  unfold f_J29_put_2_196 at h
  refine V_aload (i := 4) 0 dJ29_put_2_196 rfl ?_
  refine V_ifnonnull 123 dJ29_put_2_198 (by decide) (fun c1 => ?_) (fun c1 => ?_)
  · replace h := it_f c1 h
    refine V_sub [3, 0, 4, 5, 6, 7] rfl ?_
    exact hk123 _ _ _ _ _ _ _ h
  · replace h := it_t c1 h
    refine V_sub [1, 2, 4, 5, 6] rfl ?_
    exact v_J29_put_2_201 hst h
def f_J29_put_2_123_b (k123 : Hp → Nat → Nat → Nat → Nat → Nat → Int32 → Option (Nat × Hp)) (σ : Hp) (a8 : Nat) (a4 : Nat) (a0 : Nat) (a1 : Nat) (a2 : Nat) (x3 : Int32) : Option (Nat × Hp) :=
  bd (rdR σ 16 a4 160) fun b1 => bd (gk σ 19 a8) fun e3 => bp (f_J23_compareTo σ a8 b1) fun y5 σ6 => if (0 : Int32) ≤ y5 then (if y5 ≤ (0 : Int32) then (bd (rdR σ6 16 a4 161) fun b10 => if x3 = (0 : Int32) then (if b10 = 0 then (f_J29_put_2_187 σ6 b10 a4 a2) else (f_J29_put_2_193 σ6 b10)) else (f_J29_put_2_187 σ6 b10 a4 a2)) else (bd (rdR σ6 16 a4 163) fun b14 => f_J29_put_2_196 k123 σ6 b14 y5 a4 a8 a0 a1 a2 x3)) else (bd (rdR σ6 16 a4 162) fun b16 => f_J29_put_2_196 k123 σ6 b16 y5 a4 a8 a0 a1 a2 x3)
set_option maxHeartbeats 4000000 in
theorem v_J29_put_2_123_b {l : Launch} {G : Gx} (hst : l.stackTraces = false) {σ0 σe : Hp} {Se : Ms} {r : Nat} {k123 : Hp → Nat → Nat → Nat → Nat → Nat → Int32 → Option (Nat × Hp)} (hk123 : ∀ (σ : Hp) (a8 : Nat) (a4 : Nat) (a0 : Nat) (a1 : Nat) (a2 : Nat) (x3 : Int32), k123 σ a8 a4 a0 a1 a2 x3 = some (r, σe) → VV_J29_put_2 l G σ0 (.inl (some (pR r))) σe Se 123 [(8, pR a8), (4, pR a4), (0, pR a0), (1, pR a1), (2, pR a2), (3, pI x3)] [] σ Se) {σ : Hp} {a8 : Nat} {a4 : Nat} {a0 : Nat} {a1 : Nat} {a2 : Nat} {x3 : Int32} (h : f_J29_put_2_123_b k123 σ a8 a4 a0 a1 a2 x3 = some (r, σe)) : VV_J29_put_2 l G σ0 (.inl (some (pR r))) σe Se 123 [(8, pR a8), (4, pR a4), (0, pR a0), (1, pR a1), (2, pR a2), (3, pI x3)] [] σ Se := by
  unfold f_J29_put_2_123_b at h
  refine V_aload (i := 4) 1 dJ29_put_2_123 rfl ?_
  refine V_astore (i := 6) (L' := [(6, pR a4), (8, pR a8), (4, pR a4), (0, pR a0), (1, pR a1), (2, pR a2), (3, pI x3)]) dJ29_put_2_125 (by decide) rfl ?_
  refine V_aload (i := 8) 1 dJ29_put_2_127 rfl ?_
  refine V_aload (i := 4) 2 dJ29_put_2_129 rfl ?_
  obtain ⟨b1, e2, h⟩ := bd_s h
  refine V_rdR gf_J29_105 rfl rfl rfl e2 dJ29_put_2_131 ?_
  obtain ⟨e3, e4, h⟩ := bd_s h
  obtain ⟨y5, σ6, e7, h⟩ := bp_s h
  refine V_callF_v (n9 := 1) (c := 18) (r := (RJ23, TJ23, 1)) (x := ⟨"java/lang/Comparable", "compareTo", "(Ljava/lang/Object;)I"⟩) [] (v_J23_compareTo l G hst _ e7) rfl rfl (lw_app (lw_F4 q1754 q1445 q1447 q105) (lw_meth q1449)) (by decide +kernel) (by decide +kernel) (by decide) (Nat.le_of_ble_eq_true rfl) (gk_k e4 rfl) rfl dJ29_put_2_134 ?_
  refine V_istore (i := 5) (L' := [(5, pI y5), (6, pR a4), (8, pR a8), (4, pR a4), (0, pR a0), (1, pR a1), (2, pR a2), (3, pI x3)]) dJ29_put_2_139 (by decide) rfl ?_
  refine V_iload (i := 5) 0 dJ29_put_2_141 rfl ?_
  refine V_if_ge 156 dJ29_put_2_143 (by decide) (fun c8 => ?_) (fun c8 => ?_)
  · replace h := it_t c8 h
    refine V_iload (i := 5) 0 dJ29_put_2_156 rfl ?_
    refine V_if_le 171 dJ29_put_2_158 (by decide) (fun c9 => ?_) (fun c9 => ?_)
    · replace h := it_t c9 h
      refine V_aload (i := 4) 3 dJ29_put_2_171 rfl ?_
      obtain ⟨b10, e11, h⟩ := bd_s h
      refine V_rdR gf_J29_58 rfl rfl rfl e11 dJ29_put_2_173 ?_
      refine V_astore (i := 9) (L' := [(9, pR b10), (5, pI y5), (6, pR a4), (8, pR a8), (4, pR a4), (0, pR a0), (1, pR a1), (2, pR a2), (3, pI x3)]) dJ29_put_2_176 (by decide) rfl ?_
      refine V_iload_n (i := 3) 8 dJ29_put_2_178 rfl rfl ?_
      refine V_if_ne 187 dJ29_put_2_179 (by decide) (fun c12 => ?_) (fun c12 => ?_)
      · replace h := it_f c12 h
        refine V_sub [0, 4, 7] rfl ?_
        exact v_J29_put_2_187 hst h
      · replace h := it_t c12 h
        refine V_aload (i := 9) 0 dJ29_put_2_182 rfl ?_
        refine V_ifnonnull 193 dJ29_put_2_184 (by decide) (fun c13 => ?_) (fun c13 => ?_)
        · replace h := it_f c13 h
          refine V_sub [0] rfl ?_
          exact v_J29_put_2_193 hst h
        · replace h := it_t c13 h
          refine V_sub [0, 4, 7] rfl ?_
          exact v_J29_put_2_187 hst h
    · replace h := it_f c9 h
      refine V_aload (i := 4) 3 dJ29_put_2_161 rfl ?_
      obtain ⟨b14, e15, h⟩ := bd_s h
      refine V_rdR gf_J29_114 rfl rfl rfl e15 dJ29_put_2_163 ?_
      refine V_astore (i := 4) (L' := [(4, pR b14), (5, pI y5), (6, pR a4), (8, pR a8), (0, pR a0), (1, pR a1), (2, pR a2), (3, pI x3)]) dJ29_put_2_166 (by decide) rfl ?_
      refine V_goto 196 dJ29_put_2_168 (by decide) ?_
      refine V_sub [0, 1, 2, 3, 4, 5, 6, 7] rfl ?_
      exact v_J29_put_2_196 hst hk123 h
  · replace h := it_f c8 h
    refine V_aload (i := 4) 3 dJ29_put_2_146 rfl ?_
    obtain ⟨b16, e17, h⟩ := bd_s h
    refine V_rdR gf_J29_111 rfl rfl rfl e17 dJ29_put_2_148 ?_
    refine V_astore (i := 4) (L' := [(4, pR b16), (5, pI y5), (6, pR a4), (8, pR a8), (0, pR a0), (1, pR a1), (2, pR a2), (3, pI x3)]) dJ29_put_2_151 (by decide) rfl ?_
    refine V_goto 196 dJ29_put_2_153 (by decide) ?_
    refine V_sub [0, 1, 2, 3, 4, 5, 6, 7] rfl ?_
    exact v_J29_put_2_196 hst hk123 h
def f_J29_put_2_123 : Nat → Hp → Nat → Nat → Nat → Nat → Nat → Int32 → Option (Nat × Hp)
  | 0, _, _, _, _, _, _, _ => none
  | n + 1, σ, a8, a4, a0, a1, a2, x3 => f_J29_put_2_123_b (f_J29_put_2_123 n) σ a8 a4 a0 a1 a2 x3
theorem v_J29_put_2_123 {l : Launch} {G : Gx} (hst : l.stackTraces = false) {σ0 σe : Hp} {Se : Ms} {r : Nat} : ∀ (n : Nat) (σ : Hp) (a8 : Nat) (a4 : Nat) (a0 : Nat) (a1 : Nat) (a2 : Nat) (x3 : Int32), f_J29_put_2_123 n σ a8 a4 a0 a1 a2 x3 = some (r, σe) → VV_J29_put_2 l G σ0 (.inl (some (pR r))) σe Se 123 [(8, pR a8), (4, pR a4), (0, pR a0), (1, pR a1), (2, pR a2), (3, pI x3)] [] σ Se
  | 0, _, _, _, _, _, _, _, h => by cases h
  | n + 1, _, _, _, _, _, _, _, h => v_J29_put_2_123_b hst (v_J29_put_2_123 hst n) h
def f_J29_put_2_101 (σ : Hp) (a8 : Nat) : Option (Nat × Hp) :=
  some (a8, σ)
set_option maxHeartbeats 4000000 in
theorem v_J29_put_2_101 {l : Launch} {G : Gx} (hst : l.stackTraces = false) {σ0 σe : Hp} {Se : Ms} {r : Nat} {σ : Hp} {a8 : Nat} (h : f_J29_put_2_101 σ a8 = some (r, σe)) : VV_J29_put_2 l G σ0 (.inl (some (pR r))) σe Se 101 [(8, pR a8)] [] σ Se := by
  unfold f_J29_put_2_101 at h
  refine V_aload (i := 8) 0 dJ29_put_2_101 rfl ?_
  cases h
  exact V_aret rfl (Or.inl ⟨_, rfl⟩) dJ29_put_2_103
def f_J29_put_2_95 (σ : Hp) (a8 : Nat) (a4 : Nat) (a2 : Nat) : Option (Nat × Hp) :=
  bd (wrR σ 16 a4 161 a2) fun σ1 => f_J29_put_2_101 σ1 a8
set_option maxHeartbeats 4000000 in
theorem v_J29_put_2_95 {l : Launch} {G : Gx} (hst : l.stackTraces = false) {σ0 σe : Hp} {Se : Ms} {r : Nat} {σ : Hp} {a8 : Nat} {a4 : Nat} {a2 : Nat} (h : f_J29_put_2_95 σ a8 a4 a2 = some (r, σe)) : VV_J29_put_2 l G σ0 (.inl (some (pR r))) σe Se 95 [(8, pR a8), (4, pR a4), (2, pR a2)] [] σ Se := by
  unfold f_J29_put_2_95 at h
  refine V_aload (i := 4) 1 dJ29_put_2_95 rfl ?_
  refine V_aload_n (i := 2) 2 dJ29_put_2_97 rfl rfl ?_
  obtain ⟨σ1, e2, h⟩ := bd_s h
  refine V_wrR gw_J29_58 (okF_obj _ rfl) rfl rfl e2 dJ29_put_2_98 ?_
  refine V_sub [0] rfl ?_
  exact v_J29_put_2_101 hst h
def f_J29_put_2_104 (k30 : Hp → Nat → Nat → Nat → Nat → Nat → Int32 → Option (Nat × Hp)) (σ : Hp) (a4 : Nat) (x5 : Int32) (a6 : Nat) (a7 : Nat) (a0 : Nat) (a1 : Nat) (a2 : Nat) (x3 : Int32) : Option (Nat × Hp) :=
  if a4 = 0 then (f_J29_put_2_201 σ x5 a6 a0 a1 a2) else (k30 σ a7 a4 a0 a1 a2 x3)
set_option maxHeartbeats 4000000 in
theorem v_J29_put_2_104 {l : Launch} {G : Gx} (hst : l.stackTraces = false) {σ0 σe : Hp} {Se : Ms} {r : Nat} {k30 : Hp → Nat → Nat → Nat → Nat → Nat → Int32 → Option (Nat × Hp)} (hk30 : ∀ (σ : Hp) (a7 : Nat) (a4 : Nat) (a0 : Nat) (a1 : Nat) (a2 : Nat) (x3 : Int32), k30 σ a7 a4 a0 a1 a2 x3 = some (r, σe) → VV_J29_put_2 l G σ0 (.inl (some (pR r))) σe Se 30 [(7, pR a7), (4, pR a4), (0, pR a0), (1, pR a1), (2, pR a2), (3, pI x3)] [] σ Se) {σ : Hp} {a4 : Nat} {x5 : Int32} {a6 : Nat} {a7 : Nat} {a0 : Nat} {a1 : Nat} {a2 : Nat} {x3 : Int32} (h : f_J29_put_2_104 k30 σ a4 x5 a6 a7 a0 a1 a2 x3 = some (r, σe)) : VV_J29_put_2 l G σ0 (.inl (some (pR r))) σe Se 104 [(4, pR a4), (5, pI x5), (6, pR a6), (7, pR a7), (0, pR a0), (1, pR a1), (2, pR a2), (3, pI x3)] [] σ Se := by
  unfold f_J29_put_2_104 at h
  refine V_aload (i := 4) 0 dJ29_put_2_104 rfl ?_
  refine V_ifnonnull 30 dJ29_put_2_106 (by decide) (fun c1 => ?_) (fun c1 => ?_)
  · replace h := it_f c1 h
    refine V_sub [3, 0, 4, 5, 6, 7] rfl ?_
    exact hk30 _ _ _ _ _ _ _ h
  · replace h := it_t c1 h
    refine V_goto 201 dJ29_put_2_109 (by decide) ?_
    refine V_sub [1, 2, 4, 5, 6] rfl ?_
    exact v_J29_put_2_201 hst h
def f_J29_put_2_30_b (k30 : Hp → Nat → Nat → Nat → Nat → Nat → Int32 → Option (Nat × Hp)) (σ : Hp) (a7 : Nat) (a4 : Nat) (a0 : Nat) (a1 : Nat) (a2 : Nat) (x3 : Int32) : Option (Nat × Hp) :=
  bd (rdR σ 16 a4 160) fun b1 => bd (gk σ 8 a7) fun e3 => bp (f_X9_compare σ a7 a1 b1) fun y5 σ6 => if (0 : Int32) ≤ y5 then (if y5 ≤ (0 : Int32) then (bd (rdR σ6 16 a4 161) fun b10 => if x3 = (0 : Int32) then (if b10 = 0 then (f_J29_put_2_95 σ6 b10 a4 a2) else (f_J29_put_2_101 σ6 b10)) else (f_J29_put_2_95 σ6 b10 a4 a2)) else (bd (rdR σ6 16 a4 163) fun b14 => f_J29_put_2_104 k30 σ6 b14 y5 a4 a7 a0 a1 a2 x3)) else (bd (rdR σ6 16 a4 162) fun b16 => f_J29_put_2_104 k30 σ6 b16 y5 a4 a7 a0 a1 a2 x3)
set_option maxHeartbeats 4000000 in
theorem v_J29_put_2_30_b {l : Launch} {G : Gx} (hst : l.stackTraces = false) {σ0 σe : Hp} {Se : Ms} {r : Nat} {k30 : Hp → Nat → Nat → Nat → Nat → Nat → Int32 → Option (Nat × Hp)} (hk30 : ∀ (σ : Hp) (a7 : Nat) (a4 : Nat) (a0 : Nat) (a1 : Nat) (a2 : Nat) (x3 : Int32), k30 σ a7 a4 a0 a1 a2 x3 = some (r, σe) → VV_J29_put_2 l G σ0 (.inl (some (pR r))) σe Se 30 [(7, pR a7), (4, pR a4), (0, pR a0), (1, pR a1), (2, pR a2), (3, pI x3)] [] σ Se) {σ : Hp} {a7 : Nat} {a4 : Nat} {a0 : Nat} {a1 : Nat} {a2 : Nat} {x3 : Int32} (h : f_J29_put_2_30_b k30 σ a7 a4 a0 a1 a2 x3 = some (r, σe)) : VV_J29_put_2 l G σ0 (.inl (some (pR r))) σe Se 30 [(7, pR a7), (4, pR a4), (0, pR a0), (1, pR a1), (2, pR a2), (3, pI x3)] [] σ Se := by
  unfold f_J29_put_2_30_b at h
  refine V_aload (i := 4) 1 dJ29_put_2_30 rfl ?_
  refine V_astore (i := 6) (L' := [(6, pR a4), (7, pR a7), (4, pR a4), (0, pR a0), (1, pR a1), (2, pR a2), (3, pI x3)]) dJ29_put_2_32 (by decide) rfl ?_
  refine V_aload (i := 7) 1 dJ29_put_2_34 rfl ?_
  refine V_aload_n (i := 1) 4 dJ29_put_2_36 rfl rfl ?_
  refine V_aload (i := 4) 2 dJ29_put_2_37 rfl ?_
  obtain ⟨b1, e2, h⟩ := bd_s h
  refine V_rdR gf_J29_105 rfl rfl rfl e2 dJ29_put_2_39 ?_
  obtain ⟨e3, e4, h⟩ := bd_s h
  obtain ⟨y5, σ6, e7, h⟩ := bp_s h
  refine V_callF_v (n9 := 2) (c := 7) (r := (RX9, TX9, 1)) (x := ⟨"java/util/Comparator", "compare", "(Ljava/lang/Object;Ljava/lang/Object;)I"⟩) [] (v_X9_compare l G hst _ e7) rfl rfl (lw_app (lw_F4 q1748 q1417 q1419 q111) (lw_meth q1421)) (by decide +kernel) (by decide +kernel) (by decide) (Nat.le_of_ble_eq_true rfl) (gk_k e4 rfl) rfl dJ29_put_2_42 ?_
  refine V_istore (i := 5) (L' := [(5, pI y5), (6, pR a4), (7, pR a7), (4, pR a4), (0, pR a0), (1, pR a1), (2, pR a2), (3, pI x3)]) dJ29_put_2_47 (by decide) rfl ?_
  refine V_iload (i := 5) 0 dJ29_put_2_49 rfl ?_
  refine V_if_ge 64 dJ29_put_2_51 (by decide) (fun c8 => ?_) (fun c8 => ?_)
  · replace h := it_t c8 h
    refine V_iload (i := 5) 0 dJ29_put_2_64 rfl ?_
    refine V_if_le 79 dJ29_put_2_66 (by decide) (fun c9 => ?_) (fun c9 => ?_)
    · replace h := it_t c9 h
      refine V_aload (i := 4) 3 dJ29_put_2_79 rfl ?_
      obtain ⟨b10, e11, h⟩ := bd_s h
      refine V_rdR gf_J29_58 rfl rfl rfl e11 dJ29_put_2_81 ?_
      refine V_astore (i := 8) (L' := [(8, pR b10), (5, pI y5), (6, pR a4), (7, pR a7), (4, pR a4), (0, pR a0), (1, pR a1), (2, pR a2), (3, pI x3)]) dJ29_put_2_84 (by decide) rfl ?_
      refine V_iload_n (i := 3) 8 dJ29_put_2_86 rfl rfl ?_
      refine V_if_ne 95 dJ29_put_2_87 (by decide) (fun c12 => ?_) (fun c12 => ?_)
      · replace h := it_f c12 h
        refine V_sub [0, 4, 7] rfl ?_
        exact v_J29_put_2_95 hst h
      · replace h := it_t c12 h
        refine V_aload (i := 8) 0 dJ29_put_2_90 rfl ?_
        refine V_ifnonnull 101 dJ29_put_2_92 (by decide) (fun c13 => ?_) (fun c13 => ?_)
        · replace h := it_f c13 h
          refine V_sub [0] rfl ?_
          exact v_J29_put_2_101 hst h
        · replace h := it_t c13 h
          refine V_sub [0, 4, 7] rfl ?_
          exact v_J29_put_2_95 hst h
    · replace h := it_f c9 h
      refine V_aload (i := 4) 3 dJ29_put_2_69 rfl ?_
      obtain ⟨b14, e15, h⟩ := bd_s h
      refine V_rdR gf_J29_114 rfl rfl rfl e15 dJ29_put_2_71 ?_
      refine V_astore (i := 4) (L' := [(4, pR b14), (5, pI y5), (6, pR a4), (7, pR a7), (0, pR a0), (1, pR a1), (2, pR a2), (3, pI x3)]) dJ29_put_2_74 (by decide) rfl ?_
      refine V_goto 104 dJ29_put_2_76 (by decide) ?_
      refine V_sub [0, 1, 2, 3, 4, 5, 6, 7] rfl ?_
      exact v_J29_put_2_104 hst hk30 h
  · replace h := it_f c8 h
    refine V_aload (i := 4) 3 dJ29_put_2_54 rfl ?_
    obtain ⟨b16, e17, h⟩ := bd_s h
    refine V_rdR gf_J29_111 rfl rfl rfl e17 dJ29_put_2_56 ?_
    refine V_astore (i := 4) (L' := [(4, pR b16), (5, pI y5), (6, pR a4), (7, pR a7), (0, pR a0), (1, pR a1), (2, pR a2), (3, pI x3)]) dJ29_put_2_59 (by decide) rfl ?_
    refine V_goto 104 dJ29_put_2_61 (by decide) ?_
    refine V_sub [0, 1, 2, 3, 4, 5, 6, 7] rfl ?_
    exact v_J29_put_2_104 hst hk30 h
def f_J29_put_2_30 : Nat → Hp → Nat → Nat → Nat → Nat → Nat → Int32 → Option (Nat × Hp)
  | 0, _, _, _, _, _, _, _ => none
  | n + 1, σ, a7, a4, a0, a1, a2, x3 => f_J29_put_2_30_b (f_J29_put_2_30 n) σ a7 a4 a0 a1 a2 x3
theorem v_J29_put_2_30 {l : Launch} {G : Gx} (hst : l.stackTraces = false) {σ0 σe : Hp} {Se : Ms} {r : Nat} : ∀ (n : Nat) (σ : Hp) (a7 : Nat) (a4 : Nat) (a0 : Nat) (a1 : Nat) (a2 : Nat) (x3 : Int32), f_J29_put_2_30 n σ a7 a4 a0 a1 a2 x3 = some (r, σe) → VV_J29_put_2 l G σ0 (.inl (some (pR r))) σe Se 30 [(7, pR a7), (4, pR a4), (0, pR a0), (1, pR a1), (2, pR a2), (3, pI x3)] [] σ Se
  | 0, _, _, _, _, _, _, _, h => by cases h
  | n + 1, _, _, _, _, _, _, _, h => v_J29_put_2_30_b hst (v_J29_put_2_30 hst n) h
def f_J29_put_2 (σ : Hp) (a0 : Nat) (a1 : Nat) (a2 : Nat) (x3 : Int32) : Option (Nat × Hp) :=
  bd (rdR σ 15 a0 153) fun b1 => if b1 = 0 then (bd (gk σ 15 a0) fun e11 => bp (f_J29_addEntryToEmptyMap σ a0 a1 a2) fun e13 σ14 => some (0, σ14)) else (bd (rdR σ 15 a0 152) fun b4 => if b4 = 0 then (bd (f_J16_requireNonNull a1) fun b7 => bd (ckC σ 19 a1) fun e9 => f_J29_put_2_123 FU σ a1 b1 a0 a1 a2 x3) else (f_J29_put_2_30 FU σ b4 b1 a0 a1 a2 x3))
set_option maxHeartbeats 4000000 in
theorem v_J29_put_2 (l : Launch) (G : Gx) (hst : l.stackTraces = false) (S : Ms) {σ σe : Hp} {a0 : Nat} {a1 : Nat} {a2 : Nat} {x3 : Int32} {r : Nat} (h : f_J29_put_2 σ a0 a1 a2 x3 = some (r, σe)) : MT l G yJ29_put_2 (ws_ yJ29_put_2 cJ29_put_2 10 (some (.object "java/lang/Object"))) 7 161 [pR a0, pR a1, pR a2, pI x3] σ S (.inl (some (pR r))) σe S := by
  refine MT_of (own := RJ29) (nL := 10) (ini := false) (by decide +kernel) rfl (Nat.le_of_ble_eq_true rfl) (fun h => by cases h) hst ?_
  show VV_J29_put_2 l G σ (.inl (some (pR r))) σe S 0 [(0, pR a0), (1, pR a1), (2, pR a2), (3, pI x3)] [] σ S
  unfold f_J29_put_2 at h
  refine V_aload_n (i := 0) 0 dJ29_put_2_0 rfl rfl ?_
  obtain ⟨b1, e2, h⟩ := bd_s h
  refine V_rdR gf_J29_101 rfl rfl rfl e2 dJ29_put_2_1 ?_
  refine V_astore (i := 4) (L' := [(4, pR b1), (0, pR a0), (1, pR a1), (2, pR a2), (3, pI x3)]) dJ29_put_2_4 (by decide) rfl ?_
  refine V_aload (i := 4) 0 dJ29_put_2_6 rfl ?_
  refine V_ifnonnull 19 dJ29_put_2_8 (by decide) (fun c3 => ?_) (fun c3 => ?_)
  · replace h := it_f c3 h
    refine V_aload_n (i := 0) 1 dJ29_put_2_19 rfl rfl ?_
    obtain ⟨b4, e5, h⟩ := bd_s h
    refine V_rdR gf_J29_16 rfl rfl rfl e5 dJ29_put_2_20 ?_
    refine V_astore (i := 7) (L' := [(7, pR b4), (4, pR b1), (0, pR a0), (1, pR a1), (2, pR a2), (3, pI x3)]) dJ29_put_2_23 (by decide) rfl ?_
    refine V_aload (i := 7) 0 dJ29_put_2_25 rfl ?_
    refine V_ifnull 112 dJ29_put_2_27 (by decide) (fun c6 => ?_) (fun c6 => ?_)
    · replace h := it_t c6 h
      refine V_aload_n (i := 1) 3 dJ29_put_2_112 rfl rfl ?_
      obtain ⟨b7, e8, h⟩ := bd_s h
      refine V_callS_v (n9 := 1) [] (v_J16_requireNonNull l G hst _ _ e8) rfl rfl (lw_S q1749 q1750 q96 q1751) (by decide +kernel) (by decide) (Nat.le_of_ble_eq_true rfl) dJ29_put_2_113 ?_
      refine V_pop dJ29_put_2_116 rfl ?_
      refine V_aload_n (i := 1) 3 dJ29_put_2_117 rfl rfl ?_
      obtain ⟨e9, e10, h⟩ := bd_s h
      refine V_ckC (c := 18) e10 q1752 rfl (Or.inr (by decide +kernel)) dJ29_put_2_118 ?_
      refine V_astore (i := 8) (L' := [(8, pR a1), (7, pR b4), (4, pR b1), (0, pR a0), (1, pR a1), (2, pR a2), (3, pI x3)]) dJ29_put_2_121 (by decide) rfl ?_
      refine V_sub [0, 2, 3, 4, 5, 6] rfl ?_
      exact v_J29_put_2_123 hst FU _ _ _ _ _ _ _ h
    · replace h := it_f c6 h
      refine V_sub [0, 1, 2, 3, 4, 5] rfl ?_
      exact v_J29_put_2_30 hst FU _ _ _ _ _ _ _ h
  · replace h := it_t c3 h
    refine V_aload_n (i := 0) 1 dJ29_put_2_11 rfl rfl ?_
    refine V_aload_n (i := 1) 2 dJ29_put_2_12 rfl rfl ?_
    refine V_aload_n (i := 2) 3 dJ29_put_2_13 rfl rfl ?_
    obtain ⟨e11, e12, h⟩ := bd_s h
    obtain ⟨e13, σ14, e15, h⟩ := bp_s h
    refine V_callV_0 (n9 := 2) (c := 14) (r := (RJ29, TJ29, 9)) [] (v_J29_addEntryToEmptyMap l G hst _ e15) rfl rfl (lw_V q1772 q1774 qs22 q117 q1775) (by decide +kernel) (by decide) (Nat.le_of_ble_eq_true rfl) (gk_k e12 rfl) rfl dJ29_put_2_14 ?_
    refine V_null dJ29_put_2_17 ?_
    cases h
    exact V_aret rfl (Or.inl ⟨_, rfl⟩) dJ29_put_2_18

abbrev VV_J29_put (l : Launch) (G : Gx) (σ0 : Hp) (o : Oc) (σe : Hp) (Se : Ms) := V l G RJ29 cJ29_put 3 (some (.object "java/lang/Object")) [] false 8 190 σ0 o σe Se
def f_J29_put (σ : Hp) (a0 : Nat) (a1 : Nat) (a2 : Nat) : Option (Nat × Hp) :=
  bd (gk σ 15 a0) fun e1 => bp (f_J29_put_2 σ a0 a1 a2 (1 : Int32)) fun b3 σ4 => some (b3, σ4)
set_option maxHeartbeats 4000000 in
theorem v_J29_put (l : Launch) (G : Gx) (hst : l.stackTraces = false) (S : Ms) {σ σe : Hp} {a0 : Nat} {a1 : Nat} {a2 : Nat} {r : Nat} (h : f_J29_put σ a0 a1 a2 = some (r, σe)) : MT l G yJ29_put (ws_ yJ29_put cJ29_put 3 (some (.object "java/lang/Object"))) 8 190 [pR a0, pR a1, pR a2] σ S (.inl (some (pR r))) σe S := by
  refine MT_of (own := RJ29) (nL := 3) (ini := false) (by decide +kernel) rfl (Nat.le_of_ble_eq_true rfl) (fun h => by cases h) hst ?_
  show VV_J29_put l G σ (.inl (some (pR r))) σe S 0 [(0, pR a0), (1, pR a1), (2, pR a2)] [] σ S
  unfold f_J29_put at h
  refine V_aload_n (i := 0) 0 dJ29_put_0 rfl rfl ?_
  refine V_aload_n (i := 1) 1 dJ29_put_1 rfl rfl ?_
  refine V_aload_n (i := 2) 2 dJ29_put_2 rfl rfl ?_
  refine V_iconst (v := 1) dJ29_put_3 (by decide) ?_
  obtain ⟨e1, e2, h⟩ := bd_s h
  obtain ⟨b3, σ4, e5, h⟩ := bp_s h
  refine V_callV_v (n9 := 3) (c := 14) (r := (RJ29, TJ29, 9)) [] (v_J29_put_2 l G hst _ e5) rfl rfl (lw_V q1768 q1770 qs21 q117 q1771) (by decide +kernel) (by decide) (Nat.le_of_ble_eq_true rfl) (gk_k e2 rfl) rfl dJ29_put_4 ?_
  cases h
  exact V_aret rfl (Or.inl ⟨_, rfl⟩) dJ29_put_7

abbrev VV_X2_byLength (l : Launch) (G : Gx) (σ0 : Hp) (o : Oc) (σe : Hp) (Se : Ms) := V l G RX2 cX2_byLength 5 (some (.object "java/util/TreeMap")) [] false 9 212 σ0 o σe Se
def f_X2_byLength_100 (k10 : Hp → Int32 → Nat → Nat → Option (Nat × Hp)) (σ : Hp) (x2 : Int32) (a1 : Nat) (a0 : Nat) : Option (Nat × Hp) :=
  k10 σ (x2 + (1 : Int32)) a1 a0
set_option maxHeartbeats 4000000 in
theorem v_X2_byLength_100 {l : Launch} {G : Gx} (hst : l.stackTraces = false) {σ0 σe : Hp} {Se : Ms} {r : Nat} {k10 : Hp → Int32 → Nat → Nat → Option (Nat × Hp)} (hk10 : ∀ (σ : Hp) (x2 : Int32) (a1 : Nat) (a0 : Nat), k10 σ x2 a1 a0 = some (r, σe) → VV_X2_byLength l G σ0 (.inl (some (pR r))) σe Se 10 [(2, pI x2), (1, pR a1), (0, pR a0)] [] σ Se) {σ : Hp} {x2 : Int32} {a1 : Nat} {a0 : Nat} (h : f_X2_byLength_100 k10 σ x2 a1 a0 = some (r, σe)) : VV_X2_byLength l G σ0 (.inl (some (pR r))) σe Se 100 [(2, pI x2), (1, pR a1), (0, pR a0)] [] σ Se := by
  unfold f_X2_byLength_100 at h
  refine V_iinc (v := (x2 + (1 : Int32))) (L' := [(2, pI (x2 + (1 : Int32))), (1, pR a1), (0, pR a0)]) 0 dX2_byLength_100 rfl rfl (by decide) rfl ?_
  refine V_goto 10 dX2_byLength_103 (by decide) ?_
  refine V_sub [0, 1, 2] rfl ?_
  exact hk10 _ _ _ _ h
def f_X2_byLength_82 (k10 : Hp → Int32 → Nat → Nat → Option (Nat × Hp)) (σ : Hp) (x3 : Int32) (x2 : Int32) (a1 : Nat) (a0 : Nat) (s0 : Int32) : Option (Nat × Hp) :=
  bp (f_J23_valueOf σ x3) fun b1 σ2 => bp (f_J23_valueOf σ2 (s0 + (1 : Int32))) fun b4 σ5 => bd (gk σ5 15 a1) fun e7 => bp (f_J29_put σ5 a1 b1 b4) fun b9 σ10 => f_X2_byLength_100 k10 σ10 x2 a1 a0
set_option maxHeartbeats 4000000 in
theorem v_X2_byLength_82 {l : Launch} {G : Gx} (hst : l.stackTraces = false) {σ0 σe : Hp} {Se : Ms} {r : Nat} {k10 : Hp → Int32 → Nat → Nat → Option (Nat × Hp)} (hk10 : ∀ (σ : Hp) (x2 : Int32) (a1 : Nat) (a0 : Nat), k10 σ x2 a1 a0 = some (r, σe) → VV_X2_byLength l G σ0 (.inl (some (pR r))) σe Se 10 [(2, pI x2), (1, pR a1), (0, pR a0)] [] σ Se) {σ : Hp} {x3 : Int32} {x2 : Int32} {a1 : Nat} {a0 : Nat} {s0 : Int32} (h : f_X2_byLength_82 k10 σ x3 x2 a1 a0 s0 = some (r, σe)) : VV_X2_byLength l G σ0 (.inl (some (pR r))) σe Se 82 [(3, pI x3), (2, pI x2), (1, pR a1), (0, pR a0)] [pI s0] σ Se := by
  unfold f_X2_byLength_82 at h
  refine V_istore (i := 4) (L' := [(4, pI s0), (3, pI x3), (2, pI x2), (1, pR a1), (0, pR a0)]) dX2_byLength_82 (by decide) rfl ?_
  refine V_aload_n (i := 1) 3 dX2_byLength_84 rfl rfl ?_
  refine V_iload_n (i := 3) 1 dX2_byLength_85 rfl rfl ?_
  obtain ⟨b1, σ2, e3, h⟩ := bp_s h
  refine V_callS_v (n9 := 1) [pR a1] (v_J23_valueOf l G hst _ e3) rfl rfl (lw_S q1716 q1717 q105 q1718) (by decide +kernel) (by decide) (Nat.le_of_ble_eq_true rfl) dX2_byLength_86 ?_
  refine V_iload (i := 4) 0 dX2_byLength_89 rfl ?_
  refine V_iconst (v := 1) dX2_byLength_91 (by decide) ?_
  refine V_iadd dX2_byLength_92 ?_
  obtain ⟨b4, σ5, e6, h⟩ := bp_s h
  refine V_callS_v (n9 := 1) [pR b1, pR a1] (v_J23_valueOf l G hst _ e6) rfl rfl (lw_S q1716 q1717 q105 q1718) (by decide +kernel) (by decide) (Nat.le_of_ble_eq_true rfl) dX2_byLength_93 ?_
  obtain ⟨e7, e8, h⟩ := bd_s h
  obtain ⟨b9, σ10, e11, h⟩ := bp_s h
  refine V_callV_v (n9 := 2) (c := 14) (r := (RJ29, TJ29, 9)) [] (v_J29_put l G hst _ e11) rfl rfl (lw_V q1764 q1765 q1766 q117 q1767) (by decide +kernel) (by decide) (Nat.le_of_ble_eq_true rfl) (gk_k e8 rfl) rfl dX2_byLength_96 ?_
  refine V_pop dX2_byLength_99 rfl ?_
  refine V_sub [2, 3, 4] rfl ?_
  exact v_X2_byLength_100 hst hk10 h
def f_X2_byLength_10_b (k10 : Hp → Int32 → Nat → Nat → Option (Nat × Hp)) (σ : Hp) (x2 : Int32) (a1 : Nat) (a0 : Nat) : Option (Nat × Hp) :=
  bd (rdR σ 2 a0 20) fun b1 => bd (gk σ 10 b1) fun e3 => bp (f_J2_size σ b1) fun y5 σ6 => if y5 ≤ x2 then (some (a1, σ6)) else (bd (rdR σ6 2 a0 20) fun b9 => bd (gk σ6 10 b9) fun e11 => bp (f_J2_get σ6 b9 x2) fun b13 σ14 => bd (ckC σ14 3 b13) fun e16 => bd (gk σ14 3 b13) fun e18 => bp (f_X4_isFree σ14 b13) fun y20 σ21 => if y20 = (0 : Int32) then (f_X2_byLength_100 k10 σ21 x2 a1 a0) else (bd (rdR σ21 2 a0 20) fun b24 => bd (gk σ21 10 b24) fun e26 => bp (f_J2_get σ21 b24 x2) fun b28 σ29 => bd (ckC σ29 3 b28) fun e31 => bd (rdI σ29 3 b28 30) fun y33 => bp (f_J23_valueOf σ29 y33) fun b35 σ36 => bd (gk σ36 15 a1) fun e38 => bp (f_J29_containsKey σ36 a1 b35) fun y40 σ41 => if y40 = (0 : Int32) then (f_X2_byLength_82 k10 σ41 y33 x2 a1 a0 (0 : Int32)) else (bp (f_J23_valueOf σ41 y33) fun b44 σ45 => bd (gk σ45 15 a1) fun e47 => bp (f_J29_get σ45 a1 b44) fun b49 σ50 => bd (ckC σ50 19 b49) fun e52 => bd (gk σ50 19 b49) fun e54 => bp (f_J23_intValue σ50 b49) fun y56 σ57 => f_X2_byLength_82 k10 σ57 y33 x2 a1 a0 y56)))
set_option maxHeartbeats 4000000 in
theorem v_X2_byLength_10_b {l : Launch} {G : Gx} (hst : l.stackTraces = false) {σ0 σe : Hp} {Se : Ms} {r : Nat} {k10 : Hp → Int32 → Nat → Nat → Option (Nat × Hp)} (hk10 : ∀ (σ : Hp) (x2 : Int32) (a1 : Nat) (a0 : Nat), k10 σ x2 a1 a0 = some (r, σe) → VV_X2_byLength l G σ0 (.inl (some (pR r))) σe Se 10 [(2, pI x2), (1, pR a1), (0, pR a0)] [] σ Se) {σ : Hp} {x2 : Int32} {a1 : Nat} {a0 : Nat} (h : f_X2_byLength_10_b k10 σ x2 a1 a0 = some (r, σe)) : VV_X2_byLength l G σ0 (.inl (some (pR r))) σe Se 10 [(2, pI x2), (1, pR a1), (0, pR a0)] [] σ Se := by
  unfold f_X2_byLength_10_b at h
  refine V_iload_n (i := 2) 0 dX2_byLength_10 rfl rfl ?_
  refine V_aload_n (i := 0) 2 dX2_byLength_11 rfl rfl ?_
  obtain ⟨b1, e2, h⟩ := bd_s h
  refine V_rdR gf_X2_12 rfl rfl rfl e2 dX2_byLength_12 ?_
  obtain ⟨e3, e4, h⟩ := bd_s h
  obtain ⟨y5, σ6, e7, h⟩ := bp_s h
  refine V_callV_v (n9 := 0) (c := 9) (r := (RJ2, TJ2, 3)) [pI x2] (v_J2_size l G hst _ e7) rfl rfl (lw_V q935 q861 q862 q80 q863) (by decide +kernel) (by decide) (Nat.le_of_ble_eq_true rfl) (gk_k e4 rfl) rfl dX2_byLength_15 ?_
  refine V_icmp_ge 106 dX2_byLength_18 (by decide) (fun c8 => ?_) (fun c8 => ?_)
  · replace h := it_t c8 h
    refine V_aload_n (i := 1) 1 dX2_byLength_106 rfl rfl ?_
    cases h
    exact V_aret rfl (Or.inl ⟨_, rfl⟩) dX2_byLength_107
  · replace h := it_f c8 h
    refine V_aload_n (i := 0) 2 dX2_byLength_21 rfl rfl ?_
    obtain ⟨b9, e10, h⟩ := bd_s h
    refine V_rdR gf_X2_12 rfl rfl rfl e10 dX2_byLength_22 ?_
    refine V_iload_n (i := 2) 0 dX2_byLength_25 rfl rfl ?_
    obtain ⟨e11, e12, h⟩ := bd_s h
    obtain ⟨b13, σ14, e15, h⟩ := bp_s h
    refine V_callV_v (n9 := 1) (c := 9) (r := (RJ2, TJ2, 3)) [] (v_J2_get l G hst _ e15) rfl rfl (lw_V q936 q937 q938 q80 q939) (by decide +kernel) (by decide) (Nat.le_of_ble_eq_true rfl) (gk_k e12 rfl) rfl dX2_byLength_26 ?_
    obtain ⟨e16, e17, h⟩ := bd_s h
    refine V_ckC (c := 2) e17 q948 rfl (Or.inl rfl) dX2_byLength_29 ?_
    obtain ⟨e18, e19, h⟩ := bd_s h
    obtain ⟨y20, σ21, e22, h⟩ := bp_s h
    refine V_callV_v (n9 := 0) (c := 2) (r := (RX4, TX4, 6)) [] (v_X4_isFree l G hst _ e22) rfl rfl (lw_V q1142 q1056 q1057 q98 q1058) (by decide +kernel) (by decide) (Nat.le_of_ble_eq_true rfl) (gk_k e19 rfl) rfl dX2_byLength_32 ?_
    refine V_if_eq 100 dX2_byLength_35 (by decide) (fun c23 => ?_) (fun c23 => ?_)
    · replace h := it_t c23 h
      refine V_sub [0, 1, 2] rfl ?_
      exact v_X2_byLength_100 hst hk10 h
    · replace h := it_f c23 h
      refine V_aload_n (i := 0) 2 dX2_byLength_38 rfl rfl ?_
      obtain ⟨b24, e25, h⟩ := bd_s h
      refine V_rdR gf_X2_12 rfl rfl rfl e25 dX2_byLength_39 ?_
      refine V_iload_n (i := 2) 0 dX2_byLength_42 rfl rfl ?_
      obtain ⟨e26, e27, h⟩ := bd_s h
      obtain ⟨b28, σ29, e30, h⟩ := bp_s h
      refine V_callV_v (n9 := 1) (c := 9) (r := (RJ2, TJ2, 3)) [] (v_J2_get l G hst _ e30) rfl rfl (lw_V q936 q937 q938 q80 q939) (by decide +kernel) (by decide) (Nat.le_of_ble_eq_true rfl) (gk_k e27 rfl) rfl dX2_byLength_43 ?_
      obtain ⟨e31, e32, h⟩ := bd_s h
      refine V_ckC (c := 2) e32 q948 rfl (Or.inl rfl) dX2_byLength_46 ?_
      obtain ⟨y33, e34, h⟩ := bd_s h
      refine V_rdI gf_X2_129 rfl rfl rfl e34 dX2_byLength_49 ?_
      refine V_istore_n (i := 3) (L' := [(3, pI y33), (2, pI x2), (1, pR a1), (0, pR a0)]) dX2_byLength_52 rfl (by decide) rfl ?_
      refine V_aload_n (i := 1) 2 dX2_byLength_53 rfl rfl ?_
      refine V_iload_n (i := 3) 0 dX2_byLength_54 rfl rfl ?_
      obtain ⟨b35, σ36, e37, h⟩ := bp_s h
      refine V_callS_v (n9 := 1) [pR a1] (v_J23_valueOf l G hst _ e37) rfl rfl (lw_S q1716 q1717 q105 q1718) (by decide +kernel) (by decide) (Nat.le_of_ble_eq_true rfl) dX2_byLength_55 ?_
      obtain ⟨e38, e39, h⟩ := bd_s h
      obtain ⟨y40, σ41, e42, h⟩ := bp_s h
      refine V_callV_v (n9 := 1) (c := 14) (r := (RJ29, TJ29, 9)) [] (v_J29_containsKey l G hst _ e42) rfl rfl (lw_V q1735 q1736 q1737 q117 q1738) (by decide +kernel) (by decide) (Nat.le_of_ble_eq_true rfl) (gk_k e39 rfl) rfl dX2_byLength_58 ?_
      refine V_if_eq 81 dX2_byLength_61 (by decide) (fun c43 => ?_) (fun c43 => ?_)
      · replace h := it_t c43 h
        refine V_iconst (v := 0) dX2_byLength_81 (by decide) ?_
        refine V_sub [0, 1, 2, 3] rfl ?_
        exact v_X2_byLength_82 hst hk10 h
      · replace h := it_f c43 h
        refine V_aload_n (i := 1) 2 dX2_byLength_64 rfl rfl ?_
        refine V_iload_n (i := 3) 0 dX2_byLength_65 rfl rfl ?_
        obtain ⟨b44, σ45, e46, h⟩ := bp_s h
        refine V_callS_v (n9 := 1) [pR a1] (v_J23_valueOf l G hst _ e46) rfl rfl (lw_S q1716 q1717 q105 q1718) (by decide +kernel) (by decide) (Nat.le_of_ble_eq_true rfl) dX2_byLength_66 ?_
        obtain ⟨e47, e48, h⟩ := bd_s h
        obtain ⟨b49, σ50, e51, h⟩ := bp_s h
        refine V_callV_v (n9 := 1) (c := 14) (r := (RJ29, TJ29, 9)) [] (v_J29_get l G hst _ e51) rfl rfl (lw_V q1755 q1756 q1757 q117 q1758) (by decide +kernel) (by decide) (Nat.le_of_ble_eq_true rfl) (gk_k e48 rfl) rfl dX2_byLength_69 ?_
        obtain ⟨e52, e53, h⟩ := bd_s h
        refine V_ckC (c := 18) e53 q1759 rfl (Or.inl rfl) dX2_byLength_72 ?_
        obtain ⟨e54, e55, h⟩ := bd_s h
        obtain ⟨y56, σ57, e58, h⟩ := bp_s h
        refine V_callV_v (n9 := 0) (c := 18) (r := (RJ23, TJ23, 1)) [] (v_J23_intValue l G hst _ e58) rfl rfl (lw_V q1760 q1761 q1762 q105 q1763) (by decide +kernel) (by decide) (Nat.le_of_ble_eq_true rfl) (gk_k e55 rfl) rfl dX2_byLength_75 ?_
        refine V_goto 82 dX2_byLength_78 (by decide) ?_
        refine V_sub [0, 1, 2, 3] rfl ?_
        exact v_X2_byLength_82 hst hk10 h
def f_X2_byLength_10 : Nat → Hp → Int32 → Nat → Nat → Option (Nat × Hp)
  | 0, _, _, _, _ => none
  | n + 1, σ, x2, a1, a0 => f_X2_byLength_10_b (f_X2_byLength_10 n) σ x2 a1 a0
theorem v_X2_byLength_10 {l : Launch} {G : Gx} (hst : l.stackTraces = false) {σ0 σe : Hp} {Se : Ms} {r : Nat} : ∀ (n : Nat) (σ : Hp) (x2 : Int32) (a1 : Nat) (a0 : Nat), f_X2_byLength_10 n σ x2 a1 a0 = some (r, σe) → VV_X2_byLength l G σ0 (.inl (some (pR r))) σe Se 10 [(2, pI x2), (1, pR a1), (0, pR a0)] [] σ Se
  | 0, _, _, _, _, h => by cases h
  | n + 1, _, _, _, _, h => v_X2_byLength_10_b hst (v_X2_byLength_10 hst n) h
def f_X2_byLength (σ : Hp) (a0 : Nat) : Option (Nat × Hp) :=
  bd (gz (nC σ 15 9) (hN σ)) fun e1 => bp (f_J29_init (nC σ 15 9) (hN σ)) fun e3 σ4 => f_X2_byLength_10 FU σ4 (0 : Int32) (hN σ) a0
set_option maxHeartbeats 4000000 in
theorem v_X2_byLength (l : Launch) (G : Gx) (hst : l.stackTraces = false) (S : Ms) {σ σe : Hp} {a0 : Nat} {r : Nat} (h : f_X2_byLength σ a0 = some (r, σe)) : MT l G yX2_byLength (ws_ yX2_byLength cX2_byLength 5 (some (.object "java/util/TreeMap"))) 9 212 [pR a0] σ S (.inl (some (pR r))) σe S := by
  refine MT_of (own := RX2) (nL := 5) (ini := false) (by decide +kernel) rfl (Nat.le_of_ble_eq_true rfl) (fun h => by cases h) hst ?_
  show VV_X2_byLength l G σ (.inl (some (pR r))) σe S 0 [(0, pR a0)] [] σ S
  unfold f_X2_byLength at h
  refine V_new (n := 9) ci_14 (by decide +kernel) q1682 q1683 q117 dX2_byLength_0 ?_
  refine V_dup dX2_byLength_3 rfl ?_
  obtain ⟨e1, e2, h⟩ := bd_s h
  obtain ⟨e3, σ4, e5, h⟩ := bp_s h
  refine V_callI_0 (n9 := 0) [pR (hN σ)] (v_J29_init l G hst _ e5) rfl rfl q1686 q117 q1684 q1685 rfl (by decide +kernel) (by decide) (Nat.le_of_ble_eq_true rfl) (gz_n e2) dX2_byLength_4 ?_
  refine V_astore_n (i := 1) (L' := [(1, pR (hN σ)), (0, pR a0)]) dX2_byLength_7 rfl (by decide) rfl ?_
  refine V_iconst (v := 0) dX2_byLength_8 (by decide) ?_
  refine V_istore_n (i := 2) (L' := [(2, pI (0 : Int32)), (1, pR (hN σ)), (0, pR a0)]) dX2_byLength_9 rfl (by decide) rfl ?_
  refine V_sub [0, 1, 2] rfl ?_
  exact v_X2_byLength_10 hst FU _ _ _ _ h

abbrev VV_J7_init (l : Launch) (G : Gx) (σ0 : Hp) (o : Oc) (σe : Hp) (Se : Ms) := V l G RJ7 cJ7_init 2 none [] true 1 30 σ0 o σe Se
def f_J7_init (σ : Hp) (a0 : Nat) (x1 : Int32) : Option (Unit × Hp) :=
  bd (gz σ a0) fun e1 => if (1 : Int32) = (0 : Int32) then (none) else (bd (nwA σ 104 x1) fun σ4 => bd (wrR σ4 13 a0 130 (hN σ)) fun σ6 => bd (wrY σ6 13 a0 131 (0 : Int32)) fun σ8 => some ((), σ8))
set_option maxHeartbeats 4000000 in
theorem v_J7_init (l : Launch) (G : Gx) (hst : l.stackTraces = false) (S : Ms) {σ σe : Hp} {a0 : Nat} {x1 : Int32} {r : Unit} (h : f_J7_init σ a0 x1 = some (r, σe)) : MT l G yJ7_init (ws_ yJ7_init cJ7_init 2 none) 1 30 [pR a0, pI x1] σ S (.inl none) σe S := by
  refine MT_of (own := RJ7) (nL := 2) (ini := true) (by decide +kernel) rfl (Nat.le_of_ble_eq_true rfl) (fun h => rfl) hst ?_
  show VV_J7_init l G σ (.inl none) σe S 0 [(0, pR a0), (1, pI x1)] [] σ S
  unfold f_J7_init at h
  refine V_aload_n (i := 0) 0 dJ7_init_0 rfl rfl ?_
  obtain ⟨e1, e2, h⟩ := bd_s h
  refine V_objInit (gz_n e2) q299 q131 q132 (by decide) (Nat.le_of_ble_eq_true rfl) dJ7_init_1 ?_
  refine V_gets (v := pI 1) (fun _ _ h => h.2.2.2.2.2.2.1) q300 rfl dJ7_init_4 ?_
  refine V_if_eq 25 dJ7_init_7 (by decide) (fun c3 => ?_) (fun c3 => ?_)
  · replace h := it_t c3 h
    refine V_aload_n (i := 0) 0 dJ7_init_25 rfl rfl ?_
    refine V_iload_n (i := 1) 1 dJ7_init_26 rfl rfl ?_
    cases h
  · replace h := it_f c3 h
    refine V_aload_n (i := 0) 0 dJ7_init_10 rfl rfl ?_
    refine V_iload_n (i := 1) 1 dJ7_init_11 rfl rfl ?_
    obtain ⟨σ4, e5, h⟩ := bd_s h
    refine V_nwA (t := 4) e5 rfl (by decide) q323 dJ7_init_12 ?_
    obtain ⟨σ6, e7, h⟩ := bd_s h
    refine V_wrR gw_J7_15 (okF_arr _ rfl) rfl rfl e7 dJ7_init_14 ?_
    refine V_aload_n (i := 0) 0 dJ7_init_17 rfl rfl ?_
    refine V_iconst (v := 0) dJ7_init_18 (by decide) ?_
    obtain ⟨σ8, e9, h⟩ := bd_s h
    refine V_wrY gw_J7_22 rfl rfl rfl e9 dJ7_init_19 ?_
    refine V_goto 38 dJ7_init_22 (by decide) ?_
    cases h
    exact V_vret rfl dJ7_init_38

abbrev VV_J7_length (l : Launch) (G : Gx) (σ0 : Hp) (o : Oc) (σe : Hp) (Se : Ms) := V l G RJ7 cJ7_length 1 (some .int) [] false 1 30 σ0 o σe Se
def f_J7_length (σ : Hp) (a0 : Nat) : Option (Int32 × Hp) :=
  bd (rdI σ 13 a0 133) fun y1 => some (y1, σ)
set_option maxHeartbeats 4000000 in
theorem v_J7_length (l : Launch) (G : Gx) (hst : l.stackTraces = false) (S : Ms) {σ σe : Hp} {a0 : Nat} {r : Int32} (h : f_J7_length σ a0 = some (r, σe)) : MT l G yJ7_length (ws_ yJ7_length cJ7_length 1 (some .int)) 1 30 [pR a0] σ S (.inl (some (pI r))) σe S := by
  refine MT_of (own := RJ7) (nL := 1) (ini := false) (by decide +kernel) rfl (Nat.le_of_ble_eq_true rfl) (fun h => by cases h) hst ?_
  show VV_J7_length l G σ (.inl (some (pI r))) σe S 0 [(0, pR a0)] [] σ S
  unfold f_J7_length at h
  refine V_aload_n (i := 0) 0 dJ7_length_0 rfl rfl ?_
  obtain ⟨y1, e2, h⟩ := bd_s h
  refine V_rdI gf_J7_79 rfl rfl rfl e2 dJ7_length_1 ?_
  cases h
  exact V_iret rfl dJ7_length_4

abbrev VV_J7_newCapacity (l : Launch) (G : Gx) (σ0 : Hp) (o : Oc) (σe : Hp) (Se : Ms) := V l G RJ7 cJ7_newCapacity 6 (some .int) [] false 2 53 σ0 o σe Se
def f_J7_newCapacity (σ : Hp) (a0 : Nat) (x1 : Int32) : Option (Int32 × Hp) :=
  bd (rdR σ 13 a0 130) fun b1 => bd (elN σ b1) fun y3 => bd (rdI σ 13 a0 131) fun y5 => bd (rdI σ 13 a0 131) fun y7 => bd (f_J3_newLength y3 ((x1 <<< (y5 &&& 31)) - y3) (y3 + ((2 : Int32) <<< (y7 &&& 31)))) fun y9 => if y9 = (2147483647 : Int32) then (none) else (bd (rdI σ 13 a0 131) fun y12 => some ((y9 >>> (y12 &&& 31)), σ))
set_option maxHeartbeats 4000000 in
theorem v_J7_newCapacity (l : Launch) (G : Gx) (hst : l.stackTraces = false) (S : Ms) {σ σe : Hp} {a0 : Nat} {x1 : Int32} {r : Int32} (h : f_J7_newCapacity σ a0 x1 = some (r, σe)) : MT l G yJ7_newCapacity (ws_ yJ7_newCapacity cJ7_newCapacity 6 (some .int)) 2 53 [pR a0, pI x1] σ S (.inl (some (pI r))) σe S := by
  refine MT_of (own := RJ7) (nL := 6) (ini := false) (by decide +kernel) rfl (Nat.le_of_ble_eq_true rfl) (fun h => by cases h) hst ?_
  show VV_J7_newCapacity l G σ (.inl (some (pI r))) σe S 0 [(0, pR a0), (1, pI x1)] [] σ S
  unfold f_J7_newCapacity at h
  refine V_aload_n (i := 0) 0 dJ7_newCapacity_0 rfl rfl ?_
  obtain ⟨b1, e2, h⟩ := bd_s h
  refine V_rdR gf_J7_15 rfl rfl rfl e2 dJ7_newCapacity_1 ?_
  obtain ⟨y3, e4, h⟩ := bd_s h
  refine V_elN e4 dJ7_newCapacity_4 ?_
  refine V_istore_n (i := 2) (L' := [(2, pI y3), (0, pR a0), (1, pI x1)]) dJ7_newCapacity_5 rfl (by decide) rfl ?_
  refine V_iload_n (i := 1) 2 dJ7_newCapacity_6 rfl rfl ?_
  refine V_aload_n (i := 0) 1 dJ7_newCapacity_7 rfl rfl ?_
  obtain ⟨y5, e6, h⟩ := bd_s h
  refine V_rdI gf_J7_22 rfl rfl rfl e6 dJ7_newCapacity_8 ?_
  refine V_ishl dJ7_newCapacity_11 ?_
  refine V_istore_n (i := 3) (L' := [(3, pI (x1 <<< (y5 &&& 31))), (2, pI y3), (0, pR a0), (1, pI x1)]) dJ7_newCapacity_12 rfl (by decide) rfl ?_
  refine V_iload_n (i := 3) 0 dJ7_newCapacity_13 rfl rfl ?_
  refine V_iload_n (i := 2) 1 dJ7_newCapacity_14 rfl rfl ?_
  refine V_isub dJ7_newCapacity_15 ?_
  refine V_istore (i := 4) (L' := [(4, pI ((x1 <<< (y5 &&& 31)) - y3)), (3, pI (x1 <<< (y5 &&& 31))), (2, pI y3), (0, pR a0), (1, pI x1)]) dJ7_newCapacity_16 (by decide) rfl ?_
  refine V_iload_n (i := 2) 2 dJ7_newCapacity_18 rfl rfl ?_
  refine V_iload (i := 4) 0 dJ7_newCapacity_19 rfl ?_
  refine V_iload_n (i := 2) 2 dJ7_newCapacity_21 rfl rfl ?_
  refine V_iconst (v := 2) dJ7_newCapacity_22 (by decide) ?_
  refine V_aload_n (i := 0) 3 dJ7_newCapacity_23 rfl rfl ?_
  obtain ⟨y7, e8, h⟩ := bd_s h
  refine V_rdI gf_J7_22 rfl rfl rfl e8 dJ7_newCapacity_24 ?_
  refine V_ishl dJ7_newCapacity_27 ?_
  refine V_iadd dJ7_newCapacity_28 ?_
  obtain ⟨y9, e10, h⟩ := bd_s h
  refine V_callS_v (n9 := 3) [] (v_J3_newLength l G hst _ _ e10) rfl rfl (lw_S q383 q185 q81 q186) (by decide +kernel) (by decide) (Nat.le_of_ble_eq_true rfl) dJ7_newCapacity_29 ?_
  refine V_istore (i := 5) (L' := [(5, pI y9), (4, pI ((x1 <<< (y5 &&& 31)) - y3)), (3, pI (x1 <<< (y5 &&& 31))), (2, pI y3), (0, pR a0), (1, pI x1)]) dJ7_newCapacity_32 (by decide) rfl ?_
  refine V_iload (i := 5) 0 dJ7_newCapacity_34 rfl ?_
  refine V_ldc dJ7_newCapacity_36 q384 ?_
  refine V_icmp_ne 51 dJ7_newCapacity_38 (by decide) (fun c11 => ?_) (fun c11 => ?_)
  · replace h := it_f c11 h
    refine V_iload (i := 5) 0 dJ7_newCapacity_51 rfl ?_
    refine V_aload_n (i := 0) 4 dJ7_newCapacity_53 rfl rfl ?_
    obtain ⟨y12, e13, h⟩ := bd_s h
    refine V_rdI gf_J7_22 rfl rfl rfl e13 dJ7_newCapacity_54 ?_
    refine V_ishr dJ7_newCapacity_57 ?_
    cases h
    exact V_iret rfl dJ7_newCapacity_58
  · replace h := it_t c11 h
    cases h

abbrev VV_J7_ensureCapacityInternal (l : Launch) (G : Gx) (σ0 : Hp) (o : Oc) (σe : Hp) (Se : Ms) := V l G RJ7 cJ7_ensureCapacityInternal 3 none [] false 3 102 σ0 o σe Se
def f_J7_ensureCapacityInternal_38 (σ : Hp) : Option (Unit × Hp) :=
  some ((), σ)
set_option maxHeartbeats 4000000 in
theorem v_J7_ensureCapacityInternal_38 {l : Launch} {G : Gx} (hst : l.stackTraces = false) {σ0 σe : Hp} {Se : Ms} {r : Unit} {σ : Hp} (h : f_J7_ensureCapacityInternal_38 σ  = some (r, σe)) : VV_J7_ensureCapacityInternal l G σ0 (.inl none) σe Se 38 [] [] σ Se := by
  unfold f_J7_ensureCapacityInternal_38 at h
  cases h
  exact V_vret rfl dJ7_ensureCapacityInternal_38
def f_J7_ensureCapacityInternal (σ : Hp) (a0 : Nat) (x1 : Int32) : Option (Unit × Hp) :=
  bd (rdR σ 13 a0 130) fun b1 => bd (elN σ b1) fun y3 => bd (rdI σ 13 a0 131) fun y5 => if (x1 - (y3 >>> (y5 &&& 31))) ≤ (0 : Int32) then (f_J7_ensureCapacityInternal_38 σ ) else (bd (rdR σ 13 a0 130) fun b8 => bd (gk σ 13 a0) fun e10 => bp (f_J7_newCapacity σ a0 x1) fun y12 σ13 => bd (rdI σ13 13 a0 131) fun y15 => bp (f_J5_copyOf_3 σ13 b8 (y12 <<< (y15 &&& 31))) fun b17 σ18 => bd (wrR σ18 13 a0 130 b17) fun σ20 => f_J7_ensureCapacityInternal_38 σ20 )
set_option maxHeartbeats 4000000 in
theorem v_J7_ensureCapacityInternal (l : Launch) (G : Gx) (hst : l.stackTraces = false) (S : Ms) {σ σe : Hp} {a0 : Nat} {x1 : Int32} {r : Unit} (h : f_J7_ensureCapacityInternal σ a0 x1 = some (r, σe)) : MT l G yJ7_ensureCapacityInternal (ws_ yJ7_ensureCapacityInternal cJ7_ensureCapacityInternal 3 none) 3 102 [pR a0, pI x1] σ S (.inl none) σe S := by
  refine MT_of (own := RJ7) (nL := 3) (ini := false) (by decide +kernel) rfl (Nat.le_of_ble_eq_true rfl) (fun h => by cases h) hst ?_
  show VV_J7_ensureCapacityInternal l G σ (.inl none) σe S 0 [(0, pR a0), (1, pI x1)] [] σ S
  unfold f_J7_ensureCapacityInternal at h
  refine V_aload_n (i := 0) 0 dJ7_ensureCapacityInternal_0 rfl rfl ?_
  obtain ⟨b1, e2, h⟩ := bd_s h
  refine V_rdR gf_J7_15 rfl rfl rfl e2 dJ7_ensureCapacityInternal_1 ?_
  obtain ⟨y3, e4, h⟩ := bd_s h
  refine V_elN e4 dJ7_ensureCapacityInternal_4 ?_
  refine V_aload_n (i := 0) 0 dJ7_ensureCapacityInternal_5 rfl rfl ?_
  obtain ⟨y5, e6, h⟩ := bd_s h
  refine V_rdI gf_J7_22 rfl rfl rfl e6 dJ7_ensureCapacityInternal_6 ?_
  refine V_ishr dJ7_ensureCapacityInternal_9 ?_
  refine V_istore_n (i := 2) (L' := [(2, pI (y3 >>> (y5 &&& 31))), (0, pR a0), (1, pI x1)]) dJ7_ensureCapacityInternal_10 rfl (by decide) rfl ?_
  refine V_iload_n (i := 1) 2 dJ7_ensureCapacityInternal_11 rfl rfl ?_
  refine V_iload_n (i := 2) 0 dJ7_ensureCapacityInternal_12 rfl rfl ?_
  refine V_isub dJ7_ensureCapacityInternal_13 ?_
  refine V_if_le 38 dJ7_ensureCapacityInternal_14 (by decide) (fun c7 => ?_) (fun c7 => ?_)
  · replace h := it_t c7 h
    refine V_sub [] rfl ?_
    exact v_J7_ensureCapacityInternal_38 hst h
  · replace h := it_f c7 h
    refine V_aload_n (i := 0) 1 dJ7_ensureCapacityInternal_17 rfl rfl ?_
    refine V_aload_n (i := 0) 1 dJ7_ensureCapacityInternal_18 rfl rfl ?_
    obtain ⟨b8, e9, h⟩ := bd_s h
    refine V_rdR gf_J7_15 rfl rfl rfl e9 dJ7_ensureCapacityInternal_19 ?_
    refine V_aload_n (i := 0) 1 dJ7_ensureCapacityInternal_22 rfl rfl ?_
    refine V_iload_n (i := 1) 2 dJ7_ensureCapacityInternal_23 rfl rfl ?_
    obtain ⟨e10, e11, h⟩ := bd_s h
    obtain ⟨y12, σ13, e14, h⟩ := bp_s h
    refine V_callP_v (n9 := 1) (c := 12) (r := (RJ8, TJ8, 4)) [pR b8, pR a0] (v_J7_newCapacity l G hst _ e14) rfl rfl q379 q2397 (by decide +kernel) q381 q86 q382 (by decide +kernel) (by decide) (Nat.le_of_ble_eq_true rfl) (gk_k e11 rfl) rfl dJ7_ensureCapacityInternal_24 ?_
    refine V_aload_n (i := 0) 1 dJ7_ensureCapacityInternal_27 rfl rfl ?_
    obtain ⟨y15, e16, h⟩ := bd_s h
    refine V_rdI gf_J7_22 rfl rfl rfl e16 dJ7_ensureCapacityInternal_28 ?_
    refine V_ishl dJ7_ensureCapacityInternal_31 ?_
    obtain ⟨b17, σ18, e19, h⟩ := bp_s h
    refine V_callS_v (n9 := 2) [pR a0] (v_J5_copyOf_3 l G hst _ e19) rfl rfl (lw_S q385 q386 q83 q387) (by decide +kernel) (by decide) (Nat.le_of_ble_eq_true rfl) dJ7_ensureCapacityInternal_32 ?_
    obtain ⟨σ20, e21, h⟩ := bd_s h
    refine V_wrR gw_J7_15 (okF_arr _ rfl) rfl rfl e21 dJ7_ensureCapacityInternal_35 ?_
    refine V_sub [] rfl ?_
    exact v_J7_ensureCapacityInternal_38 hst h

abbrev VV_J7_isLatin1 (l : Launch) (G : Gx) (σ0 : Hp) (o : Oc) (σe : Hp) (Se : Ms) := V l G RJ7 cJ7_isLatin1 1 (some .boolean) [] false 1 30 σ0 o σe Se
def f_J7_isLatin1_18 (σ : Hp) (s0 : Int32) : Option (Int32 × Hp) :=
  bd (okZ s0) fun e1 => some (s0, σ)
set_option maxHeartbeats 4000000 in
theorem v_J7_isLatin1_18 {l : Launch} {G : Gx} (hst : l.stackTraces = false) {σ0 σe : Hp} {Se : Ms} {r : Int32} {σ : Hp} {s0 : Int32} (h : f_J7_isLatin1_18 σ s0 = some (r, σe)) : VV_J7_isLatin1 l G σ0 (.inl (some (pI r))) σe Se 18 [] [pI s0] σ Se := by
  unfold f_J7_isLatin1_18 at h
  obtain ⟨e1, e2, h⟩ := bd_s h
  cases h
  exact V_retZ e2 rfl dJ7_isLatin1_18
def f_J7_isLatin1_17 (σ : Hp) : Option (Int32 × Hp) :=
  f_J7_isLatin1_18 σ (0 : Int32)
set_option maxHeartbeats 4000000 in
theorem v_J7_isLatin1_17 {l : Launch} {G : Gx} (hst : l.stackTraces = false) {σ0 σe : Hp} {Se : Ms} {r : Int32} {σ : Hp} (h : f_J7_isLatin1_17 σ  = some (r, σe)) : VV_J7_isLatin1 l G σ0 (.inl (some (pI r))) σe Se 17 [] [] σ Se := by
  unfold f_J7_isLatin1_17 at h
  refine V_iconst (v := 0) dJ7_isLatin1_17 (by decide) ?_
  refine V_sub [] rfl ?_
  exact v_J7_isLatin1_18 hst h
def f_J7_isLatin1 (σ : Hp) (a0 : Nat) : Option (Int32 × Hp) :=
  if (1 : Int32) = (0 : Int32) then (f_J7_isLatin1_17 σ ) else (bd (rdI σ 13 a0 131) fun y2 => if y2 = (0 : Int32) then (f_J7_isLatin1_18 σ (1 : Int32)) else (f_J7_isLatin1_17 σ ))
set_option maxHeartbeats 4000000 in
theorem v_J7_isLatin1 (l : Launch) (G : Gx) (hst : l.stackTraces = false) (S : Ms) {σ σe : Hp} {a0 : Nat} {r : Int32} (h : f_J7_isLatin1 σ a0 = some (r, σe)) : MT l G yJ7_isLatin1 (ws_ yJ7_isLatin1 cJ7_isLatin1 1 (some .boolean)) 1 30 [pR a0] σ S (.inl (some (pI r))) σe S := by
  refine MT_of (own := RJ7) (nL := 1) (ini := false) (by decide +kernel) rfl (Nat.le_of_ble_eq_true rfl) (fun h => by cases h) hst ?_
  show VV_J7_isLatin1 l G σ (.inl (some (pI r))) σe S 0 [(0, pR a0)] [] σ S
  unfold f_J7_isLatin1 at h
  refine V_gets (v := pI 1) (fun _ _ h => h.2.2.2.2.2.2.1) q300 rfl dJ7_isLatin1_0 ?_
  refine V_if_eq 17 dJ7_isLatin1_3 (by decide) (fun c1 => ?_) (fun c1 => ?_)
  · replace h := it_t c1 h
    refine V_sub [] rfl ?_
    exact v_J7_isLatin1_17 hst h
  · replace h := it_f c1 h
    refine V_aload_n (i := 0) 0 dJ7_isLatin1_6 rfl rfl ?_
    obtain ⟨y2, e3, h⟩ := bd_s h
    refine V_rdI gf_J7_22 rfl rfl rfl e3 dJ7_isLatin1_7 ?_
    refine V_if_ne 17 dJ7_isLatin1_10 (by decide) (fun c4 => ?_) (fun c4 => ?_)
    · replace h := it_f c4 h
      refine V_sub [] rfl ?_
      exact v_J7_isLatin1_17 hst h
    · replace h := it_t c4 h
      refine V_iconst (v := 1) dJ7_isLatin1_13 (by decide) ?_
      refine V_goto 18 dJ7_isLatin1_14 (by decide) ?_
      refine V_sub [] rfl ?_
      exact v_J7_isLatin1_18 hst h

abbrev VV_J20_fillNull (l : Launch) (G : Gx) (σ0 : Hp) (o : Oc) (σe : Hp) (Se : Ms) := V l G RJ20 cJ20_fillNull 3 none [] false 3 76 σ0 o σe Se
def f_J20_fillNull (σ : Hp) (a0 : Nat) (x1 : Int32) (x2 : Int32) : Option (Unit × Hp) :=
  bp (f_J5_fill σ a0 x1 x2 (0 : Int32)) fun e1 σ2 => some ((), σ2)
set_option maxHeartbeats 4000000 in
theorem v_J20_fillNull (l : Launch) (G : Gx) (hst : l.stackTraces = false) (S : Ms) {σ σe : Hp} {a0 : Nat} {x1 : Int32} {x2 : Int32} {r : Unit} (h : f_J20_fillNull σ a0 x1 x2 = some (r, σe)) : MT l G yJ20_fillNull (ws_ yJ20_fillNull cJ20_fillNull 3 none) 3 76 [pR a0, pI x1, pI x2] σ S (.inl none) σe S := by
  refine MT_of (own := RJ20) (nL := 3) (ini := false) (by decide +kernel) rfl (Nat.le_of_ble_eq_true rfl) (fun h => by cases h) hst ?_
  show VV_J20_fillNull l G σ (.inl none) σe S 0 [(0, pR a0), (1, pI x1), (2, pI x2)] [] σ S
  unfold f_J20_fillNull at h
  refine V_aload_n (i := 0) 0 dJ20_fillNull_0 rfl rfl ?_
  refine V_iload_n (i := 1) 1 dJ20_fillNull_1 rfl rfl ?_
  refine V_iload_n (i := 2) 2 dJ20_fillNull_2 rfl rfl ?_
  refine V_iconst (v := 0) dJ20_fillNull_3 (by decide) ?_
  obtain ⟨e1, σ2, e3, h⟩ := bp_s h
  refine V_callS_0 (n9 := 4) [] (v_J5_fill l G hst _ e3) rfl rfl (lw_S q636 q637 q83 q638) (by decide +kernel) (by decide) (Nat.le_of_ble_eq_true rfl) dJ20_fillNull_4 ?_
  cases h
  exact V_vret rfl dJ20_fillNull_7

abbrev VV_J7_setLength (l : Launch) (G : Gx) (σ0 : Hp) (o : Oc) (σe : Hp) (Se : Ms) := V l G RJ7 cJ7_setLength 2 none [] false 4 124 σ0 o σe Se
def f_J7_setLength_76 (σ : Hp) (a0 : Nat) (x1 : Int32) : Option (Unit × Hp) :=
  bd (wrI σ 13 a0 133 x1) fun σ1 => some ((), σ1)
set_option maxHeartbeats 4000000 in
theorem v_J7_setLength_76 {l : Launch} {G : Gx} (hst : l.stackTraces = false) {σ0 σe : Hp} {Se : Ms} {r : Unit} {σ : Hp} {a0 : Nat} {x1 : Int32} (h : f_J7_setLength_76 σ a0 x1 = some (r, σe)) : VV_J7_setLength l G σ0 (.inl none) σe Se 76 [(0, pR a0), (1, pI x1)] [] σ Se := by
  unfold f_J7_setLength_76 at h
  refine V_aload_n (i := 0) 0 dJ7_setLength_76 rfl rfl ?_
  refine V_iload_n (i := 1) 1 dJ7_setLength_77 rfl rfl ?_
  obtain ⟨σ1, e2, h⟩ := bd_s h
  refine V_wrI gw_J7_79 rfl rfl rfl e2 dJ7_setLength_78 ?_
  cases h
  exact V_vret rfl dJ7_setLength_81
def f_J7_setLength (σ : Hp) (a0 : Nat) (x1 : Int32) : Option (Unit × Hp) :=
  if (0 : Int32) ≤ x1 then (bd (gk σ 13 a0) fun e2 => bp (f_J7_ensureCapacityInternal σ a0 x1) fun e4 σ5 => bd (rdI σ5 13 a0 133) fun y7 => if x1 ≤ y7 then (bd (rdI σ5 13 a0 133) fun y10 => if y10 ≤ x1 then (f_J7_setLength_76 σ5 a0 x1) else (bd (wrZ σ5 13 a0 132 (1 : Int32)) fun σ13 => f_J7_setLength_76 σ13 a0 x1)) else (bd (gk σ5 13 a0) fun e15 => bp (f_J7_isLatin1 σ5 a0) fun y17 σ18 => if y17 = (0 : Int32) then (bd (rdR σ18 13 a0 130) fun b21 => bd (rdI σ18 13 a0 133) fun y23 => none) else (bd (rdR σ18 13 a0 130) fun b25 => bd (rdI σ18 13 a0 133) fun y27 => bp (f_J20_fillNull σ18 b25 y27 x1) fun e29 σ30 => f_J7_setLength_76 σ30 a0 x1))) else (none)
set_option maxHeartbeats 4000000 in
theorem v_J7_setLength (l : Launch) (G : Gx) (hst : l.stackTraces = false) (S : Ms) {σ σe : Hp} {a0 : Nat} {x1 : Int32} {r : Unit} (h : f_J7_setLength σ a0 x1 = some (r, σe)) : MT l G yJ7_setLength (ws_ yJ7_setLength cJ7_setLength 2 none) 4 124 [pR a0, pI x1] σ S (.inl none) σe S := by
  refine MT_of (own := RJ7) (nL := 2) (ini := false) (by decide +kernel) rfl (Nat.le_of_ble_eq_true rfl) (fun h => by cases h) hst ?_
  show VV_J7_setLength l G σ (.inl none) σe S 0 [(0, pR a0), (1, pI x1)] [] σ S
  unfold f_J7_setLength at h
  refine V_iload_n (i := 1) 1 dJ7_setLength_0 rfl rfl ?_
  refine V_if_ge 13 dJ7_setLength_1 (by decide) (fun c1 => ?_) (fun c1 => ?_)
  · replace h := it_t c1 h
    refine V_aload_n (i := 0) 0 dJ7_setLength_13 rfl rfl ?_
    refine V_iload_n (i := 1) 1 dJ7_setLength_14 rfl rfl ?_
    obtain ⟨e2, e3, h⟩ := bd_s h
    obtain ⟨e4, σ5, e6, h⟩ := bp_s h
    refine V_callP_0 (n9 := 1) (c := 12) (r := (RJ8, TJ8, 4)) [] (v_J7_ensureCapacityInternal l G hst _ e6) rfl rfl q375 q2396 (by decide +kernel) q377 q86 q378 (by decide +kernel) (by decide) (Nat.le_of_ble_eq_true rfl) (gk_k e3 rfl) rfl dJ7_setLength_15 ?_
    refine V_aload_n (i := 0) 0 dJ7_setLength_18 rfl rfl ?_
    obtain ⟨y7, e8, h⟩ := bd_s h
    refine V_rdI gf_J7_79 rfl rfl rfl e8 dJ7_setLength_19 ?_
    refine V_iload_n (i := 1) 1 dJ7_setLength_22 rfl rfl ?_
    refine V_icmp_ge 63 dJ7_setLength_23 (by decide) (fun c9 => ?_) (fun c9 => ?_)
    · replace h := it_t c9 h
      refine V_aload_n (i := 0) 0 dJ7_setLength_63 rfl rfl ?_
      obtain ⟨y10, e11, h⟩ := bd_s h
      refine V_rdI gf_J7_79 rfl rfl rfl e11 dJ7_setLength_64 ?_
      refine V_iload_n (i := 1) 1 dJ7_setLength_67 rfl rfl ?_
      refine V_icmp_le 76 dJ7_setLength_68 (by decide) (fun c12 => ?_) (fun c12 => ?_)
      · replace h := it_t c12 h
        refine V_sub [0, 1] rfl ?_
        exact v_J7_setLength_76 hst h
      · replace h := it_f c12 h
        refine V_aload_n (i := 0) 0 dJ7_setLength_71 rfl rfl ?_
        refine V_iconst (v := 1) dJ7_setLength_72 (by decide) ?_
        obtain ⟨σ13, e14, h⟩ := bd_s h
        refine V_wrZ gw_J7_73 rfl rfl rfl e14 dJ7_setLength_73 ?_
        refine V_sub [0, 1] rfl ?_
        exact v_J7_setLength_76 hst h
    · replace h := it_f c9 h
      refine V_aload_n (i := 0) 0 dJ7_setLength_26 rfl rfl ?_
      obtain ⟨e15, e16, h⟩ := bd_s h
      obtain ⟨y17, σ18, e19, h⟩ := bp_s h
      refine V_callU_v (n9 := 0) (c := 12) (r := (RJ8, TJ8, 4)) (x := (⟨"java/lang/AbstractStringBuilder", "isLatin1", "()Z"⟩ : MethodName)) (owner := "java/lang/AbstractStringBuilder") [] (v_J7_isLatin1 l G hst _ e19) rfl rfl (lw_app (lw_U q395 q397 q398 q396 q86) (lw_meth q399)) rfl (by decide +kernel) (by decide) (Nat.le_of_ble_eq_true rfl) (gk_k e16 rfl) rfl dJ7_setLength_27 ?_
      refine V_if_eq 48 dJ7_setLength_30 (by decide) (fun c20 => ?_) (fun c20 => ?_)
      · replace h := it_t c20 h
        refine V_aload_n (i := 0) 0 dJ7_setLength_48 rfl rfl ?_
        obtain ⟨b21, e22, h⟩ := bd_s h
        refine V_rdR gf_J7_15 rfl rfl rfl e22 dJ7_setLength_49 ?_
        refine V_aload_n (i := 0) 0 dJ7_setLength_52 rfl rfl ?_
        obtain ⟨y23, e24, h⟩ := bd_s h
        refine V_rdI gf_J7_79 rfl rfl rfl e24 dJ7_setLength_53 ?_
        refine V_iload_n (i := 1) 1 dJ7_setLength_56 rfl rfl ?_
        cases h
      · replace h := it_f c20 h
        refine V_aload_n (i := 0) 0 dJ7_setLength_33 rfl rfl ?_
        obtain ⟨b25, e26, h⟩ := bd_s h
        refine V_rdR gf_J7_15 rfl rfl rfl e26 dJ7_setLength_34 ?_
        refine V_aload_n (i := 0) 0 dJ7_setLength_37 rfl rfl ?_
        obtain ⟨y27, e28, h⟩ := bd_s h
        refine V_rdI gf_J7_79 rfl rfl rfl e28 dJ7_setLength_38 ?_
        refine V_iload_n (i := 1) 1 dJ7_setLength_41 rfl rfl ?_
        obtain ⟨e29, σ30, e31, h⟩ := bp_s h
        refine V_callS_0 (n9 := 3) [] (v_J20_fillNull l G hst _ e31) rfl rfl (lw_S q633 q634 q102 q635) (by decide +kernel) (by decide) (Nat.le_of_ble_eq_true rfl) dJ7_setLength_42 ?_
        refine V_goto 76 dJ7_setLength_45 (by decide) ?_
        refine V_sub [0, 1] rfl ?_
        exact v_J7_setLength_76 hst h
  · replace h := it_f c1 h
    cases h

abbrev VV_J9_checkIndex (l : Launch) (G : Gx) (σ0 : Hp) (o : Oc) (σe : Hp) (Se : Ms) := V l G RJ9 cJ9_checkIndex 2 none [] false 2 52 σ0 o σe Se
def f_J9_checkIndex (σ : Hp) (x0 : Int32) (x1 : Int32) : Option (Unit × Hp) :=
  bd (f_J17_checkIndex x0 x1 (hQ σ 1)) fun y1 => some ((), σ)
set_option maxHeartbeats 4000000 in
theorem v_J9_checkIndex (l : Launch) (G : Gx) (hst : l.stackTraces = false) (S : Ms) {σ σe : Hp} {x0 : Int32} {x1 : Int32} {r : Unit} (h : f_J9_checkIndex σ x0 x1 = some (r, σe)) : MT l G yJ9_checkIndex (ws_ yJ9_checkIndex cJ9_checkIndex 2 none) 2 52 [pI x0, pI x1] σ S (.inl none) σe S := by
  refine MT_of (own := RJ9) (nL := 2) (ini := false) (by decide +kernel) rfl (Nat.le_of_ble_eq_true rfl) (fun h => by cases h) hst ?_
  show VV_J9_checkIndex l G σ (.inl none) σe S 0 [(0, pI x0), (1, pI x1)] [] σ S
  unfold f_J9_checkIndex at h
  refine V_iload_n (i := 0) 0 dJ9_checkIndex_0 rfl rfl ?_
  refine V_iload_n (i := 1) 1 dJ9_checkIndex_1 rfl rfl ?_
  refine V_gstR (k := 1) (fun _ _ h => h.2.2.2.2.2.2.2.1) q412 rfl dJ9_checkIndex_2 ?_
  obtain ⟨y1, e2, h⟩ := bd_s h
  refine V_callS_v (n9 := 3) [] (v_J17_checkIndex l G hst _ _ e2) rfl rfl (lw_S q716 q717 q97 q718) (by decide +kernel) (by decide) (Nat.le_of_ble_eq_true rfl) dJ9_checkIndex_5 ?_
  refine V_pop dJ9_checkIndex_8 rfl ?_
  cases h
  exact V_vret rfl dJ9_checkIndex_9

abbrev VV_J7_charAt (l : Launch) (G : Gx) (σ0 : Hp) (o : Oc) (σe : Hp) (Se : Ms) := V l G RJ7 cJ7_charAt 5 (some .char) [] false 3 73 σ0 o σe Se
def f_J7_charAt (σ : Hp) (a0 : Nat) (x1 : Int32) : Option (Int32 × Hp) :=
  bd (rdI σ 13 a0 131) fun y1 => bd (rdR σ 13 a0 130) fun b3 => bd (rdI σ 13 a0 133) fun y5 => bd (elN σ b3) fun y7 => bp (f_J9_checkIndex σ x1 (if (y7 >>> (y1 &&& 31)) < y5 then (y7 >>> (y1 &&& 31)) else y5)) fun e9 σ10 => if y1 = (0 : Int32) then (bd (elI σ10 104 b3 x1) fun y13 => bd (okC (((y13 &&& (255 : Int32)).toUInt32 % 65536).toInt32)) fun e15 => some (((y13 &&& (255 : Int32)).toUInt32 % 65536).toInt32, σ10)) else (none)
set_option maxHeartbeats 4000000 in
theorem v_J7_charAt (l : Launch) (G : Gx) (hst : l.stackTraces = false) (S : Ms) {σ σe : Hp} {a0 : Nat} {x1 : Int32} {r : Int32} (h : f_J7_charAt σ a0 x1 = some (r, σe)) : MT l G yJ7_charAt (ws_ yJ7_charAt cJ7_charAt 5 (some .char)) 3 73 [pR a0, pI x1] σ S (.inl (some (pI r))) σe S := by
  refine MT_of (own := RJ7) (nL := 5) (ini := false) (by decide +kernel) rfl (Nat.le_of_ble_eq_true rfl) (fun h => by cases h) hst ?_
  show VV_J7_charAt l G σ (.inl (some (pI r))) σe S 0 [(0, pR a0), (1, pI x1)] [] σ S
  unfold f_J7_charAt at h
  refine V_aload_n (i := 0) 0 dJ7_charAt_0 rfl rfl ?_
  obtain ⟨y1, e2, h⟩ := bd_s h
  refine V_rdI gf_J7_22 rfl rfl rfl e2 dJ7_charAt_1 ?_
  refine V_istore_n (i := 2) (L' := [(2, pI y1), (0, pR a0), (1, pI x1)]) dJ7_charAt_4 rfl (by decide) rfl ?_
  refine V_aload_n (i := 0) 1 dJ7_charAt_5 rfl rfl ?_
  obtain ⟨b3, e4, h⟩ := bd_s h
  refine V_rdR gf_J7_15 rfl rfl rfl e4 dJ7_charAt_6 ?_
  refine V_astore_n (i := 3) (L' := [(3, pR b3), (2, pI y1), (0, pR a0), (1, pI x1)]) dJ7_charAt_9 rfl (by decide) rfl ?_
  refine V_aload_n (i := 0) 2 dJ7_charAt_10 rfl rfl ?_
  obtain ⟨y5, e6, h⟩ := bd_s h
  refine V_rdI gf_J7_79 rfl rfl rfl e6 dJ7_charAt_11 ?_
  refine V_aload_n (i := 3) 0 dJ7_charAt_14 rfl rfl ?_
  obtain ⟨y7, e8, h⟩ := bd_s h
  refine V_elN e8 dJ7_charAt_15 ?_
  refine V_iload_n (i := 2) 1 dJ7_charAt_16 rfl rfl ?_
  refine V_ishr dJ7_charAt_17 ?_
  refine V_mmin q712 q235 q82 q236 (by decide) (Nat.le_of_ble_eq_true rfl) dJ7_charAt_18 ?_
  refine V_istore (i := 4) (L' := [(4, pI (if (y7 >>> (y1 &&& 31)) < y5 then (y7 >>> (y1 &&& 31)) else y5)), (3, pR b3), (2, pI y1), (0, pR a0), (1, pI x1)]) dJ7_charAt_21 (by decide) rfl ?_
  refine V_iload_n (i := 1) 4 dJ7_charAt_23 rfl rfl ?_
  refine V_iload (i := 4) 0 dJ7_charAt_24 rfl ?_
  obtain ⟨e9, σ10, e11, h⟩ := bp_s h
  refine V_callS_0 (n9 := 2) [] (v_J9_checkIndex l G hst _ e11) rfl rfl (lw_S q713 q714 q88 q715) (by decide +kernel) (by decide) (Nat.le_of_ble_eq_true rfl) dJ7_charAt_26 ?_
  refine V_iload_n (i := 2) 2 dJ7_charAt_29 rfl rfl ?_
  refine V_if_ne 42 dJ7_charAt_30 (by decide) (fun c12 => ?_) (fun c12 => ?_)
  · replace h := it_f c12 h
    refine V_aload_n (i := 3) 1 dJ7_charAt_42 rfl rfl ?_
    refine V_iload_n (i := 1) 4 dJ7_charAt_43 rfl rfl ?_
    cases h
  · replace h := it_t c12 h
    refine V_aload_n (i := 3) 1 dJ7_charAt_33 rfl rfl ?_
    refine V_iload_n (i := 1) 4 dJ7_charAt_34 rfl rfl ?_
    obtain ⟨y13, e14, h⟩ := bd_s h
    refine V_elI4 e14 dJ7_charAt_35 ?_
    refine V_sipush (v := 255) dJ7_charAt_36 (by decide) ?_
    refine V_iand dJ7_charAt_39 ?_
    refine V_i2c dJ7_charAt_40 ?_
    obtain ⟨e15, e16, h⟩ := bd_s h
    cases h
    exact V_retC e16 rfl dJ7_charAt_41

abbrev VV_J20_canEncode (l : Launch) (G : Gx) (σ0 : Hp) (o : Oc) (σe : Hp) (Se : Ms) := V l G RJ20 cJ20_canEncode 1 (some .boolean) [] false 1 30 σ0 o σe Se
def f_J20_canEncode_12 (s0 : Int32) : Option Int32 :=
  bd (okZ s0) fun e1 => some s0
set_option maxHeartbeats 4000000 in
theorem v_J20_canEncode_12 {l : Launch} {G : Gx} (hst : l.stackTraces = false) {σ0 σe : Hp} {Se : Ms} {r : Int32} {s0 : Int32} (h : f_J20_canEncode_12 s0 = some r) : VV_J20_canEncode l G σ0 (.inl (some (pI r))) σe Se 12 [] [pI s0] σe Se := by
  unfold f_J20_canEncode_12 at h
  obtain ⟨e1, e2, h⟩ := bd_s h
  cases h
  exact V_retZ e2 rfl dJ20_canEncode_12
def f_J20_canEncode (x0 : Int32) : Option Int32 :=
  if (255 : Int32) < x0 then (f_J20_canEncode_12 (0 : Int32)) else (f_J20_canEncode_12 (1 : Int32))
set_option maxHeartbeats 4000000 in
theorem v_J20_canEncode (l : Launch) (G : Gx) (hst : l.stackTraces = false) (σ : Hp) (S : Ms) {x0 : Int32} {r : Int32} (h : f_J20_canEncode x0 = some r) : MT l G yJ20_canEncode (ws_ yJ20_canEncode cJ20_canEncode 1 (some .boolean)) 1 30 [pI x0] σ S (.inl (some (pI r))) σ S := by
  refine MT_of (own := RJ20) (nL := 1) (ini := false) (by decide +kernel) rfl (Nat.le_of_ble_eq_true rfl) (fun h => by cases h) hst ?_
  show VV_J20_canEncode l G σ (.inl (some (pI r))) σ S 0 [(0, pI x0)] [] σ S
  unfold f_J20_canEncode at h
  refine V_iload_n (i := 0) 0 dJ20_canEncode_0 rfl rfl ?_
  refine V_sipush (v := 255) dJ20_canEncode_1 (by decide) ?_
  refine V_icmp_gt 11 dJ20_canEncode_4 (by decide) (fun c1 => ?_) (fun c1 => ?_)
  · replace h := it_t c1 h
    refine V_iconst (v := 0) dJ20_canEncode_11 (by decide) ?_
    refine V_sub [] rfl ?_
    exact v_J20_canEncode_12 hst h
  · replace h := it_f c1 h
    refine V_iconst (v := 1) dJ20_canEncode_7 (by decide) ?_
    refine V_goto 12 dJ20_canEncode_8 (by decide) ?_
    refine V_sub [] rfl ?_
    exact v_J20_canEncode_12 hst h

abbrev VV_J7_append_3 (l : Launch) (G : Gx) (σ0 : Hp) (o : Oc) (σe : Hp) (Se : Ms) := V l G RJ7 cJ7_append_3 2 (some (.object "java/lang/AbstractStringBuilder")) [] false 4 124 σ0 o σe Se
def f_J7_append_3_45 (σ : Hp) (a0 : Nat) (x1 : Int32) : Option (Nat × Hp) :=
  bd (gk σ 13 a0) fun e1 => bp (f_J7_isLatin1 σ a0) fun y3 σ4 => if y3 = (0 : Int32) then (bd (rdR σ4 13 a0 130) fun b7 => bd (rdI σ4 13 a0 133) fun y9 => bd (wrI σ4 13 a0 133 (y9 + (1 : Int32))) fun σ11 => none) else (none)
set_option maxHeartbeats 4000000 in
theorem v_J7_append_3_45 {l : Launch} {G : Gx} (hst : l.stackTraces = false) {σ0 σe : Hp} {Se : Ms} {r : Nat} {σ : Hp} {a0 : Nat} {x1 : Int32} (h : f_J7_append_3_45 σ a0 x1 = some (r, σe)) : VV_J7_append_3 l G σ0 (.inl (some (pR r))) σe Se 45 [(0, pR a0), (1, pI x1)] [] σ Se := by
  unfold f_J7_append_3_45 at h
  refine V_aload_n (i := 0) 0 dJ7_append_3_45 rfl rfl ?_
  obtain ⟨e1, e2, h⟩ := bd_s h
  obtain ⟨y3, σ4, e5, h⟩ := bp_s h
  refine V_callU_v (n9 := 0) (c := 12) (r := (RJ8, TJ8, 4)) (x := (⟨"java/lang/AbstractStringBuilder", "isLatin1", "()Z"⟩ : MethodName)) (owner := "java/lang/AbstractStringBuilder") [] (v_J7_isLatin1 l G hst _ e5) rfl rfl (lw_app (lw_U q395 q397 q398 q396 q86) (lw_meth q399)) rfl (by decide +kernel) (by decide) (Nat.le_of_ble_eq_true rfl) (gk_k e2 rfl) rfl dJ7_append_3_46 ?_
  refine V_if_eq 56 dJ7_append_3_49 (by decide) (fun c6 => ?_) (fun c6 => ?_)
  · replace h := it_t c6 h
    refine V_aload_n (i := 0) 0 dJ7_append_3_56 rfl rfl ?_
    obtain ⟨b7, e8, h⟩ := bd_s h
    refine V_rdR gf_J7_15 rfl rfl rfl e8 dJ7_append_3_57 ?_
    refine V_aload_n (i := 0) 0 dJ7_append_3_60 rfl rfl ?_
    refine V_dup dJ7_append_3_61 rfl ?_
    obtain ⟨y9, e10, h⟩ := bd_s h
    refine V_rdI gf_J7_79 rfl rfl rfl e10 dJ7_append_3_62 ?_
    refine V_dup_x1 dJ7_append_3_65 rfl rfl ?_
    refine V_iconst (v := 1) dJ7_append_3_66 (by decide) ?_
    refine V_iadd dJ7_append_3_67 ?_
    obtain ⟨σ11, e12, h⟩ := bd_s h
    refine V_wrI gw_J7_79 rfl rfl rfl e12 dJ7_append_3_68 ?_
    refine V_iload_n (i := 1) 1 dJ7_append_3_71 rfl rfl ?_
    cases h
  · replace h := it_f c6 h
    refine V_aload_n (i := 0) 0 dJ7_append_3_52 rfl rfl ?_
    cases h
def f_J7_append_3 (σ : Hp) (a0 : Nat) (x1 : Int32) : Option (Nat × Hp) :=
  bd (rdI σ 13 a0 133) fun y1 => bd (gk σ 13 a0) fun e3 => bp (f_J7_ensureCapacityInternal σ a0 (y1 + (1 : Int32))) fun e5 σ6 => bd (gk σ6 13 a0) fun e8 => bp (f_J7_isLatin1 σ6 a0) fun y10 σ11 => if y10 = (0 : Int32) then (f_J7_append_3_45 σ11 a0 x1) else (bd (f_J20_canEncode x1) fun y14 => if y14 = (0 : Int32) then (f_J7_append_3_45 σ11 a0 x1) else (bd (rdR σ11 13 a0 130) fun b17 => bd (rdI σ11 13 a0 133) fun y19 => bd (wrI σ11 13 a0 133 (y19 + (1 : Int32))) fun σ21 => bd (stY σ21 104 b17 y19 (x1.toInt8.toInt32)) fun σ23 => some (a0, σ23)))
set_option maxHeartbeats 4000000 in
theorem v_J7_append_3 (l : Launch) (G : Gx) (hst : l.stackTraces = false) (S : Ms) {σ σe : Hp} {a0 : Nat} {x1 : Int32} {r : Nat} (h : f_J7_append_3 σ a0 x1 = some (r, σe)) : MT l G yJ7_append_3 (ws_ yJ7_append_3 cJ7_append_3 2 (some (.object "java/lang/AbstractStringBuilder"))) 4 124 [pR a0, pI x1] σ S (.inl (some (pR r))) σe S := by
  refine MT_of (own := RJ7) (nL := 2) (ini := false) (by decide +kernel) rfl (Nat.le_of_ble_eq_true rfl) (fun h => by cases h) hst ?_
  show VV_J7_append_3 l G σ (.inl (some (pR r))) σe S 0 [(0, pR a0), (1, pI x1)] [] σ S
  unfold f_J7_append_3 at h
  refine V_aload_n (i := 0) 0 dJ7_append_3_0 rfl rfl ?_
  refine V_aload_n (i := 0) 0 dJ7_append_3_1 rfl rfl ?_
  obtain ⟨y1, e2, h⟩ := bd_s h
  refine V_rdI gf_J7_79 rfl rfl rfl e2 dJ7_append_3_2 ?_
  refine V_iconst (v := 1) dJ7_append_3_5 (by decide) ?_
  refine V_iadd dJ7_append_3_6 ?_
  obtain ⟨e3, e4, h⟩ := bd_s h
  obtain ⟨e5, σ6, e7, h⟩ := bp_s h
  refine V_callP_0 (n9 := 1) (c := 12) (r := (RJ8, TJ8, 4)) [] (v_J7_ensureCapacityInternal l G hst _ e7) rfl rfl q375 q2396 (by decide +kernel) q377 q86 q378 (by decide +kernel) (by decide) (Nat.le_of_ble_eq_true rfl) (gk_k e4 rfl) rfl dJ7_append_3_7 ?_
  refine V_aload_n (i := 0) 0 dJ7_append_3_10 rfl rfl ?_
  obtain ⟨e8, e9, h⟩ := bd_s h
  obtain ⟨y10, σ11, e12, h⟩ := bp_s h
  refine V_callU_v (n9 := 0) (c := 12) (r := (RJ8, TJ8, 4)) (x := (⟨"java/lang/AbstractStringBuilder", "isLatin1", "()Z"⟩ : MethodName)) (owner := "java/lang/AbstractStringBuilder") [] (v_J7_isLatin1 l G hst _ e12) rfl rfl (lw_app (lw_U q395 q397 q398 q396 q86) (lw_meth q399)) rfl (by decide +kernel) (by decide) (Nat.le_of_ble_eq_true rfl) (gk_k e9 rfl) rfl dJ7_append_3_11 ?_
  refine V_if_eq 45 dJ7_append_3_14 (by decide) (fun c13 => ?_) (fun c13 => ?_)
  · replace h := it_t c13 h
    refine V_sub [0, 1] rfl ?_
    exact v_J7_append_3_45 hst h
  · replace h := it_f c13 h
    refine V_iload_n (i := 1) 1 dJ7_append_3_17 rfl rfl ?_
    obtain ⟨y14, e15, h⟩ := bd_s h
    refine V_callS_v (n9 := 1) [] (v_J20_canEncode l G hst _ _ e15) rfl rfl (lw_S q1231 q1232 q102 q1233) (by decide +kernel) (by decide) (Nat.le_of_ble_eq_true rfl) dJ7_append_3_18 ?_
    refine V_if_eq 45 dJ7_append_3_21 (by decide) (fun c16 => ?_) (fun c16 => ?_)
    · replace h := it_t c16 h
      refine V_sub [0, 1] rfl ?_
      exact v_J7_append_3_45 hst h
    · replace h := it_f c16 h
      refine V_aload_n (i := 0) 0 dJ7_append_3_24 rfl rfl ?_
      obtain ⟨b17, e18, h⟩ := bd_s h
      refine V_rdR gf_J7_15 rfl rfl rfl e18 dJ7_append_3_25 ?_
      refine V_aload_n (i := 0) 0 dJ7_append_3_28 rfl rfl ?_
      refine V_dup dJ7_append_3_29 rfl ?_
      obtain ⟨y19, e20, h⟩ := bd_s h
      refine V_rdI gf_J7_79 rfl rfl rfl e20 dJ7_append_3_30 ?_
      refine V_dup_x1 dJ7_append_3_33 rfl rfl ?_
      refine V_iconst (v := 1) dJ7_append_3_34 (by decide) ?_
      refine V_iadd dJ7_append_3_35 ?_
      obtain ⟨σ21, e22, h⟩ := bd_s h
      refine V_wrI gw_J7_79 rfl rfl rfl e22 dJ7_append_3_36 ?_
      refine V_iload_n (i := 1) 1 dJ7_append_3_39 rfl rfl ?_
      refine V_i2b dJ7_append_3_40 ?_
      obtain ⟨σ23, e24, h⟩ := bd_s h
      refine V_stY4 e24 dJ7_append_3_41 ?_
      refine V_goto 75 dJ7_append_3_42 (by decide) ?_
      refine V_aload_n (i := 0) 0 dJ7_append_3_75 rfl rfl ?_
      cases h
      exact V_aret rfl (Or.inl ⟨_, rfl⟩) dJ7_append_3_76

abbrev VV_X6_init (l : Launch) (G : Gx) (σ0 : Hp) (o : Oc) (σe : Hp) (Se : Ms) := V l G RX6 cX6_init 2 none [] true 1 30 σ0 o σe Se
def f_X6_init (σ : Hp) (a0 : Nat) (a1 : Nat) : Option (Unit × Hp) :=
  bd (wrR σ 5 a0 51 a1) fun σ1 => bd (gz σ1 a0) fun e3 => some ((), σ1)
set_option maxHeartbeats 4000000 in
theorem v_X6_init (l : Launch) (G : Gx) (hst : l.stackTraces = false) (S : Ms) {σ σe : Hp} {a0 : Nat} {a1 : Nat} {r : Unit} (h : f_X6_init σ a0 a1 = some (r, σe)) : MT l G yX6_init (ws_ yX6_init cX6_init 2 none) 1 30 [pR a0, pR a1] σ S (.inl none) σe S := by
  refine MT_of (own := RX6) (nL := 2) (ini := true) (by decide +kernel) rfl (Nat.le_of_ble_eq_true rfl) (fun h => rfl) hst ?_
  show VV_X6_init l G σ (.inl none) σe S 0 [(0, pR a0), (1, pR a1)] [] σ S
  unfold f_X6_init at h
  refine V_aload_n (i := 0) 0 dX6_init_0 rfl rfl ?_
  refine V_aload_n (i := 1) 1 dX6_init_1 rfl rfl ?_
  obtain ⟨σ1, e2, h⟩ := bd_s h
  refine V_wrRF gw_X6_3 rfl (okF_obj _ rfl) rfl rfl e2 dX6_init_2 ?_
  refine V_aload_n (i := 0) 0 dX6_init_5 rfl rfl ?_
  obtain ⟨e3, e4, h⟩ := bd_s h
  refine V_objInit (gz_n e4) q682 q131 q132 (by decide) (Nat.le_of_ble_eq_true rfl) dX6_init_6 ?_
  cases h
  exact V_vret rfl dX6_init_9

abbrev VV_J8_length (l : Launch) (G : Gx) (σ0 : Hp) (o : Oc) (σe : Hp) (Se : Ms) := V l G RJ8 cJ8_length 1 (some .int) [] false 2 50 σ0 o σe Se
def f_J8_length (σ : Hp) (a0 : Nat) : Option (Int32 × Hp) :=
  bd (gk σ 13 a0) fun e1 => bp (f_J7_length σ a0) fun y3 σ4 => some (y3, σ4)
set_option maxHeartbeats 4000000 in
theorem v_J8_length (l : Launch) (G : Gx) (hst : l.stackTraces = false) (S : Ms) {σ σe : Hp} {a0 : Nat} {r : Int32} (h : f_J8_length σ a0 = some (r, σe)) : MT l G yJ8_length (ws_ yJ8_length cJ8_length 1 (some .int)) 2 50 [pR a0] σ S (.inl (some (pI r))) σe S := by
  refine MT_of (own := RJ8) (nL := 1) (ini := false) (by decide +kernel) rfl (Nat.le_of_ble_eq_true rfl) (fun h => by cases h) hst ?_
  show VV_J8_length l G σ (.inl (some (pI r))) σe S 0 [(0, pR a0)] [] σ S
  unfold f_J8_length at h
  refine V_aload_n (i := 0) 0 dJ8_length_0 rfl rfl ?_
  obtain ⟨e1, e2, h⟩ := bd_s h
  obtain ⟨y3, σ4, e5, h⟩ := bp_s h
  refine V_callSU_v (n9 := 0) (c := 12) (r := (RJ8, TJ8, 4)) [] (v_J7_length l G hst _ e5) rfl rfl (lw_app (lw_SU q346 q2392 q322 q347 q86) (lw_meth q348)) (by decide +kernel) (by decide) (Nat.le_of_ble_eq_true rfl) (gk_k e2 rfl) rfl dJ8_length_1 ?_
  cases h
  exact V_iret rfl dJ8_length_4

abbrev VV_J8_charAt (l : Launch) (G : Gx) (σ0 : Hp) (o : Oc) (σe : Hp) (Se : Ms) := V l G RJ8 cJ8_charAt 2 (some .char) [] false 4 97 σ0 o σe Se
def f_J8_charAt (σ : Hp) (a0 : Nat) (x1 : Int32) : Option (Int32 × Hp) :=
  bd (gk σ 13 a0) fun e1 => bp (f_J7_charAt σ a0 x1) fun y3 σ4 => bd (okC y3) fun e6 => some (y3, σ4)
set_option maxHeartbeats 4000000 in
theorem v_J8_charAt (l : Launch) (G : Gx) (hst : l.stackTraces = false) (S : Ms) {σ σe : Hp} {a0 : Nat} {x1 : Int32} {r : Int32} (h : f_J8_charAt σ a0 x1 = some (r, σe)) : MT l G yJ8_charAt (ws_ yJ8_charAt cJ8_charAt 2 (some .char)) 4 97 [pR a0, pI x1] σ S (.inl (some (pI r))) σe S := by
  refine MT_of (own := RJ8) (nL := 2) (ini := false) (by decide +kernel) rfl (Nat.le_of_ble_eq_true rfl) (fun h => by cases h) hst ?_
  show VV_J8_charAt l G σ (.inl (some (pI r))) σe S 0 [(0, pR a0), (1, pI x1)] [] σ S
  unfold f_J8_charAt at h
  refine V_aload_n (i := 0) 0 dJ8_charAt_0 rfl rfl ?_
  refine V_iload_n (i := 1) 1 dJ8_charAt_1 rfl rfl ?_
  obtain ⟨e1, e2, h⟩ := bd_s h
  obtain ⟨y3, σ4, e5, h⟩ := bp_s h
  refine V_callSU_v (n9 := 1) (c := 12) (r := (RJ8, TJ8, 4)) [] (v_J7_charAt l G hst _ e5) rfl rfl (lw_app (lw_SU q709 q2404 q322 q710 q86) (lw_meth q711)) (by decide +kernel) (by decide) (Nat.le_of_ble_eq_true rfl) (gk_k e2 rfl) rfl dJ8_charAt_2 ?_
  obtain ⟨e6, e7, h⟩ := bd_s h
  cases h
  exact V_retC e7 rfl dJ8_charAt_5

abbrev VV_X6_peek (l : Launch) (G : Gx) (σ0 : Hp) (o : Oc) (σe : Hp) (Se : Ms) := V l G RX6 cX6_peek 1 (some .char) [] false 5 118 σ0 o σe Se
def f_X6_peek_35 (σ : Hp) (s0 : Int32) : Option (Int32 × Hp) :=
  bd (okC s0) fun e1 => some (s0, σ)
set_option maxHeartbeats 4000000 in
theorem v_X6_peek_35 {l : Launch} {G : Gx} (hst : l.stackTraces = false) {σ0 σe : Hp} {Se : Ms} {r : Int32} {σ : Hp} {s0 : Int32} (h : f_X6_peek_35 σ s0 = some (r, σe)) : VV_X6_peek l G σ0 (.inl (some (pI r))) σe Se 35 [] [pI s0] σ Se := by
  unfold f_X6_peek_35 at h
  obtain ⟨e1, e2, h⟩ := bd_s h
  cases h
  exact V_retC e2 rfl dX6_peek_35
def f_X6_peek (σ : Hp) (a0 : Nat) : Option (Int32 × Hp) :=
  bd (rdI σ 5 a0 50) fun y1 => bd (rdR σ 5 a0 51) fun b3 => bd (rdR σ 1 b3 13) fun b5 => bd (gk σ 13 b5) fun e7 => bp (f_J8_length σ b5) fun y9 σ10 => if y9 ≤ y1 then (f_X6_peek_35 σ10 (0 : Int32)) else (bd (rdR σ10 5 a0 51) fun b13 => bd (rdR σ10 1 b13 13) fun b15 => bd (rdI σ10 5 a0 50) fun y17 => bd (gk σ10 13 b15) fun e19 => bp (f_J8_charAt σ10 b15 y17) fun y21 σ22 => f_X6_peek_35 σ22 y21)
set_option maxHeartbeats 4000000 in
theorem v_X6_peek (l : Launch) (G : Gx) (hst : l.stackTraces = false) (S : Ms) {σ σe : Hp} {a0 : Nat} {r : Int32} (h : f_X6_peek σ a0 = some (r, σe)) : MT l G yX6_peek (ws_ yX6_peek cX6_peek 1 (some .char)) 5 118 [pR a0] σ S (.inl (some (pI r))) σe S := by
  refine MT_of (own := RX6) (nL := 1) (ini := false) (by decide +kernel) rfl (Nat.le_of_ble_eq_true rfl) (fun h => by cases h) hst ?_
  show VV_X6_peek l G σ (.inl (some (pI r))) σe S 0 [(0, pR a0)] [] σ S
  unfold f_X6_peek at h
  refine V_aload_n (i := 0) 0 dX6_peek_0 rfl rfl ?_
  obtain ⟨y1, e2, h⟩ := bd_s h
  refine V_rdI gf_X6_15 rfl rfl rfl e2 dX6_peek_1 ?_
  refine V_aload_n (i := 0) 0 dX6_peek_4 rfl rfl ?_
  obtain ⟨b3, e4, h⟩ := bd_s h
  refine V_rdR gf_X6_3 rfl rfl rfl e4 dX6_peek_5 ?_
  obtain ⟨b5, e6, h⟩ := bd_s h
  refine V_rdRN gf_X6_19 rfl rfl rfl e6 dX6_peek_8 ?_
  obtain ⟨e7, e8, h⟩ := bd_s h
  obtain ⟨y9, σ10, e11, h⟩ := bp_s h
  refine V_callV_v (n9 := 0) (c := 12) (r := (RJ8, TJ8, 4)) [pI y1] (v_J8_length l G hst _ e11) rfl rfl (lw_V q704 q343 q344 q87 q345) (by decide +kernel) (by decide) (Nat.le_of_ble_eq_true rfl) (gk_k e8 rfl) rfl dX6_peek_11 ?_
  refine V_icmp_ge 34 dX6_peek_14 (by decide) (fun c12 => ?_) (fun c12 => ?_)
  · replace h := it_t c12 h
    refine V_iconst (v := 0) dX6_peek_34 (by decide) ?_
    refine V_sub [] rfl ?_
    exact v_X6_peek_35 hst h
  · replace h := it_f c12 h
    refine V_aload_n (i := 0) 0 dX6_peek_17 rfl rfl ?_
    obtain ⟨b13, e14, h⟩ := bd_s h
    refine V_rdR gf_X6_3 rfl rfl rfl e14 dX6_peek_18 ?_
    obtain ⟨b15, e16, h⟩ := bd_s h
    refine V_rdRN gf_X6_19 rfl rfl rfl e16 dX6_peek_21 ?_
    refine V_aload_n (i := 0) 0 dX6_peek_24 rfl rfl ?_
    obtain ⟨y17, e18, h⟩ := bd_s h
    refine V_rdI gf_X6_15 rfl rfl rfl e18 dX6_peek_25 ?_
    obtain ⟨e19, e20, h⟩ := bd_s h
    obtain ⟨y21, σ22, e23, h⟩ := bp_s h
    refine V_callV_v (n9 := 1) (c := 12) (r := (RJ8, TJ8, 4)) [] (v_J8_charAt l G hst _ e23) rfl rfl (lw_V q705 q706 q707 q87 q708) (by decide +kernel) (by decide) (Nat.le_of_ble_eq_true rfl) (gk_k e20 rfl) rfl dX6_peek_28 ?_
    refine V_goto 35 dX6_peek_31 (by decide) ?_
    refine V_sub [] rfl ?_
    exact v_X6_peek_35 hst h

abbrev VV_X6_require (l : Launch) (G : Gx) (σ0 : Hp) (o : Oc) (σe : Hp) (Se : Ms) := V l G RX6 cX6_require 2 none [] false 6 100 σ0 o σe Se
def f_X6_require (σ : Hp) (a0 : Nat) (x1 : Int32) : Option (Ex Unit × Hp) :=
  if x1 = (0 : Int32) then (bd (rdI σ 5 a0 50) fun y2 => some (.inr ("GaugeBlocks$SyntaxFault", hN σ), sI (nC σ 6 7) (hN σ) 60 y2)) else (some (.inl (), σ))
set_option maxHeartbeats 4000000 in
theorem v_X6_require (l : Launch) (G : Gx) (hst : l.stackTraces = false) (S : Ms) {σ σe : Hp} {a0 : Nat} {x1 : Int32} {r : Ex Unit} (h : f_X6_require σ a0 x1 = some (r, σe)) : MT l G yX6_require (ws_ yX6_require cX6_require 2 none) 6 100 [pR a0, pI x1] σ S (tOV r) σe S := by
  refine MT_of (own := RX6) (nL := 2) (ini := false) (by decide +kernel) rfl (Nat.le_of_ble_eq_true rfl) (fun h => by cases h) hst ?_
  show VV_X6_require l G σ (tOV r) σe S 0 [(0, pR a0), (1, pI x1)] [] σ S
  unfold f_X6_require at h
  refine V_iload_n (i := 1) 1 dX6_require_0 rfl rfl ?_
  refine V_if_ne 16 dX6_require_1 (by decide) (fun c1 => ?_) (fun c1 => ?_)
  · replace h := it_f c1 h
    cases h
    exact V_vret rfl dX6_require_16
  · replace h := it_t c1 h
    obtain ⟨y2, e3, h⟩ := bd_s h
    cases h
    exact V_throwSF 0 hst rfl (gd_s e3).1 (gd_s e3).2 (by decide) dX6_require_4 dX6_require_7 dX6_require_8 dX6_require_9 dX6_require_12 dX6_require_15 (by decide) (Nat.le_of_ble_eq_true rfl)

abbrev VV_X1_isIn (l : Launch) (G : Gx) (σ0 : Hp) (o : Oc) (σe : Hp) (Se : Ms) := V l G RX1 cX1_isIn 3 (some .boolean) [] false 1 30 σ0 o σe Se
def f_X1_isIn_15 (s0 : Int32) : Option Int32 :=
  bd (okZ s0) fun e1 => some s0
set_option maxHeartbeats 4000000 in
theorem v_X1_isIn_15 {l : Launch} {G : Gx} (hst : l.stackTraces = false) {σ0 σe : Hp} {Se : Ms} {r : Int32} {s0 : Int32} (h : f_X1_isIn_15 s0 = some r) : VV_X1_isIn l G σ0 (.inl (some (pI r))) σe Se 15 [] [pI s0] σe Se := by
  unfold f_X1_isIn_15 at h
  obtain ⟨e1, e2, h⟩ := bd_s h
  cases h
  exact V_retZ e2 rfl dX1_isIn_15
def f_X1_isIn_14 : Option Int32 :=
  f_X1_isIn_15 (0 : Int32)
set_option maxHeartbeats 4000000 in
theorem v_X1_isIn_14 {l : Launch} {G : Gx} (hst : l.stackTraces = false) {σ0 σe : Hp} {Se : Ms} {r : Int32} (h : f_X1_isIn_14  = some r) : VV_X1_isIn l G σ0 (.inl (some (pI r))) σe Se 14 [] [] σe Se := by
  unfold f_X1_isIn_14 at h
  refine V_iconst (v := 0) dX1_isIn_14 (by decide) ?_
  refine V_sub [] rfl ?_
  exact v_X1_isIn_15 hst h
def f_X1_isIn (x0 : Int32) (x1 : Int32) (x2 : Int32) : Option Int32 :=
  if x0 < x1 then (f_X1_isIn_14 ) else (if x2 < x0 then (f_X1_isIn_14 ) else (f_X1_isIn_15 (1 : Int32)))
set_option maxHeartbeats 4000000 in
theorem v_X1_isIn (l : Launch) (G : Gx) (hst : l.stackTraces = false) (σ : Hp) (S : Ms) {x0 : Int32} {x1 : Int32} {x2 : Int32} {r : Int32} (h : f_X1_isIn x0 x1 x2 = some r) : MT l G yX1_isIn (ws_ yX1_isIn cX1_isIn 3 (some .boolean)) 1 30 [pI x0, pI x1, pI x2] σ S (.inl (some (pI r))) σ S := by
  refine MT_of (own := RX1) (nL := 3) (ini := false) (by decide +kernel) rfl (Nat.le_of_ble_eq_true rfl) (fun h => by cases h) hst ?_
  show VV_X1_isIn l G σ (.inl (some (pI r))) σ S 0 [(0, pI x0), (1, pI x1), (2, pI x2)] [] σ S
  unfold f_X1_isIn at h
  refine V_iload_n (i := 0) 0 dX1_isIn_0 rfl rfl ?_
  refine V_iload_n (i := 1) 1 dX1_isIn_1 rfl rfl ?_
  refine V_icmp_lt 14 dX1_isIn_2 (by decide) (fun c1 => ?_) (fun c1 => ?_)
  · replace h := it_t c1 h
    refine V_sub [] rfl ?_
    exact v_X1_isIn_14 hst h
  · replace h := it_f c1 h
    refine V_iload_n (i := 0) 0 dX1_isIn_5 rfl rfl ?_
    refine V_iload_n (i := 2) 2 dX1_isIn_6 rfl rfl ?_
    refine V_icmp_gt 14 dX1_isIn_7 (by decide) (fun c2 => ?_) (fun c2 => ?_)
    · replace h := it_t c2 h
      refine V_sub [] rfl ?_
      exact v_X1_isIn_14 hst h
    · replace h := it_f c2 h
      refine V_iconst (v := 1) dX1_isIn_10 (by decide) ?_
      refine V_goto 15 dX1_isIn_11 (by decide) ?_
      refine V_sub [] rfl ?_
      exact v_X1_isIn_15 hst h

abbrev VV_X6_canBegin (l : Launch) (G : Gx) (σ0 : Hp) (o : Oc) (σe : Hp) (Se : Ms) := V l G RX6 cX6_canBegin 7 (some .boolean) [] false 2 52 σ0 o σe Se
def f_X6_canBegin_68 (x6 : Int32) : Option Int32 :=
  bd (okZ x6) fun e1 => some x6
set_option maxHeartbeats 4000000 in
theorem v_X6_canBegin_68 {l : Launch} {G : Gx} (hst : l.stackTraces = false) {σ0 σe : Hp} {Se : Ms} {r : Int32} {x6 : Int32} (h : f_X6_canBegin_68 x6 = some r) : VV_X6_canBegin l G σ0 (.inl (some (pI r))) σe Se 68 [(6, pI x6)] [] σe Se := by
  unfold f_X6_canBegin_68 at h
  refine V_iload (i := 6) 0 dX6_canBegin_68 rfl ?_
  obtain ⟨e1, e2, h⟩ := bd_s h
  cases h
  exact V_retZ e2 rfl dX6_canBegin_70
def f_X6_canBegin_63 (k14 : Int32 → Int32 → Int32 → Int32 → Int32 → Int32 → Option Int32) (x5 : Int32) (x4 : Int32) (x1 : Int32) (x2 : Int32) (x3 : Int32) (s0 : Int32) : Option Int32 :=
  k14 s0 x5 x4 x1 x2 x3
set_option maxHeartbeats 4000000 in
theorem v_X6_canBegin_63 {l : Launch} {G : Gx} (hst : l.stackTraces = false) {σ0 σe : Hp} {Se : Ms} {r : Int32} {k14 : Int32 → Int32 → Int32 → Int32 → Int32 → Int32 → Option Int32} (hk14 : ∀ (x6 : Int32) (x5 : Int32) (x4 : Int32) (x1 : Int32) (x2 : Int32) (x3 : Int32), k14 x6 x5 x4 x1 x2 x3 = some r → VV_X6_canBegin l G σ0 (.inl (some (pI r))) σe Se 14 [(6, pI x6), (5, pI x5), (4, pI x4), (1, pI x1), (2, pI x2), (3, pI x3)] [] σe Se) {x5 : Int32} {x4 : Int32} {x1 : Int32} {x2 : Int32} {x3 : Int32} {s0 : Int32} (h : f_X6_canBegin_63 k14 x5 x4 x1 x2 x3 s0 = some r) : VV_X6_canBegin l G σ0 (.inl (some (pI r))) σe Se 63 [(5, pI x5), (4, pI x4), (1, pI x1), (2, pI x2), (3, pI x3)] [pI s0] σe Se := by
  unfold f_X6_canBegin_63 at h
  refine V_istore (i := 6) (L' := [(6, pI s0), (5, pI x5), (4, pI x4), (1, pI x1), (2, pI x2), (3, pI x3)]) dX6_canBegin_63 (by decide) rfl ?_
  refine V_goto 14 dX6_canBegin_65 (by decide) ?_
  refine V_sub [0, 1, 2, 3, 4, 5] rfl ?_
  exact hk14 _ _ _ _ _ _ h
def f_X6_canBegin_62 (k14 : Int32 → Int32 → Int32 → Int32 → Int32 → Int32 → Option Int32) (x5 : Int32) (x4 : Int32) (x1 : Int32) (x2 : Int32) (x3 : Int32) : Option Int32 :=
  f_X6_canBegin_63 k14 x5 x4 x1 x2 x3 (0 : Int32)
set_option maxHeartbeats 4000000 in
theorem v_X6_canBegin_62 {l : Launch} {G : Gx} (hst : l.stackTraces = false) {σ0 σe : Hp} {Se : Ms} {r : Int32} {k14 : Int32 → Int32 → Int32 → Int32 → Int32 → Int32 → Option Int32} (hk14 : ∀ (x6 : Int32) (x5 : Int32) (x4 : Int32) (x1 : Int32) (x2 : Int32) (x3 : Int32), k14 x6 x5 x4 x1 x2 x3 = some r → VV_X6_canBegin l G σ0 (.inl (some (pI r))) σe Se 14 [(6, pI x6), (5, pI x5), (4, pI x4), (1, pI x1), (2, pI x2), (3, pI x3)] [] σe Se) {x5 : Int32} {x4 : Int32} {x1 : Int32} {x2 : Int32} {x3 : Int32} (h : f_X6_canBegin_62 k14 x5 x4 x1 x2 x3 = some r) : VV_X6_canBegin l G σ0 (.inl (some (pI r))) σe Se 62 [(5, pI x5), (4, pI x4), (1, pI x1), (2, pI x2), (3, pI x3)] [] σe Se := by
  unfold f_X6_canBegin_62 at h
  refine V_iconst (v := 0) dX6_canBegin_62 (by decide) ?_
  refine V_sub [0, 1, 2, 3, 4] rfl ?_
  exact v_X6_canBegin_63 hst hk14 h
def f_X6_canBegin_14_b (k14 : Int32 → Int32 → Int32 → Int32 → Int32 → Int32 → Option Int32) (x6 : Int32) (x5 : Int32) (x4 : Int32) (x1 : Int32) (x2 : Int32) (x3 : Int32) : Option Int32 :=
  if x6 = (0 : Int32) then (if x1 ≤ (0 : Int32) then (f_X6_canBegin_68 x6) else (if x3 < x4 then (f_X6_canBegin_68 x6) else (if x3 < ((10 : Int32) * x4) then (f_X6_canBegin_62 k14 (((10 : Int32) * x5) + (9 : Int32)) ((10 : Int32) * x4) x1 x2 x3) else (if (((10 : Int32) * x5) + (9 : Int32)) < x2 then (f_X6_canBegin_62 k14 (((10 : Int32) * x5) + (9 : Int32)) ((10 : Int32) * x4) x1 x2 x3) else (f_X6_canBegin_63 k14 (((10 : Int32) * x5) + (9 : Int32)) ((10 : Int32) * x4) x1 x2 x3 (1 : Int32)))))) else (f_X6_canBegin_68 x6)
set_option maxHeartbeats 4000000 in
theorem v_X6_canBegin_14_b {l : Launch} {G : Gx} (hst : l.stackTraces = false) {σ0 σe : Hp} {Se : Ms} {r : Int32} {k14 : Int32 → Int32 → Int32 → Int32 → Int32 → Int32 → Option Int32} (hk14 : ∀ (x6 : Int32) (x5 : Int32) (x4 : Int32) (x1 : Int32) (x2 : Int32) (x3 : Int32), k14 x6 x5 x4 x1 x2 x3 = some r → VV_X6_canBegin l G σ0 (.inl (some (pI r))) σe Se 14 [(6, pI x6), (5, pI x5), (4, pI x4), (1, pI x1), (2, pI x2), (3, pI x3)] [] σe Se) {x6 : Int32} {x5 : Int32} {x4 : Int32} {x1 : Int32} {x2 : Int32} {x3 : Int32} (h : f_X6_canBegin_14_b k14 x6 x5 x4 x1 x2 x3 = some r) : VV_X6_canBegin l G σ0 (.inl (some (pI r))) σe Se 14 [(6, pI x6), (5, pI x5), (4, pI x4), (1, pI x1), (2, pI x2), (3, pI x3)] [] σe Se := by
  unfold f_X6_canBegin_14_b at h
  refine V_iload (i := 6) 0 dX6_canBegin_14 rfl ?_
  refine V_if_ne 68 dX6_canBegin_16 (by decide) (fun c1 => ?_) (fun c1 => ?_)
  · replace h := it_f c1 h
    refine V_sub [0] rfl ?_
    exact v_X6_canBegin_68 hst h
  · replace h := it_t c1 h
    refine V_iload_n (i := 1) 3 dX6_canBegin_19 rfl rfl ?_
    refine V_if_le 68 dX6_canBegin_20 (by decide) (fun c2 => ?_) (fun c2 => ?_)
    · replace h := it_t c2 h
      refine V_sub [0] rfl ?_
      exact v_X6_canBegin_68 hst h
    · replace h := it_f c2 h
      refine V_iload (i := 4) 2 dX6_canBegin_23 rfl ?_
      refine V_iload_n (i := 3) 5 dX6_canBegin_25 rfl rfl ?_
      refine V_icmp_gt 68 dX6_canBegin_26 (by decide) (fun c3 => ?_) (fun c3 => ?_)
      · replace h := it_t c3 h
        refine V_sub [0] rfl ?_
        exact v_X6_canBegin_68 hst h
      · replace h := it_f c3 h
        refine V_bipush (v := 10) dX6_canBegin_29 (by decide) ?_
        refine V_iload (i := 4) 2 dX6_canBegin_31 rfl ?_
        refine V_imul dX6_canBegin_33 ?_
        refine V_istore (i := 4) (L' := [(4, pI ((10 : Int32) * x4)), (6, pI x6), (5, pI x5), (1, pI x1), (2, pI x2), (3, pI x3)]) dX6_canBegin_34 (by decide) rfl ?_
        refine V_bipush (v := 10) dX6_canBegin_36 (by decide) ?_
        refine V_iload (i := 5) 2 dX6_canBegin_38 rfl ?_
        refine V_imul dX6_canBegin_40 ?_
        refine V_bipush (v := 9) dX6_canBegin_41 (by decide) ?_
        refine V_iadd dX6_canBegin_43 ?_
        refine V_istore (i := 5) (L' := [(5, pI (((10 : Int32) * x5) + (9 : Int32))), (4, pI ((10 : Int32) * x4)), (6, pI x6), (1, pI x1), (2, pI x2), (3, pI x3)]) dX6_canBegin_44 (by decide) rfl ?_
        refine V_iload (i := 4) 1 dX6_canBegin_46 rfl ?_
        refine V_iload_n (i := 3) 5 dX6_canBegin_48 rfl rfl ?_
        refine V_icmp_gt 62 dX6_canBegin_49 (by decide) (fun c4 => ?_) (fun c4 => ?_)
        · replace h := it_t c4 h
          refine V_sub [0, 1, 3, 4, 5] rfl ?_
          exact v_X6_canBegin_62 hst hk14 h
        · replace h := it_f c4 h
          refine V_iload (i := 5) 0 dX6_canBegin_52 rfl ?_
          refine V_iload_n (i := 2) 4 dX6_canBegin_54 rfl rfl ?_
          refine V_icmp_lt 62 dX6_canBegin_55 (by decide) (fun c5 => ?_) (fun c5 => ?_)
          · replace h := it_t c5 h
            refine V_sub [0, 1, 3, 4, 5] rfl ?_
            exact v_X6_canBegin_62 hst hk14 h
          · replace h := it_f c5 h
            refine V_iconst (v := 1) dX6_canBegin_58 (by decide) ?_
            refine V_goto 63 dX6_canBegin_59 (by decide) ?_
            refine V_sub [0, 1, 3, 4, 5] rfl ?_
            exact v_X6_canBegin_63 hst hk14 h
def f_X6_canBegin_14 : Nat → Int32 → Int32 → Int32 → Int32 → Int32 → Int32 → Option Int32
  | 0, _, _, _, _, _, _ => none
  | n + 1, x6, x5, x4, x1, x2, x3 => f_X6_canBegin_14_b (f_X6_canBegin_14 n) x6 x5 x4 x1 x2 x3
theorem v_X6_canBegin_14 {l : Launch} {G : Gx} (hst : l.stackTraces = false) {σ0 σe : Hp} {Se : Ms} {r : Int32} : ∀ (n : Nat) (x6 : Int32) (x5 : Int32) (x4 : Int32) (x1 : Int32) (x2 : Int32) (x3 : Int32), f_X6_canBegin_14 n x6 x5 x4 x1 x2 x3 = some r → VV_X6_canBegin l G σ0 (.inl (some (pI r))) σe Se 14 [(6, pI x6), (5, pI x5), (4, pI x4), (1, pI x1), (2, pI x2), (3, pI x3)] [] σe Se
  | 0, _, _, _, _, _, _, h => by cases h
  | n + 1, _, _, _, _, _, _, h => v_X6_canBegin_14_b hst (v_X6_canBegin_14 hst n) h
def f_X6_canBegin (a0 : Nat) (x1 : Int32) (x2 : Int32) (x3 : Int32) : Option Int32 :=
  bd (f_X1_isIn x1 x2 x3) fun y1 => f_X6_canBegin_14 FU y1 x1 x1 x1 x2 x3
set_option maxHeartbeats 4000000 in
theorem v_X6_canBegin (l : Launch) (G : Gx) (hst : l.stackTraces = false) (σ : Hp) (S : Ms) {a0 : Nat} {x1 : Int32} {x2 : Int32} {x3 : Int32} {r : Int32} (h : f_X6_canBegin a0 x1 x2 x3 = some r) : MT l G yX6_canBegin (ws_ yX6_canBegin cX6_canBegin 7 (some .boolean)) 2 52 [pR a0, pI x1, pI x2, pI x3] σ S (.inl (some (pI r))) σ S := by
  refine MT_of (own := RX6) (nL := 7) (ini := false) (by decide +kernel) rfl (Nat.le_of_ble_eq_true rfl) (fun h => by cases h) hst ?_
  show VV_X6_canBegin l G σ (.inl (some (pI r))) σ S 0 [(0, pR a0), (1, pI x1), (2, pI x2), (3, pI x3)] [] σ S
  unfold f_X6_canBegin at h
  refine V_iload_n (i := 1) 1 dX6_canBegin_0 rfl rfl ?_
  refine V_istore (i := 4) (L' := [(4, pI x1), (0, pR a0), (1, pI x1), (2, pI x2), (3, pI x3)]) dX6_canBegin_1 (by decide) rfl ?_
  refine V_iload_n (i := 1) 2 dX6_canBegin_3 rfl rfl ?_
  refine V_istore (i := 5) (L' := [(5, pI x1), (4, pI x1), (0, pR a0), (1, pI x1), (2, pI x2), (3, pI x3)]) dX6_canBegin_4 (by decide) rfl ?_
  refine V_iload_n (i := 1) 3 dX6_canBegin_6 rfl rfl ?_
  refine V_iload_n (i := 2) 4 dX6_canBegin_7 rfl rfl ?_
  refine V_iload_n (i := 3) 5 dX6_canBegin_8 rfl rfl ?_
  obtain ⟨y1, e2, h⟩ := bd_s h
  refine V_callSN_v (n9 := 3) (host := "GaugeBlocks") [] (v_X1_isIn l G hst _ _ e2) rfl rfl q755 q754 q76 (by decide +kernel) (by decide +kernel) (by decide) (Nat.le_of_ble_eq_true rfl) dX6_canBegin_9 ?_
  refine V_istore (i := 6) (L' := [(6, pI y1), (5, pI x1), (4, pI x1), (0, pR a0), (1, pI x1), (2, pI x2), (3, pI x3)]) dX6_canBegin_12 (by decide) rfl ?_
  refine V_sub [0, 1, 2, 4, 5, 6] rfl ?_
  exact v_X6_canBegin_14 hst FU _ _ _ _ _ _ h

abbrev VV_X6_number (l : Launch) (G : Gx) (σ0 : Hp) (o : Oc) (σe : Hp) (Se : Ms) := V l G RX6 cX6_number 4 (some .int) [] false 7 138 σ0 o σe Se
def f_X6_number_137 (σ : Hp) (x3 : Int32) (s0 : Int32) (t1 : Nat) : Option (Ex Int32 × Hp) :=
  bd (gk σ 5 t1) fun e1 => bp (f_X6_require σ t1 s0) fun r3 σ4 => ex r3 (fun e6 => some (.inl x3, σ4)) (fun e8 => some (.inr e8, σ4))
set_option maxHeartbeats 4000000 in
theorem v_X6_number_137 {l : Launch} {G : Gx} (hst : l.stackTraces = false) {σ0 σe : Hp} {Se : Ms} {r : Ex Int32} {σ : Hp} {x3 : Int32} {s0 : Int32} {t1 : Nat} (h : f_X6_number_137 σ x3 s0 t1 = some (r, σe)) : VV_X6_number l G σ0 (tOI r) σe Se 137 [(3, pI x3)] [pI s0, pR t1] σ Se := by
  unfold f_X6_number_137 at h
  obtain ⟨e1, e2, h⟩ := bd_s h
  obtain ⟨r3, σ4, e5, h⟩ := bp_s h
  refine V_callVxV (n9 := 1) (c := 4) (r := (RX6, TX6, 2)) [] (v_X6_require l G hst _ e5) rfl rfl (lw_V q720 q722 qs6 q106 q723) (by decide +kernel) (by decide) (Nat.le_of_ble_eq_true rfl) (gk_k e2 rfl) rfl dX6_number_137 (fun e6 e7 => ?_) (fun e8 e9 => ?_)
  · subst e7
    replace h := ex_l h
    refine V_iload_n (i := 3) 0 dX6_number_140 rfl rfl ?_
    cases h
    exact V_iret rfl dX6_number_141
  · subst e9
    replace h := ex_r h
    cases h
    exact VX_out (by decide)
def f_X6_number_126 (σ : Hp) (x3 : Int32) (a0 : Nat) (x1 : Int32) : Option (Ex Int32 × Hp) :=
  if x3 < x1 then (f_X6_number_137 σ x3 (0 : Int32) a0) else (f_X6_number_137 σ x3 (1 : Int32) a0)
set_option maxHeartbeats 4000000 in
theorem v_X6_number_126 {l : Launch} {G : Gx} (hst : l.stackTraces = false) {σ0 σe : Hp} {Se : Ms} {r : Ex Int32} {σ : Hp} {x3 : Int32} {a0 : Nat} {x1 : Int32} (h : f_X6_number_126 σ x3 a0 x1 = some (r, σe)) : VV_X6_number l G σ0 (tOI r) σe Se 126 [(3, pI x3), (0, pR a0), (1, pI x1)] [] σ Se := by
  unfold f_X6_number_126 at h
  refine V_aload_n (i := 0) 1 dX6_number_126 rfl rfl ?_
  refine V_iload_n (i := 3) 0 dX6_number_127 rfl rfl ?_
  refine V_iload_n (i := 1) 2 dX6_number_128 rfl rfl ?_
  refine V_icmp_lt 136 dX6_number_129 (by decide) (fun c1 => ?_) (fun c1 => ?_)
  · replace h := it_t c1 h
    refine V_iconst (v := 0) dX6_number_136 (by decide) ?_
    refine V_sub [0] rfl ?_
    exact v_X6_number_137 hst h
  · replace h := it_f c1 h
    refine V_iconst (v := 1) dX6_number_132 (by decide) ?_
    refine V_goto 137 dX6_number_133 (by decide) ?_
    refine V_sub [0] rfl ?_
    exact v_X6_number_137 hst h
def f_X6_number_59_b (k59 : Hp → Int32 → Nat → Int32 → Int32 → Option (Ex Int32 × Hp)) (σ : Hp) (x3 : Int32) (a0 : Nat) (x1 : Int32) (x2 : Int32) : Option (Ex Int32 × Hp) :=
  if x3 ≤ (0 : Int32) then (f_X6_number_126 σ x3 a0 x1) else (bd (gk σ 5 a0) fun e2 => bp (f_X6_peek σ a0) fun y4 σ5 => bd (f_X1_isIn (y4 - (48 : Int32)) (0 : Int32) (9 : Int32)) fun y7 => if y7 = (0 : Int32) then (f_X6_number_126 σ5 x3 a0 x1) else (bd (gk σ5 5 a0) fun e10 => bp (f_X6_peek σ5 a0) fun y12 σ13 => bd (gk σ13 5 a0) fun e15 => bd (f_X6_canBegin a0 ((((10 : Int32) * x3) + y12) - (48 : Int32)) x1 x2) fun y17 => if y17 = (0 : Int32) then (f_X6_number_126 σ13 x3 a0 x1) else (bd (gk σ13 5 a0) fun e20 => bp (f_X6_peek σ13 a0) fun y22 σ23 => bd (rdI σ23 5 a0 50) fun y25 => bd (wrI σ23 5 a0 50 (y25 + (1 : Int32))) fun σ27 => k59 σ27 ((((10 : Int32) * x3) + y22) - (48 : Int32)) a0 x1 x2)))
set_option maxHeartbeats 4000000 in
theorem v_X6_number_59_b {l : Launch} {G : Gx} (hst : l.stackTraces = false) {σ0 σe : Hp} {Se : Ms} {r : Ex Int32} {k59 : Hp → Int32 → Nat → Int32 → Int32 → Option (Ex Int32 × Hp)} (hk59 : ∀ (σ : Hp) (x3 : Int32) (a0 : Nat) (x1 : Int32) (x2 : Int32), k59 σ x3 a0 x1 x2 = some (r, σe) → VV_X6_number l G σ0 (tOI r) σe Se 59 [(3, pI x3), (0, pR a0), (1, pI x1), (2, pI x2)] [] σ Se) {σ : Hp} {x3 : Int32} {a0 : Nat} {x1 : Int32} {x2 : Int32} (h : f_X6_number_59_b k59 σ x3 a0 x1 x2 = some (r, σe)) : VV_X6_number l G σ0 (tOI r) σe Se 59 [(3, pI x3), (0, pR a0), (1, pI x1), (2, pI x2)] [] σ Se := by
  unfold f_X6_number_59_b at h
  refine V_iload_n (i := 3) 0 dX6_number_59 rfl rfl ?_
  refine V_if_le 126 dX6_number_60 (by decide) (fun c1 => ?_) (fun c1 => ?_)
  · replace h := it_t c1 h
    refine V_sub [0, 1, 2] rfl ?_
    exact v_X6_number_126 hst h
  · replace h := it_f c1 h
    refine V_aload_n (i := 0) 1 dX6_number_63 rfl rfl ?_
    obtain ⟨e2, e3, h⟩ := bd_s h
    obtain ⟨y4, σ5, e6, h⟩ := bp_s h
    refine V_callV_v (n9 := 0) (c := 4) (r := (RX6, TX6, 2)) [] (v_X6_peek l G hst _ e6) rfl rfl (lw_V q700 q702 qs5 q106 q703) (by decide +kernel) (by decide) (Nat.le_of_ble_eq_true rfl) (gk_k e3 rfl) rfl dX6_number_64 ?_
    refine V_bipush (v := 48) dX6_number_67 (by decide) ?_
    refine V_isub dX6_number_69 ?_
    refine V_iconst (v := 0) dX6_number_70 (by decide) ?_
    refine V_bipush (v := 9) dX6_number_71 (by decide) ?_
    obtain ⟨y7, e8, h⟩ := bd_s h
    refine V_callSN_v (n9 := 3) (host := "GaugeBlocks") [] (v_X1_isIn l G hst _ _ e8) rfl rfl q755 q754 q76 (by decide +kernel) (by decide +kernel) (by decide) (Nat.le_of_ble_eq_true rfl) dX6_number_73 ?_
    refine V_if_eq 126 dX6_number_76 (by decide) (fun c9 => ?_) (fun c9 => ?_)
    · replace h := it_t c9 h
      refine V_sub [0, 1, 2] rfl ?_
      exact v_X6_number_126 hst h
    · replace h := it_f c9 h
      refine V_aload_n (i := 0) 1 dX6_number_79 rfl rfl ?_
      refine V_bipush (v := 10) dX6_number_80 (by decide) ?_
      refine V_iload_n (i := 3) 0 dX6_number_82 rfl rfl ?_
      refine V_imul dX6_number_83 ?_
      refine V_aload_n (i := 0) 1 dX6_number_84 rfl rfl ?_
      obtain ⟨e10, e11, h⟩ := bd_s h
      obtain ⟨y12, σ13, e14, h⟩ := bp_s h
      refine V_callV_v (n9 := 0) (c := 4) (r := (RX6, TX6, 2)) [pI ((10 : Int32) * x3), pR a0] (v_X6_peek l G hst _ e14) rfl rfl (lw_V q700 q702 qs5 q106 q703) (by decide +kernel) (by decide) (Nat.le_of_ble_eq_true rfl) (gk_k e11 rfl) rfl dX6_number_85 ?_
      refine V_iadd dX6_number_88 ?_
      refine V_bipush (v := 48) dX6_number_89 (by decide) ?_
      refine V_isub dX6_number_91 ?_
      refine V_iload_n (i := 1) 2 dX6_number_92 rfl rfl ?_
      refine V_iload_n (i := 2) 3 dX6_number_93 rfl rfl ?_
      obtain ⟨e15, e16, h⟩ := bd_s h
      obtain ⟨y17, e18, h⟩ := bd_s h
      refine V_callV_v (n9 := 3) (c := 4) (r := (RX6, TX6, 2)) [] (v_X6_canBegin l G hst _ _ e18) rfl rfl (lw_V q756 q758 qs8 q106 q759) (by decide +kernel) (by decide) (Nat.le_of_ble_eq_true rfl) (gk_k e16 rfl) rfl dX6_number_94 ?_
      refine V_if_eq 126 dX6_number_97 (by decide) (fun c19 => ?_) (fun c19 => ?_)
      · replace h := it_t c19 h
        refine V_sub [0, 1, 2] rfl ?_
        exact v_X6_number_126 hst h
      · replace h := it_f c19 h
        refine V_bipush (v := 10) dX6_number_100 (by decide) ?_
        refine V_iload_n (i := 3) 0 dX6_number_102 rfl rfl ?_
        refine V_imul dX6_number_103 ?_
        refine V_aload_n (i := 0) 1 dX6_number_104 rfl rfl ?_
        obtain ⟨e20, e21, h⟩ := bd_s h
        obtain ⟨y22, σ23, e24, h⟩ := bp_s h
        refine V_callV_v (n9 := 0) (c := 4) (r := (RX6, TX6, 2)) [pI ((10 : Int32) * x3)] (v_X6_peek l G hst _ e24) rfl rfl (lw_V q700 q702 qs5 q106 q703) (by decide +kernel) (by decide) (Nat.le_of_ble_eq_true rfl) (gk_k e21 rfl) rfl dX6_number_105 ?_
        refine V_iadd dX6_number_108 ?_
        refine V_bipush (v := 48) dX6_number_109 (by decide) ?_
        refine V_isub dX6_number_111 ?_
        refine V_istore_n (i := 3) (L' := [(3, pI ((((10 : Int32) * x3) + y22) - (48 : Int32))), (0, pR a0), (1, pI x1), (2, pI x2)]) dX6_number_112 rfl (by decide) rfl ?_
        refine V_aload_n (i := 0) 1 dX6_number_113 rfl rfl ?_
        refine V_dup dX6_number_114 rfl ?_
        obtain ⟨y25, e26, h⟩ := bd_s h
        refine V_rdI gf_X6_15 rfl rfl rfl e26 dX6_number_115 ?_
        refine V_iconst (v := 1) dX6_number_118 (by decide) ?_
        refine V_iadd dX6_number_119 ?_
        obtain ⟨σ27, e28, h⟩ := bd_s h
        refine V_wrI gw_X6_15 rfl rfl rfl e28 dX6_number_120 ?_
        refine V_goto 59 dX6_number_123 (by decide) ?_
        refine V_sub [0, 1, 2, 3] rfl ?_
        exact hk59 _ _ _ _ _ h
def f_X6_number_59 : Nat → Hp → Int32 → Nat → Int32 → Int32 → Option (Ex Int32 × Hp)
  | 0, _, _, _, _, _ => none
  | n + 1, σ, x3, a0, x1, x2 => f_X6_number_59_b (f_X6_number_59 n) σ x3 a0 x1 x2
theorem v_X6_number_59 {l : Launch} {G : Gx} (hst : l.stackTraces = false) {σ0 σe : Hp} {Se : Ms} {r : Ex Int32} : ∀ (n : Nat) (σ : Hp) (x3 : Int32) (a0 : Nat) (x1 : Int32) (x2 : Int32), f_X6_number_59 n σ x3 a0 x1 x2 = some (r, σe) → VV_X6_number l G σ0 (tOI r) σe Se 59 [(3, pI x3), (0, pR a0), (1, pI x1), (2, pI x2)] [] σ Se
  | 0, _, _, _, _, _, h => by cases h
  | n + 1, _, _, _, _, _, h => v_X6_number_59_b hst (v_X6_number_59 hst n) h
def f_X6_number_38 (σ : Hp) (a0 : Nat) (x1 : Int32) (x2 : Int32) (s0 : Int32) (t1 : Nat) : Option (Ex Int32 × Hp) :=
  bd (gk σ 5 t1) fun e1 => bp (f_X6_require σ t1 s0) fun r3 σ4 => ex r3 (fun e6 => bd (gk σ4 5 a0) fun e10 => bp (f_X6_peek σ4 a0) fun y12 σ13 => bd (rdI σ13 5 a0 50) fun y15 => bd (wrI σ13 5 a0 50 (y15 + (1 : Int32))) fun σ17 => f_X6_number_59 FU σ17 (y12 - (48 : Int32)) a0 x1 x2) (fun e8 => some (.inr e8, σ4))
set_option maxHeartbeats 4000000 in
theorem v_X6_number_38 {l : Launch} {G : Gx} (hst : l.stackTraces = false) {σ0 σe : Hp} {Se : Ms} {r : Ex Int32} {σ : Hp} {a0 : Nat} {x1 : Int32} {x2 : Int32} {s0 : Int32} {t1 : Nat} (h : f_X6_number_38 σ a0 x1 x2 s0 t1 = some (r, σe)) : VV_X6_number l G σ0 (tOI r) σe Se 38 [(0, pR a0), (1, pI x1), (2, pI x2)] [pI s0, pR t1] σ Se := by
  unfold f_X6_number_38 at h
  obtain ⟨e1, e2, h⟩ := bd_s h
  obtain ⟨r3, σ4, e5, h⟩ := bp_s h
  refine V_callVxV (n9 := 1) (c := 4) (r := (RX6, TX6, 2)) [] (v_X6_require l G hst _ e5) rfl rfl (lw_V q720 q722 qs6 q106 q723) (by decide +kernel) (by decide) (Nat.le_of_ble_eq_true rfl) (gk_k e2 rfl) rfl dX6_number_38 (fun e6 e7 => ?_) (fun e8 e9 => ?_)
  · subst e7
    replace h := ex_l h
    refine V_aload_n (i := 0) 0 dX6_number_41 rfl rfl ?_
    obtain ⟨e10, e11, h⟩ := bd_s h
    obtain ⟨y12, σ13, e14, h⟩ := bp_s h
    refine V_callV_v (n9 := 0) (c := 4) (r := (RX6, TX6, 2)) [] (v_X6_peek l G hst _ e14) rfl rfl (lw_V q700 q702 qs5 q106 q703) (by decide +kernel) (by decide) (Nat.le_of_ble_eq_true rfl) (gk_k e11 rfl) rfl dX6_number_42 ?_
    refine V_bipush (v := 48) dX6_number_45 (by decide) ?_
    refine V_isub dX6_number_47 ?_
    refine V_istore_n (i := 3) (L' := [(3, pI (y12 - (48 : Int32))), (0, pR a0), (1, pI x1), (2, pI x2)]) dX6_number_48 rfl (by decide) rfl ?_
    refine V_aload_n (i := 0) 1 dX6_number_49 rfl rfl ?_
    refine V_dup dX6_number_50 rfl ?_
    obtain ⟨y15, e16, h⟩ := bd_s h
    refine V_rdI gf_X6_15 rfl rfl rfl e16 dX6_number_51 ?_
    refine V_iconst (v := 1) dX6_number_54 (by decide) ?_
    refine V_iadd dX6_number_55 ?_
    obtain ⟨σ17, e18, h⟩ := bd_s h
    refine V_wrI gw_X6_15 rfl rfl rfl e18 dX6_number_56 ?_
    refine V_sub [0, 1, 2, 3] rfl ?_
    exact v_X6_number_59 hst FU _ _ _ _ _ h
  · subst e9
    replace h := ex_r h
    cases h
    exact VX_out (by decide)
def f_X6_number_37 (σ : Hp) (a0 : Nat) (x1 : Int32) (x2 : Int32) (t0 : Nat) : Option (Ex Int32 × Hp) :=
  f_X6_number_38 σ a0 x1 x2 (0 : Int32) t0
set_option maxHeartbeats 4000000 in
theorem v_X6_number_37 {l : Launch} {G : Gx} (hst : l.stackTraces = false) {σ0 σe : Hp} {Se : Ms} {r : Ex Int32} {σ : Hp} {a0 : Nat} {x1 : Int32} {x2 : Int32} {t0 : Nat} (h : f_X6_number_37 σ a0 x1 x2 t0 = some (r, σe)) : VV_X6_number l G σ0 (tOI r) σe Se 37 [(0, pR a0), (1, pI x1), (2, pI x2)] [pR t0] σ Se := by
  unfold f_X6_number_37 at h
  refine V_iconst (v := 0) dX6_number_37 (by decide) ?_
  refine V_sub [0, 1, 2] rfl ?_
  exact v_X6_number_38 hst h
def f_X6_number (σ : Hp) (a0 : Nat) (x1 : Int32) (x2 : Int32) : Option (Ex Int32 × Hp) :=
  bd (gk σ 5 a0) fun e1 => bp (f_X6_peek σ a0) fun y3 σ4 => bd (f_X1_isIn (y3 - (48 : Int32)) (0 : Int32) (9 : Int32)) fun y6 => if y6 = (0 : Int32) then (f_X6_number_37 σ4 a0 x1 x2 a0) else (bd (gk σ4 5 a0) fun e9 => bp (f_X6_peek σ4 a0) fun y11 σ12 => bd (gk σ12 5 a0) fun e14 => bd (f_X6_canBegin a0 (y11 - (48 : Int32)) x1 x2) fun y16 => if y16 = (0 : Int32) then (f_X6_number_37 σ12 a0 x1 x2 a0) else (f_X6_number_38 σ12 a0 x1 x2 (1 : Int32) a0))
set_option maxHeartbeats 4000000 in
theorem v_X6_number (l : Launch) (G : Gx) (hst : l.stackTraces = false) (S : Ms) {σ σe : Hp} {a0 : Nat} {x1 : Int32} {x2 : Int32} {r : Ex Int32} (h : f_X6_number σ a0 x1 x2 = some (r, σe)) : MT l G yX6_number (ws_ yX6_number cX6_number 4 (some .int)) 7 138 [pR a0, pI x1, pI x2] σ S (tOI r) σe S := by
  refine MT_of (own := RX6) (nL := 4) (ini := false) (by decide +kernel) rfl (Nat.le_of_ble_eq_true rfl) (fun h => by cases h) hst ?_
  show VV_X6_number l G σ (tOI r) σe S 0 [(0, pR a0), (1, pI x1), (2, pI x2)] [] σ S
  unfold f_X6_number at h
  refine V_aload_n (i := 0) 0 dX6_number_0 rfl rfl ?_
  refine V_aload_n (i := 0) 0 dX6_number_1 rfl rfl ?_
  obtain ⟨e1, e2, h⟩ := bd_s h
  obtain ⟨y3, σ4, e5, h⟩ := bp_s h
  refine V_callV_v (n9 := 0) (c := 4) (r := (RX6, TX6, 2)) [pR a0] (v_X6_peek l G hst _ e5) rfl rfl (lw_V q700 q702 qs5 q106 q703) (by decide +kernel) (by decide) (Nat.le_of_ble_eq_true rfl) (gk_k e2 rfl) rfl dX6_number_2 ?_
  refine V_bipush (v := 48) dX6_number_5 (by decide) ?_
  refine V_isub dX6_number_7 ?_
  refine V_iconst (v := 0) dX6_number_8 (by decide) ?_
  refine V_bipush (v := 9) dX6_number_9 (by decide) ?_
  obtain ⟨y6, e7, h⟩ := bd_s h
  refine V_callSN_v (n9 := 3) (host := "GaugeBlocks") [pR a0] (v_X1_isIn l G hst _ _ e7) rfl rfl q755 q754 q76 (by decide +kernel) (by decide +kernel) (by decide) (Nat.le_of_ble_eq_true rfl) dX6_number_11 ?_
  refine V_if_eq 37 dX6_number_14 (by decide) (fun c8 => ?_) (fun c8 => ?_)
  · replace h := it_t c8 h
    refine V_sub [0, 1, 2] rfl ?_
    exact v_X6_number_37 hst h
  · replace h := it_f c8 h
    refine V_aload_n (i := 0) 0 dX6_number_17 rfl rfl ?_
    refine V_aload_n (i := 0) 0 dX6_number_18 rfl rfl ?_
    obtain ⟨e9, e10, h⟩ := bd_s h
    obtain ⟨y11, σ12, e13, h⟩ := bp_s h
    refine V_callV_v (n9 := 0) (c := 4) (r := (RX6, TX6, 2)) [pR a0, pR a0] (v_X6_peek l G hst _ e13) rfl rfl (lw_V q700 q702 qs5 q106 q703) (by decide +kernel) (by decide) (Nat.le_of_ble_eq_true rfl) (gk_k e10 rfl) rfl dX6_number_19 ?_
    refine V_bipush (v := 48) dX6_number_22 (by decide) ?_
    refine V_isub dX6_number_24 ?_
    refine V_iload_n (i := 1) 1 dX6_number_25 rfl rfl ?_
    refine V_iload_n (i := 2) 2 dX6_number_26 rfl rfl ?_
    obtain ⟨e14, e15, h⟩ := bd_s h
    obtain ⟨y16, e17, h⟩ := bd_s h
    refine V_callV_v (n9 := 3) (c := 4) (r := (RX6, TX6, 2)) [pR a0] (v_X6_canBegin l G hst _ _ e17) rfl rfl (lw_V q756 q758 qs8 q106 q759) (by decide +kernel) (by decide) (Nat.le_of_ble_eq_true rfl) (gk_k e15 rfl) rfl dX6_number_27 ?_
    refine V_if_eq 37 dX6_number_30 (by decide) (fun c18 => ?_) (fun c18 => ?_)
    · replace h := it_t c18 h
      refine V_sub [0, 1, 2] rfl ?_
      exact v_X6_number_37 hst h
    · replace h := it_f c18 h
      refine V_iconst (v := 1) dX6_number_33 (by decide) ?_
      refine V_goto 38 dX6_number_34 (by decide) ?_
      refine V_sub [0, 1, 2] rfl ?_
      exact v_X6_number_38 hst h

abbrev VV_X8_init (l : Launch) (G : Gx) (σ0 : Hp) (o : Oc) (σe : Hp) (Se : Ms) := V l G RX8 cX8_init 3 none [] true 1 30 σ0 o σe Se
def f_X8_init (σ : Hp) (a0 : Nat) (x1 : Int32) (a2 : Nat) : Option (Unit × Hp) :=
  bd (gz σ a0) fun e1 => bd (wrC σ 7 a0 70 x1) fun σ3 => bd (wrR σ3 7 a0 71 a2) fun σ5 => some ((), σ5)
set_option maxHeartbeats 4000000 in
theorem v_X8_init (l : Launch) (G : Gx) (hst : l.stackTraces = false) (S : Ms) {σ σe : Hp} {a0 : Nat} {x1 : Int32} {a2 : Nat} {r : Unit} (h : f_X8_init σ a0 x1 a2 = some (r, σe)) : MT l G yX8_init (ws_ yX8_init cX8_init 3 none) 1 30 [pR a0, pI x1, pR a2] σ S (.inl none) σe S := by
  refine MT_of (own := RX8) (nL := 3) (ini := true) (by decide +kernel) rfl (Nat.le_of_ble_eq_true rfl) (fun h => rfl) hst ?_
  show VV_X8_init l G σ (.inl none) σe S 0 [(0, pR a0), (1, pI x1), (2, pR a2)] [] σ S
  unfold f_X8_init at h
  refine V_aload_n (i := 0) 0 dX8_init_0 rfl rfl ?_
  obtain ⟨e1, e2, h⟩ := bd_s h
  refine V_objInit (gz_n e2) q763 q131 q132 (by decide) (Nat.le_of_ble_eq_true rfl) dX8_init_1 ?_
  refine V_aload_n (i := 0) 0 dX8_init_4 rfl rfl ?_
  refine V_iload_n (i := 1) 1 dX8_init_5 rfl rfl ?_
  obtain ⟨σ3, e4, h⟩ := bd_s h
  refine V_wrCF gw_X8_7 rfl rfl rfl rfl e4 dX8_init_6 ?_
  refine V_aload_n (i := 0) 0 dX8_init_9 rfl rfl ?_
  refine V_aload_n (i := 2) 2 dX8_init_10 rfl rfl ?_
  obtain ⟨σ5, e6, h⟩ := bd_s h
  refine V_wrRF gw_X8_13 rfl (okF_arr _ rfl) rfl rfl e6 dX8_init_11 ?_
  cases h
  exact V_vret rfl dX8_init_14

abbrev VV_X6_sign (l : Launch) (G : Gx) (σ0 : Hp) (o : Oc) (σe : Hp) (Se : Ms) := V l G RX6 cX6_sign 2 none [] false 7 138 σ0 o σe Se
def f_X6_sign_14 (σ : Hp) (a0 : Nat) (s0 : Int32) (t1 : Nat) : Option (Ex Unit × Hp) :=
  bd (gk σ 5 t1) fun e1 => bp (f_X6_require σ t1 s0) fun r3 σ4 => ex r3 (fun e6 => bd (rdI σ4 5 a0 50) fun y10 => bd (wrI σ4 5 a0 50 (y10 + (1 : Int32))) fun σ12 => some (.inl (), σ12)) (fun e8 => some (.inr e8, σ4))
set_option maxHeartbeats 4000000 in
theorem v_X6_sign_14 {l : Launch} {G : Gx} (hst : l.stackTraces = false) {σ0 σe : Hp} {Se : Ms} {r : Ex Unit} {σ : Hp} {a0 : Nat} {s0 : Int32} {t1 : Nat} (h : f_X6_sign_14 σ a0 s0 t1 = some (r, σe)) : VV_X6_sign l G σ0 (tOV r) σe Se 14 [(0, pR a0)] [pI s0, pR t1] σ Se := by
  unfold f_X6_sign_14 at h
  obtain ⟨e1, e2, h⟩ := bd_s h
  obtain ⟨r3, σ4, e5, h⟩ := bp_s h
  refine V_callVxV (n9 := 1) (c := 4) (r := (RX6, TX6, 2)) [] (v_X6_require l G hst _ e5) rfl rfl (lw_V q720 q722 qs6 q106 q723) (by decide +kernel) (by decide) (Nat.le_of_ble_eq_true rfl) (gk_k e2 rfl) rfl dX6_sign_14 (fun e6 e7 => ?_) (fun e8 e9 => ?_)
  · subst e7
    replace h := ex_l h
    refine V_aload_n (i := 0) 0 dX6_sign_17 rfl rfl ?_
    refine V_dup dX6_sign_18 rfl ?_
    obtain ⟨y10, e11, h⟩ := bd_s h
    refine V_rdI gf_X6_15 rfl rfl rfl e11 dX6_sign_19 ?_
    refine V_iconst (v := 1) dX6_sign_22 (by decide) ?_
    refine V_iadd dX6_sign_23 ?_
    obtain ⟨σ12, e13, h⟩ := bd_s h
    refine V_wrI gw_X6_15 rfl rfl rfl e13 dX6_sign_24 ?_
    cases h
    exact V_vret rfl dX6_sign_27
  · subst e9
    replace h := ex_r h
    cases h
    exact VX_out (by decide)
def f_X6_sign (σ : Hp) (a0 : Nat) (x1 : Int32) : Option (Ex Unit × Hp) :=
  bd (gk σ 5 a0) fun e1 => bp (f_X6_peek σ a0) fun y3 σ4 => if y3 = x1 then (f_X6_sign_14 σ4 a0 (1 : Int32) a0) else (f_X6_sign_14 σ4 a0 (0 : Int32) a0)
set_option maxHeartbeats 4000000 in
theorem v_X6_sign (l : Launch) (G : Gx) (hst : l.stackTraces = false) (S : Ms) {σ σe : Hp} {a0 : Nat} {x1 : Int32} {r : Ex Unit} (h : f_X6_sign σ a0 x1 = some (r, σe)) : MT l G yX6_sign (ws_ yX6_sign cX6_sign 2 none) 7 138 [pR a0, pI x1] σ S (tOV r) σe S := by
  refine MT_of (own := RX6) (nL := 2) (ini := false) (by decide +kernel) rfl (Nat.le_of_ble_eq_true rfl) (fun h => by cases h) hst ?_
  show VV_X6_sign l G σ (tOV r) σe S 0 [(0, pR a0), (1, pI x1)] [] σ S
  unfold f_X6_sign at h
  refine V_aload_n (i := 0) 0 dX6_sign_0 rfl rfl ?_
  refine V_aload_n (i := 0) 0 dX6_sign_1 rfl rfl ?_
  obtain ⟨e1, e2, h⟩ := bd_s h
  obtain ⟨y3, σ4, e5, h⟩ := bp_s h
  refine V_callV_v (n9 := 0) (c := 4) (r := (RX6, TX6, 2)) [pR a0] (v_X6_peek l G hst _ e5) rfl rfl (lw_V q700 q702 qs5 q106 q703) (by decide +kernel) (by decide) (Nat.le_of_ble_eq_true rfl) (gk_k e2 rfl) rfl dX6_sign_2 ?_
  refine V_iload_n (i := 1) 1 dX6_sign_5 rfl rfl ?_
  refine V_icmp_ne 13 dX6_sign_6 (by decide) (fun c6 => ?_) (fun c6 => ?_)
  · replace h := it_f c6 h
    refine V_iconst (v := 0) dX6_sign_13 (by decide) ?_
    refine V_sub [0] rfl ?_
    exact v_X6_sign_14 hst h
  · replace h := it_t c6 h
    refine V_iconst (v := 1) dX6_sign_9 (by decide) ?_
    refine V_goto 14 dX6_sign_10 (by decide) ?_
    refine V_sub [0] rfl ?_
    exact v_X6_sign_14 hst h

abbrev VV_X6_command (l : Launch) (G : Gx) (σ0 : Hp) (o : Oc) (σe : Hp) (Se : Ms) := V l G RX6 cX6_command 3 (some (.object "GaugeBlocks$Command")) [] false 8 161 σ0 o σe Se
def f_X6_command_41 (σ : Hp) (x1 : Int32) (a0 : Nat) (s0 : Int32) (t1 : Nat) : Option (Ex Nat × Hp) :=
  bd (gk σ 5 t1) fun e1 => bp (f_X6_require σ t1 s0) fun r3 σ4 => ex r3 (fun e6 => bd (rdI σ4 5 a0 50) fun y10 => bd (wrI σ4 5 a0 50 (y10 + (1 : Int32))) fun σ12 => if x1 = (98 : Int32) then (bd (nwA (nC σ12 7 2) 101 (1 : Int32)) fun σ15 => bd (gk σ15 5 a0) fun e17 => bp (f_X6_number σ15 a0 (500 : Int32) (100000 : Int32)) fun r19 σ20 => ex r19 (fun y22 => bd (stI σ20 101 (hN (nC σ12 7 2)) (0 : Int32) y22) fun σ26 => bd (gz σ26 (hN σ12)) fun e28 => bp (f_X8_init σ26 (hN σ12) x1 (hN (nC σ12 7 2))) fun e30 σ31 => some (.inl (hN σ12), σ31)) (fun e24 => some (.inr e24, σ20))) else (if x1 = (104 : Int32) then (bd (gk σ12 5 a0) fun e34 => bp (f_X6_number σ12 a0 (0 : Int32) (19 : Int32)) fun r36 σ37 => ex r36 (fun y39 => bd (gk σ37 5 a0) fun e43 => bp (f_X6_sign σ37 a0 (44 : Int32)) fun r45 σ46 => ex r45 (fun e48 => bd (nwA (nC σ46 7 2) 101 (2 : Int32)) fun σ52 => bd (stI σ52 101 (hN (nC σ46 7 2)) (0 : Int32) y39) fun σ54 => bd (gk σ54 5 a0) fun e56 => bp (f_X6_number σ54 a0 (1 : Int32) (60 : Int32)) fun r58 σ59 => ex r58 (fun y61 => bd (stI σ59 101 (hN (nC σ46 7 2)) (1 : Int32) y61) fun σ65 => bd (gz σ65 (hN σ46)) fun e67 => bp (f_X8_init σ65 (hN σ46) x1 (hN (nC σ46 7 2))) fun e69 σ70 => some (.inl (hN σ46), σ70)) (fun e63 => some (.inr e63, σ59))) (fun e50 => some (.inr e50, σ46))) (fun e41 => some (.inr e41, σ37))) else (if x1 = (117 : Int32) then (bd (nwA (nC σ12 7 2) 101 (1 : Int32)) fun σ73 => bd (gk σ73 5 a0) fun e75 => bp (f_X6_number σ73 a0 (0 : Int32) (2 : Int32)) fun r77 σ78 => ex r77 (fun y80 => bd (stI σ78 101 (hN (nC σ12 7 2)) (0 : Int32) y80) fun σ84 => bd (gz σ84 (hN σ12)) fun e86 => bp (f_X8_init σ84 (hN σ12) x1 (hN (nC σ12 7 2))) fun e88 σ89 => some (.inl (hN σ12), σ89)) (fun e82 => some (.inr e82, σ78))) else (if x1 = (119 : Int32) then (bd (gk σ12 5 a0) fun e92 => bp (f_X6_number σ12 a0 (0 : Int32) (2 : Int32)) fun r94 σ95 => ex r94 (fun y97 => bd (gk σ95 5 a0) fun e101 => bp (f_X6_sign σ95 a0 (43 : Int32)) fun r103 σ104 => ex r103 (fun e106 => bd (nwA (nC σ104 7 2) 101 (2 : Int32)) fun σ110 => bd (stI σ110 101 (hN (nC σ104 7 2)) (0 : Int32) y97) fun σ112 => bd (gk σ112 5 a0) fun e114 => bp (f_X6_number σ112 a0 (0 : Int32) (19 : Int32)) fun r116 σ117 => ex r116 (fun y119 => bd (stI σ117 101 (hN (nC σ104 7 2)) (1 : Int32) y119) fun σ123 => bd (gz σ123 (hN σ104)) fun e125 => bp (f_X8_init σ123 (hN σ104) x1 (hN (nC σ104 7 2))) fun e127 σ128 => some (.inl (hN σ104), σ128)) (fun e121 => some (.inr e121, σ117))) (fun e108 => some (.inr e108, σ104))) (fun e99 => some (.inr e99, σ95))) else (bd (nwA (nC σ12 7 2) 101 (1 : Int32)) fun σ130 => bd (gk σ130 5 a0) fun e132 => bp (f_X6_number σ130 a0 (1 : Int32) (60 : Int32)) fun r134 σ135 => ex r134 (fun y137 => bd (stI σ135 101 (hN (nC σ12 7 2)) (0 : Int32) y137) fun σ141 => bd (gz σ141 (hN σ12)) fun e143 => bp (f_X8_init σ141 (hN σ12) x1 (hN (nC σ12 7 2))) fun e145 σ146 => some (.inl (hN σ12), σ146)) (fun e139 => some (.inr e139, σ135))))))) (fun e8 => some (.inr e8, σ4))
set_option maxHeartbeats 4000000 in
theorem v_X6_command_41 {l : Launch} {G : Gx} (hst : l.stackTraces = false) {σ0 σe : Hp} {Se : Ms} {r : Ex Nat} {σ : Hp} {x1 : Int32} {a0 : Nat} {s0 : Int32} {t1 : Nat} (h : f_X6_command_41 σ x1 a0 s0 t1 = some (r, σe)) : VV_X6_command l G σ0 (tOR r) σe Se 41 [(1, pI x1), (0, pR a0)] [pI s0, pR t1] σ Se := by
  unfold f_X6_command_41 at h
  obtain ⟨e1, e2, h⟩ := bd_s h
  obtain ⟨r3, σ4, e5, h⟩ := bp_s h
  refine V_callVxV (n9 := 1) (c := 4) (r := (RX6, TX6, 2)) [] (v_X6_require l G hst _ e5) rfl rfl (lw_V q720 q722 qs6 q106 q723) (by decide +kernel) (by decide) (Nat.le_of_ble_eq_true rfl) (gk_k e2 rfl) rfl dX6_command_41 (fun e6 e7 => ?_) (fun e8 e9 => ?_)
  · subst e7
    replace h := ex_l h
    refine V_aload_n (i := 0) 1 dX6_command_44 rfl rfl ?_
    refine V_dup dX6_command_45 rfl ?_
    obtain ⟨y10, e11, h⟩ := bd_s h
    refine V_rdI gf_X6_15 rfl rfl rfl e11 dX6_command_46 ?_
    refine V_iconst (v := 1) dX6_command_49 (by decide) ?_
    refine V_iadd dX6_command_50 ?_
    obtain ⟨σ12, e13, h⟩ := bd_s h
    refine V_wrI gw_X6_15 rfl rfl rfl e13 dX6_command_51 ?_
    refine V_iload_n (i := 1) 0 dX6_command_54 rfl rfl ?_
    by_cases c14 : x1 = (98 : Int32)
    · replace h := it_t c14 h
      refine V_lookup 96 dX6_command_55 (by decide) (by rw [c14]; first | done | rfl) (by decide) ?_
      refine V_new (n := 2) ci_6 (by decide +kernel) q746 q747 q108 dX6_command_96 ?_
      refine V_dup dX6_command_99 rfl ?_
      refine V_iload_n (i := 1) 0 dX6_command_100 rfl rfl ?_
      refine V_iconst (v := 1) dX6_command_101 (by decide) ?_
      obtain ⟨σ15, e16, h⟩ := bd_s h
      refine V_nwA (t := 1) e16 rfl (by decide) q272 dX6_command_102 ?_
      refine V_dup dX6_command_104 rfl ?_
      refine V_iconst (v := 0) dX6_command_105 (by decide) ?_
      refine V_aload_n (i := 0) 1 dX6_command_106 rfl rfl ?_
      refine V_sipush (v := 500) dX6_command_107 (by decide) ?_
      refine V_ldc dX6_command_110 q748 ?_
      obtain ⟨e17, e18, h⟩ := bd_s h
      obtain ⟨r19, σ20, e21, h⟩ := bp_s h
      refine V_callVxI (n9 := 2) (c := 4) (r := (RX6, TX6, 2)) [pI (0 : Int32), pR (hN (nC σ12 7 2)), pR (hN (nC σ12 7 2)), pI x1, pR (hN σ12), pR (hN σ12)] (v_X6_number l G hst _ e21) rfl rfl (lw_V q749 q751 qs7 q106 q752) (by decide +kernel) (by decide) (Nat.le_of_ble_eq_true rfl) (gk_k e18 rfl) rfl dX6_command_112 (fun y22 e23 => ?_) (fun e24 e25 => ?_)
      · subst e23
        replace h := ex_l h
        obtain ⟨σ26, e27, h⟩ := bd_s h
        refine V_stI1 e27 dX6_command_115 ?_
        obtain ⟨e28, e29, h⟩ := bd_s h
        obtain ⟨e30, σ31, e32, h⟩ := bp_s h
        refine V_callI_0 (n9 := 2) [pR (hN σ12)] (v_X8_init l G hst _ e32) rfl rfl q762 q108 q760 q761 rfl (by decide +kernel) (by decide) (Nat.le_of_ble_eq_true rfl) (gz_n e29) dX6_command_116 ?_
        cases h
        exact V_aret rfl (Or.inl ⟨_, rfl⟩) dX6_command_119
      · subst e25
        replace h := ex_r h
        cases h
        exact VX_out (by decide)
    · replace h := it_f c14 h
      by_cases c33 : x1 = (104 : Int32)
      · replace h := it_t c33 h
        refine V_lookup 180 dX6_command_55 (by decide) (by rw [c33]; first | done | rfl) (by decide) ?_
        refine V_aload_n (i := 0) 1 dX6_command_180 rfl rfl ?_
        refine V_iconst (v := 0) dX6_command_181 (by decide) ?_
        refine V_bipush (v := 19) dX6_command_182 (by decide) ?_
        obtain ⟨e34, e35, h⟩ := bd_s h
        obtain ⟨r36, σ37, e38, h⟩ := bp_s h
        refine V_callVxI (n9 := 2) (c := 4) (r := (RX6, TX6, 2)) [] (v_X6_number l G hst _ e38) rfl rfl (lw_V q749 q751 qs7 q106 q752) (by decide +kernel) (by decide) (Nat.le_of_ble_eq_true rfl) (gk_k e35 rfl) rfl dX6_command_184 (fun y39 e40 => ?_) (fun e41 e42 => ?_)
        · subst e40
          replace h := ex_l h
          refine V_istore_n (i := 2) (L' := [(2, pI y39), (1, pI x1), (0, pR a0)]) dX6_command_187 rfl (by decide) rfl ?_
          refine V_aload_n (i := 0) 2 dX6_command_188 rfl rfl ?_
          refine V_bipush (v := 44) dX6_command_189 (by decide) ?_
          obtain ⟨e43, e44, h⟩ := bd_s h
          obtain ⟨r45, σ46, e47, h⟩ := bp_s h
          refine V_callVxV (n9 := 1) (c := 4) (r := (RX6, TX6, 2)) [] (v_X6_sign l G hst _ e47) rfl rfl (lw_V q773 q775 qs9 q106 q776) (by decide +kernel) (by decide) (Nat.le_of_ble_eq_true rfl) (gk_k e44 rfl) rfl dX6_command_191 (fun e48 e49 => ?_) (fun e50 e51 => ?_)
          · subst e49
            replace h := ex_l h
            refine V_new (n := 2) ci_6 (by decide +kernel) q746 q747 q108 dX6_command_194 ?_
            refine V_dup dX6_command_197 rfl ?_
            refine V_iload_n (i := 1) 1 dX6_command_198 rfl rfl ?_
            refine V_iconst (v := 2) dX6_command_199 (by decide) ?_
            obtain ⟨σ52, e53, h⟩ := bd_s h
            refine V_nwA (t := 1) e53 rfl (by decide) q272 dX6_command_200 ?_
            refine V_dup dX6_command_202 rfl ?_
            refine V_iconst (v := 0) dX6_command_203 (by decide) ?_
            refine V_iload_n (i := 2) 0 dX6_command_204 rfl rfl ?_
            obtain ⟨σ54, e55, h⟩ := bd_s h
            refine V_stI1 e55 dX6_command_205 ?_
            refine V_dup dX6_command_206 rfl ?_
            refine V_iconst (v := 1) dX6_command_207 (by decide) ?_
            refine V_aload_n (i := 0) 2 dX6_command_208 rfl rfl ?_
            refine V_iconst (v := 1) dX6_command_209 (by decide) ?_
            refine V_bipush (v := 60) dX6_command_210 (by decide) ?_
            obtain ⟨e56, e57, h⟩ := bd_s h
            obtain ⟨r58, σ59, e60, h⟩ := bp_s h
            refine V_callVxI (n9 := 2) (c := 4) (r := (RX6, TX6, 2)) [pI (1 : Int32), pR (hN (nC σ46 7 2)), pR (hN (nC σ46 7 2)), pI x1, pR (hN σ46), pR (hN σ46)] (v_X6_number l G hst _ e60) rfl rfl (lw_V q749 q751 qs7 q106 q752) (by decide +kernel) (by decide) (Nat.le_of_ble_eq_true rfl) (gk_k e57 rfl) rfl dX6_command_212 (fun y61 e62 => ?_) (fun e63 e64 => ?_)
            · subst e62
              replace h := ex_l h
              obtain ⟨σ65, e66, h⟩ := bd_s h
              refine V_stI1 e66 dX6_command_215 ?_
              obtain ⟨e67, e68, h⟩ := bd_s h
              obtain ⟨e69, σ70, e71, h⟩ := bp_s h
              refine V_callI_0 (n9 := 2) [pR (hN σ46)] (v_X8_init l G hst _ e71) rfl rfl q762 q108 q760 q761 rfl (by decide +kernel) (by decide) (Nat.le_of_ble_eq_true rfl) (gz_n e68) dX6_command_216 ?_
              cases h
              exact V_aret rfl (Or.inl ⟨_, rfl⟩) dX6_command_219
            · subst e64
              replace h := ex_r h
              cases h
              exact VX_out (by decide)
          · subst e51
            replace h := ex_r h
            cases h
            exact VX_out (by decide)
        · subst e42
          replace h := ex_r h
          cases h
          exact VX_out (by decide)
      · replace h := it_f c33 h
        by_cases c72 : x1 = (117 : Int32)
        · replace h := it_t c72 h
          refine V_lookup 159 dX6_command_55 (by decide) (by rw [c72]; first | done | rfl) (by decide) ?_
          refine V_new (n := 2) ci_6 (by decide +kernel) q746 q747 q108 dX6_command_159 ?_
          refine V_dup dX6_command_162 rfl ?_
          refine V_iload_n (i := 1) 0 dX6_command_163 rfl rfl ?_
          refine V_iconst (v := 1) dX6_command_164 (by decide) ?_
          obtain ⟨σ73, e74, h⟩ := bd_s h
          refine V_nwA (t := 1) e74 rfl (by decide) q272 dX6_command_165 ?_
          refine V_dup dX6_command_167 rfl ?_
          refine V_iconst (v := 0) dX6_command_168 (by decide) ?_
          refine V_aload_n (i := 0) 1 dX6_command_169 rfl rfl ?_
          refine V_iconst (v := 0) dX6_command_170 (by decide) ?_
          refine V_iconst (v := 2) dX6_command_171 (by decide) ?_
          obtain ⟨e75, e76, h⟩ := bd_s h
          obtain ⟨r77, σ78, e79, h⟩ := bp_s h
          refine V_callVxI (n9 := 2) (c := 4) (r := (RX6, TX6, 2)) [pI (0 : Int32), pR (hN (nC σ12 7 2)), pR (hN (nC σ12 7 2)), pI x1, pR (hN σ12), pR (hN σ12)] (v_X6_number l G hst _ e79) rfl rfl (lw_V q749 q751 qs7 q106 q752) (by decide +kernel) (by decide) (Nat.le_of_ble_eq_true rfl) (gk_k e76 rfl) rfl dX6_command_172 (fun y80 e81 => ?_) (fun e82 e83 => ?_)
          · subst e81
            replace h := ex_l h
            obtain ⟨σ84, e85, h⟩ := bd_s h
            refine V_stI1 e85 dX6_command_175 ?_
            obtain ⟨e86, e87, h⟩ := bd_s h
            obtain ⟨e88, σ89, e90, h⟩ := bp_s h
            refine V_callI_0 (n9 := 2) [pR (hN σ12)] (v_X8_init l G hst _ e90) rfl rfl q762 q108 q760 q761 rfl (by decide +kernel) (by decide) (Nat.le_of_ble_eq_true rfl) (gz_n e87) dX6_command_176 ?_
            cases h
            exact V_aret rfl (Or.inl ⟨_, rfl⟩) dX6_command_179
          · subst e83
            replace h := ex_r h
            cases h
            exact VX_out (by decide)
        · replace h := it_f c72 h
          by_cases c91 : x1 = (119 : Int32)
          · replace h := it_t c91 h
            refine V_lookup 120 dX6_command_55 (by decide) (by rw [c91]; first | done | rfl) (by decide) ?_
            refine V_aload_n (i := 0) 1 dX6_command_120 rfl rfl ?_
            refine V_iconst (v := 0) dX6_command_121 (by decide) ?_
            refine V_iconst (v := 2) dX6_command_122 (by decide) ?_
            obtain ⟨e92, e93, h⟩ := bd_s h
            obtain ⟨r94, σ95, e96, h⟩ := bp_s h
            refine V_callVxI (n9 := 2) (c := 4) (r := (RX6, TX6, 2)) [] (v_X6_number l G hst _ e96) rfl rfl (lw_V q749 q751 qs7 q106 q752) (by decide +kernel) (by decide) (Nat.le_of_ble_eq_true rfl) (gk_k e93 rfl) rfl dX6_command_123 (fun y97 e98 => ?_) (fun e99 e100 => ?_)
            · subst e98
              replace h := ex_l h
              refine V_istore_n (i := 2) (L' := [(2, pI y97), (1, pI x1), (0, pR a0)]) dX6_command_126 rfl (by decide) rfl ?_
              refine V_aload_n (i := 0) 2 dX6_command_127 rfl rfl ?_
              refine V_bipush (v := 43) dX6_command_128 (by decide) ?_
              obtain ⟨e101, e102, h⟩ := bd_s h
              obtain ⟨r103, σ104, e105, h⟩ := bp_s h
              refine V_callVxV (n9 := 1) (c := 4) (r := (RX6, TX6, 2)) [] (v_X6_sign l G hst _ e105) rfl rfl (lw_V q773 q775 qs9 q106 q776) (by decide +kernel) (by decide) (Nat.le_of_ble_eq_true rfl) (gk_k e102 rfl) rfl dX6_command_130 (fun e106 e107 => ?_) (fun e108 e109 => ?_)
              · subst e107
                replace h := ex_l h
                refine V_new (n := 2) ci_6 (by decide +kernel) q746 q747 q108 dX6_command_133 ?_
                refine V_dup dX6_command_136 rfl ?_
                refine V_iload_n (i := 1) 1 dX6_command_137 rfl rfl ?_
                refine V_iconst (v := 2) dX6_command_138 (by decide) ?_
                obtain ⟨σ110, e111, h⟩ := bd_s h
                refine V_nwA (t := 1) e111 rfl (by decide) q272 dX6_command_139 ?_
                refine V_dup dX6_command_141 rfl ?_
                refine V_iconst (v := 0) dX6_command_142 (by decide) ?_
                refine V_iload_n (i := 2) 0 dX6_command_143 rfl rfl ?_
                obtain ⟨σ112, e113, h⟩ := bd_s h
                refine V_stI1 e113 dX6_command_144 ?_
                refine V_dup dX6_command_145 rfl ?_
                refine V_iconst (v := 1) dX6_command_146 (by decide) ?_
                refine V_aload_n (i := 0) 2 dX6_command_147 rfl rfl ?_
                refine V_iconst (v := 0) dX6_command_148 (by decide) ?_
                refine V_bipush (v := 19) dX6_command_149 (by decide) ?_
                obtain ⟨e114, e115, h⟩ := bd_s h
                obtain ⟨r116, σ117, e118, h⟩ := bp_s h
                refine V_callVxI (n9 := 2) (c := 4) (r := (RX6, TX6, 2)) [pI (1 : Int32), pR (hN (nC σ104 7 2)), pR (hN (nC σ104 7 2)), pI x1, pR (hN σ104), pR (hN σ104)] (v_X6_number l G hst _ e118) rfl rfl (lw_V q749 q751 qs7 q106 q752) (by decide +kernel) (by decide) (Nat.le_of_ble_eq_true rfl) (gk_k e115 rfl) rfl dX6_command_151 (fun y119 e120 => ?_) (fun e121 e122 => ?_)
                · subst e120
                  replace h := ex_l h
                  obtain ⟨σ123, e124, h⟩ := bd_s h
                  refine V_stI1 e124 dX6_command_154 ?_
                  obtain ⟨e125, e126, h⟩ := bd_s h
                  obtain ⟨e127, σ128, e129, h⟩ := bp_s h
                  refine V_callI_0 (n9 := 2) [pR (hN σ104)] (v_X8_init l G hst _ e129) rfl rfl q762 q108 q760 q761 rfl (by decide +kernel) (by decide) (Nat.le_of_ble_eq_true rfl) (gz_n e126) dX6_command_155 ?_
                  cases h
                  exact V_aret rfl (Or.inl ⟨_, rfl⟩) dX6_command_158
                · subst e122
                  replace h := ex_r h
                  cases h
                  exact VX_out (by decide)
              · subst e109
                replace h := ex_r h
                cases h
                exact VX_out (by decide)
            · subst e100
              replace h := ex_r h
              cases h
              exact VX_out (by decide)
          · replace h := it_f c91 h
            refine V_lookup (off := 165) 220 dX6_command_55 (by decide) ((lv_osw c14 rfl).trans ((lv_osw c33 rfl).trans ((lv_osw c72 rfl).trans ((lv_osw c91 rfl).trans rfl)))) (by decide) ?_
            refine V_new (n := 2) ci_6 (by decide +kernel) q746 q747 q108 dX6_command_220 ?_
            refine V_dup dX6_command_223 rfl ?_
            refine V_iload_n (i := 1) 0 dX6_command_224 rfl rfl ?_
            refine V_iconst (v := 1) dX6_command_225 (by decide) ?_
            obtain ⟨σ130, e131, h⟩ := bd_s h
            refine V_nwA (t := 1) e131 rfl (by decide) q272 dX6_command_226 ?_
            refine V_dup dX6_command_228 rfl ?_
            refine V_iconst (v := 0) dX6_command_229 (by decide) ?_
            refine V_aload_n (i := 0) 1 dX6_command_230 rfl rfl ?_
            refine V_iconst (v := 1) dX6_command_231 (by decide) ?_
            refine V_bipush (v := 60) dX6_command_232 (by decide) ?_
            obtain ⟨e132, e133, h⟩ := bd_s h
            obtain ⟨r134, σ135, e136, h⟩ := bp_s h
            refine V_callVxI (n9 := 2) (c := 4) (r := (RX6, TX6, 2)) [pI (0 : Int32), pR (hN (nC σ12 7 2)), pR (hN (nC σ12 7 2)), pI x1, pR (hN σ12), pR (hN σ12)] (v_X6_number l G hst _ e136) rfl rfl (lw_V q749 q751 qs7 q106 q752) (by decide +kernel) (by decide) (Nat.le_of_ble_eq_true rfl) (gk_k e133 rfl) rfl dX6_command_234 (fun y137 e138 => ?_) (fun e139 e140 => ?_)
            · subst e138
              replace h := ex_l h
              obtain ⟨σ141, e142, h⟩ := bd_s h
              refine V_stI1 e142 dX6_command_237 ?_
              obtain ⟨e143, e144, h⟩ := bd_s h
              obtain ⟨e145, σ146, e147, h⟩ := bp_s h
              refine V_callI_0 (n9 := 2) [pR (hN σ12)] (v_X8_init l G hst _ e147) rfl rfl q762 q108 q760 q761 rfl (by decide +kernel) (by decide) (Nat.le_of_ble_eq_true rfl) (gz_n e144) dX6_command_238 ?_
              cases h
              exact V_aret rfl (Or.inl ⟨_, rfl⟩) dX6_command_241
            · subst e140
              replace h := ex_r h
              cases h
              exact VX_out (by decide)
  · subst e9
    replace h := ex_r h
    cases h
    exact VX_out (by decide)
def f_X6_command_36 (σ : Hp) (x1 : Int32) (a0 : Nat) (t0 : Nat) : Option (Ex Nat × Hp) :=
  f_X6_command_41 σ x1 a0 (1 : Int32) t0
set_option maxHeartbeats 4000000 in
theorem v_X6_command_36 {l : Launch} {G : Gx} (hst : l.stackTraces = false) {σ0 σe : Hp} {Se : Ms} {r : Ex Nat} {σ : Hp} {x1 : Int32} {a0 : Nat} {t0 : Nat} (h : f_X6_command_36 σ x1 a0 t0 = some (r, σe)) : VV_X6_command l G σ0 (tOR r) σe Se 36 [(1, pI x1), (0, pR a0)] [pR t0] σ Se := by
  unfold f_X6_command_36 at h
  refine V_iconst (v := 1) dX6_command_36 (by decide) ?_
  refine V_goto 41 dX6_command_37 (by decide) ?_
  refine V_sub [0, 1] rfl ?_
  exact v_X6_command_41 hst h
def f_X6_command (σ : Hp) (a0 : Nat) : Option (Ex Nat × Hp) :=
  bd (gk σ 5 a0) fun e1 => bp (f_X6_peek σ a0) fun y3 σ4 => if y3 = (98 : Int32) then (f_X6_command_36 σ4 y3 a0 a0) else (if y3 = (119 : Int32) then (f_X6_command_36 σ4 y3 a0 a0) else (if y3 = (117 : Int32) then (f_X6_command_36 σ4 y3 a0 a0) else (if y3 = (104 : Int32) then (f_X6_command_36 σ4 y3 a0 a0) else (if y3 = (114 : Int32) then (f_X6_command_36 σ4 y3 a0 a0) else (f_X6_command_41 σ4 y3 a0 (0 : Int32) a0)))))
set_option maxHeartbeats 4000000 in
theorem v_X6_command (l : Launch) (G : Gx) (hst : l.stackTraces = false) (S : Ms) {σ σe : Hp} {a0 : Nat} {r : Ex Nat} (h : f_X6_command σ a0 = some (r, σe)) : MT l G yX6_command (ws_ yX6_command cX6_command 3 (some (.object "GaugeBlocks$Command"))) 8 161 [pR a0] σ S (tOR r) σe S := by
  refine MT_of (own := RX6) (nL := 3) (ini := false) (by decide +kernel) rfl (Nat.le_of_ble_eq_true rfl) (fun h => by cases h) hst ?_
  show VV_X6_command l G σ (tOR r) σe S 0 [(0, pR a0)] [] σ S
  unfold f_X6_command at h
  refine V_aload_n (i := 0) 0 dX6_command_0 rfl rfl ?_
  obtain ⟨e1, e2, h⟩ := bd_s h
  obtain ⟨y3, σ4, e5, h⟩ := bp_s h
  refine V_callV_v (n9 := 0) (c := 4) (r := (RX6, TX6, 2)) [] (v_X6_peek l G hst _ e5) rfl rfl (lw_V q700 q702 qs5 q106 q703) (by decide +kernel) (by decide) (Nat.le_of_ble_eq_true rfl) (gk_k e2 rfl) rfl dX6_command_1 ?_
  refine V_istore_n (i := 1) (L' := [(1, pI y3), (0, pR a0)]) dX6_command_4 rfl (by decide) rfl ?_
  refine V_aload_n (i := 0) 1 dX6_command_5 rfl rfl ?_
  refine V_iload_n (i := 1) 0 dX6_command_6 rfl rfl ?_
  refine V_bipush (v := 98) dX6_command_7 (by decide) ?_
  refine V_icmp_eq 36 dX6_command_9 (by decide) (fun c6 => ?_) (fun c6 => ?_)
  · replace h := it_t c6 h
    refine V_sub [0, 1] rfl ?_
    exact v_X6_command_36 hst h
  · replace h := it_f c6 h
    refine V_iload_n (i := 1) 0 dX6_command_12 rfl rfl ?_
    refine V_bipush (v := 119) dX6_command_13 (by decide) ?_
    refine V_icmp_eq 36 dX6_command_15 (by decide) (fun c7 => ?_) (fun c7 => ?_)
    · replace h := it_t c7 h
      refine V_sub [0, 1] rfl ?_
      exact v_X6_command_36 hst h
    · replace h := it_f c7 h
      refine V_iload_n (i := 1) 0 dX6_command_18 rfl rfl ?_
      refine V_bipush (v := 117) dX6_command_19 (by decide) ?_
      refine V_icmp_eq 36 dX6_command_21 (by decide) (fun c8 => ?_) (fun c8 => ?_)
      · replace h := it_t c8 h
        refine V_sub [0, 1] rfl ?_
        exact v_X6_command_36 hst h
      · replace h := it_f c8 h
        refine V_iload_n (i := 1) 0 dX6_command_24 rfl rfl ?_
        refine V_bipush (v := 104) dX6_command_25 (by decide) ?_
        refine V_icmp_eq 36 dX6_command_27 (by decide) (fun c9 => ?_) (fun c9 => ?_)
        · replace h := it_t c9 h
          refine V_sub [0, 1] rfl ?_
          exact v_X6_command_36 hst h
        · replace h := it_f c9 h
          refine V_iload_n (i := 1) 0 dX6_command_30 rfl rfl ?_
          refine V_bipush (v := 114) dX6_command_31 (by decide) ?_
          refine V_icmp_ne 40 dX6_command_33 (by decide) (fun c10 => ?_) (fun c10 => ?_)
          · replace h := it_f c10 h
            refine V_iconst (v := 0) dX6_command_40 (by decide) ?_
            refine V_sub [0, 1] rfl ?_
            exact v_X6_command_41 hst h
          · replace h := it_t c10 h
            refine V_sub [0, 1] rfl ?_
            exact v_X6_command_36 hst h

abbrev VV_X6_commands (l : Launch) (G : Gx) (σ0 : Hp) (o : Oc) (σe : Hp) (Se : Ms) := V l G RX6 cX6_commands 2 (some (.object "java/util/ArrayList")) [] false 9 211 σ0 o σe Se
def f_X6_commands_17_b (k17 : Hp → Nat → Nat → Option (Ex Nat × Hp)) (σ : Hp) (a1 : Nat) (a0 : Nat) : Option (Ex Nat × Hp) :=
  bd (rdI σ 5 a0 50) fun y1 => bd (rdR σ 5 a0 51) fun b3 => bd (rdR σ 1 b3 13) fun b5 => bd (gk σ 13 b5) fun e7 => bp (f_J8_length σ b5) fun y9 σ10 => if y9 ≤ y1 then (some (.inl a1, σ10)) else (bd (gk σ10 5 a0) fun e13 => bp (f_X6_sign σ10 a0 (59 : Int32)) fun r15 σ16 => ex r15 (fun e18 => bd (gk σ16 5 a0) fun e22 => bp (f_X6_command σ16 a0) fun r24 σ25 => ex r24 (fun b27 => bd (gk σ25 10 a1) fun e31 => bp (f_J2_add σ25 a1 b27) fun y33 σ34 => k17 σ34 a1 a0) (fun e29 => some (.inr e29, σ25))) (fun e20 => some (.inr e20, σ16)))
set_option maxHeartbeats 4000000 in
theorem v_X6_commands_17_b {l : Launch} {G : Gx} (hst : l.stackTraces = false) {σ0 σe : Hp} {Se : Ms} {r : Ex Nat} {k17 : Hp → Nat → Nat → Option (Ex Nat × Hp)} (hk17 : ∀ (σ : Hp) (a1 : Nat) (a0 : Nat), k17 σ a1 a0 = some (r, σe) → VV_X6_commands l G σ0 (tOR r) σe Se 17 [(1, pR a1), (0, pR a0)] [] σ Se) {σ : Hp} {a1 : Nat} {a0 : Nat} (h : f_X6_commands_17_b k17 σ a1 a0 = some (r, σe)) : VV_X6_commands l G σ0 (tOR r) σe Se 17 [(1, pR a1), (0, pR a0)] [] σ Se := by
  unfold f_X6_commands_17_b at h
  refine V_aload_n (i := 0) 1 dX6_commands_17 rfl rfl ?_
  obtain ⟨y1, e2, h⟩ := bd_s h
  refine V_rdI gf_X6_15 rfl rfl rfl e2 dX6_commands_18 ?_
  refine V_aload_n (i := 0) 1 dX6_commands_21 rfl rfl ?_
  obtain ⟨b3, e4, h⟩ := bd_s h
  refine V_rdR gf_X6_3 rfl rfl rfl e4 dX6_commands_22 ?_
  obtain ⟨b5, e6, h⟩ := bd_s h
  refine V_rdRN gf_X6_19 rfl rfl rfl e6 dX6_commands_25 ?_
  obtain ⟨e7, e8, h⟩ := bd_s h
  obtain ⟨y9, σ10, e11, h⟩ := bp_s h
  refine V_callV_v (n9 := 0) (c := 12) (r := (RJ8, TJ8, 4)) [pI y1] (v_J8_length l G hst _ e11) rfl rfl (lw_V q704 q343 q344 q87 q345) (by decide +kernel) (by decide) (Nat.le_of_ble_eq_true rfl) (gk_k e8 rfl) rfl dX6_commands_28 ?_
  refine V_icmp_ge 52 dX6_commands_31 (by decide) (fun c12 => ?_) (fun c12 => ?_)
  · replace h := it_t c12 h
    refine V_aload_n (i := 1) 0 dX6_commands_52 rfl rfl ?_
    cases h
    exact V_aret rfl (Or.inl ⟨_, rfl⟩) dX6_commands_53
  · replace h := it_f c12 h
    refine V_aload_n (i := 0) 1 dX6_commands_34 rfl rfl ?_
    refine V_bipush (v := 59) dX6_commands_35 (by decide) ?_
    obtain ⟨e13, e14, h⟩ := bd_s h
    obtain ⟨r15, σ16, e17, h⟩ := bp_s h
    refine V_callVxV (n9 := 1) (c := 4) (r := (RX6, TX6, 2)) [] (v_X6_sign l G hst _ e17) rfl rfl (lw_V q773 q775 qs9 q106 q776) (by decide +kernel) (by decide) (Nat.le_of_ble_eq_true rfl) (gk_k e14 rfl) rfl dX6_commands_37 (fun e18 e19 => ?_) (fun e20 e21 => ?_)
    · subst e19
      replace h := ex_l h
      refine V_aload_n (i := 1) 0 dX6_commands_40 rfl rfl ?_
      refine V_aload_n (i := 0) 1 dX6_commands_41 rfl rfl ?_
      obtain ⟨e22, e23, h⟩ := bd_s h
      obtain ⟨r24, σ25, e26, h⟩ := bp_s h
      refine V_callVxR (n9 := 0) (c := 4) (r := (RX6, TX6, 2)) [pR a1] (v_X6_command l G hst _ e26) rfl rfl (lw_V q696 q698 qs4 q106 q699) (by decide +kernel) (by decide) (Nat.le_of_ble_eq_true rfl) (gk_k e23 rfl) rfl dX6_commands_42 (fun b27 e28 => ?_) (fun e29 e30 => ?_)
      · subst e28
        replace h := ex_l h
        obtain ⟨e31, e32, h⟩ := bd_s h
        obtain ⟨y33, σ34, e35, h⟩ := bp_s h
        refine V_callV_v (n9 := 1) (c := 9) (r := (RJ2, TJ2, 3)) [] (v_J2_add l G hst _ e35) rfl rfl (lw_V q777 q169 q170 q80 q171) (by decide +kernel) (by decide) (Nat.le_of_ble_eq_true rfl) (gk_k e32 rfl) rfl dX6_commands_45 ?_
        refine V_pop dX6_commands_48 rfl ?_
        refine V_goto 17 dX6_commands_49 (by decide) ?_
        refine V_sub [0, 1] rfl ?_
        exact hk17 _ _ _ h
      · subst e30
        replace h := ex_r h
        cases h
        exact VX_out (by decide)
    · subst e21
      replace h := ex_r h
      cases h
      exact VX_out (by decide)
def f_X6_commands_17 : Nat → Hp → Nat → Nat → Option (Ex Nat × Hp)
  | 0, _, _, _ => none
  | n + 1, σ, a1, a0 => f_X6_commands_17_b (f_X6_commands_17 n) σ a1 a0
theorem v_X6_commands_17 {l : Launch} {G : Gx} (hst : l.stackTraces = false) {σ0 σe : Hp} {Se : Ms} {r : Ex Nat} : ∀ (n : Nat) (σ : Hp) (a1 : Nat) (a0 : Nat), f_X6_commands_17 n σ a1 a0 = some (r, σe) → VV_X6_commands l G σ0 (tOR r) σe Se 17 [(1, pR a1), (0, pR a0)] [] σ Se
  | 0, _, _, _, h => by cases h
  | n + 1, _, _, _, h => v_X6_commands_17_b hst (v_X6_commands_17 hst n) h
def f_X6_commands (σ : Hp) (a0 : Nat) : Option (Ex Nat × Hp) :=
  bd (gz (nC σ 10 3) (hN σ)) fun e1 => bp (f_J2_init (nC σ 10 3) (hN σ)) fun e3 σ4 => bd (gk σ4 5 a0) fun e6 => bp (f_X6_command σ4 a0) fun r8 σ9 => ex r8 (fun b11 => bd (gk σ9 10 (hN σ)) fun e15 => bp (f_J2_add σ9 (hN σ) b11) fun y17 σ18 => f_X6_commands_17 FU σ18 (hN σ) a0) (fun e13 => some (.inr e13, σ9))
set_option maxHeartbeats 4000000 in
theorem v_X6_commands (l : Launch) (G : Gx) (hst : l.stackTraces = false) (S : Ms) {σ σe : Hp} {a0 : Nat} {r : Ex Nat} (h : f_X6_commands σ a0 = some (r, σe)) : MT l G yX6_commands (ws_ yX6_commands cX6_commands 2 (some (.object "java/util/ArrayList"))) 9 211 [pR a0] σ S (tOR r) σe S := by
  refine MT_of (own := RX6) (nL := 2) (ini := false) (by decide +kernel) rfl (Nat.le_of_ble_eq_true rfl) (fun h => by cases h) hst ?_
  show VV_X6_commands l G σ (tOR r) σe S 0 [(0, pR a0)] [] σ S
  unfold f_X6_commands at h
  refine V_new (n := 3) ci_9 (by decide +kernel) q694 q140 q80 dX6_commands_0 ?_
  refine V_dup dX6_commands_3 rfl ?_
  obtain ⟨e1, e2, h⟩ := bd_s h
  obtain ⟨e3, σ4, e5, h⟩ := bp_s h
  refine V_callI_0 (n9 := 0) [pR (hN σ)] (v_J2_init l G hst _ e5) rfl rfl q143 q80 q695 q142 rfl (by decide +kernel) (by decide) (Nat.le_of_ble_eq_true rfl) (gz_n e2) dX6_commands_4 ?_
  refine V_astore_n (i := 1) (L' := [(1, pR (hN σ)), (0, pR a0)]) dX6_commands_7 rfl (by decide) rfl ?_
  refine V_aload_n (i := 1) 0 dX6_commands_8 rfl rfl ?_
  refine V_aload_n (i := 0) 1 dX6_commands_9 rfl rfl ?_
  obtain ⟨e6, e7, h⟩ := bd_s h
  obtain ⟨r8, σ9, e10, h⟩ := bp_s h
  refine V_callVxR (n9 := 0) (c := 4) (r := (RX6, TX6, 2)) [pR (hN σ)] (v_X6_command l G hst _ e10) rfl rfl (lw_V q696 q698 qs4 q106 q699) (by decide +kernel) (by decide) (Nat.le_of_ble_eq_true rfl) (gk_k e7 rfl) rfl dX6_commands_10 (fun b11 e12 => ?_) (fun e13 e14 => ?_)
  · subst e12
    replace h := ex_l h
    obtain ⟨e15, e16, h⟩ := bd_s h
    obtain ⟨y17, σ18, e19, h⟩ := bp_s h
    refine V_callV_v (n9 := 1) (c := 9) (r := (RJ2, TJ2, 3)) [] (v_J2_add l G hst _ e19) rfl rfl (lw_V q777 q169 q170 q80 q171) (by decide +kernel) (by decide) (Nat.le_of_ble_eq_true rfl) (gk_k e16 rfl) rfl dX6_commands_13 ?_
    refine V_pop dX6_commands_16 rfl ?_
    refine V_sub [0, 1] rfl ?_
    exact v_X6_commands_17 hst FU _ _ _ h
  · subst e14
    replace h := ex_r h
    cases h
    exact VX_out (by decide)

abbrev VV_J29_size (l : Launch) (G : Gx) (σ0 : Hp) (o : Oc) (σe : Hp) (Se : Ms) := V l G RJ29 cJ29_size 1 (some .int) [] false 1 30 σ0 o σe Se
def f_J29_size (σ : Hp) (a0 : Nat) : Option (Int32 × Hp) :=
  bd (rdI σ 15 a0 154) fun y1 => some (y1, σ)
set_option maxHeartbeats 4000000 in
theorem v_J29_size (l : Launch) (G : Gx) (hst : l.stackTraces = false) (S : Ms) {σ σe : Hp} {a0 : Nat} {r : Int32} (h : f_J29_size σ a0 = some (r, σe)) : MT l G yJ29_size (ws_ yJ29_size cJ29_size 1 (some .int)) 1 30 [pR a0] σ S (.inl (some (pI r))) σe S := by
  refine MT_of (own := RJ29) (nL := 1) (ini := false) (by decide +kernel) rfl (Nat.le_of_ble_eq_true rfl) (fun h => by cases h) hst ?_
  show VV_J29_size l G σ (.inl (some (pI r))) σe S 0 [(0, pR a0)] [] σ S
  unfold f_J29_size at h
  refine V_aload_n (i := 0) 0 dJ29_size_0 rfl rfl ?_
  obtain ⟨y1, e2, h⟩ := bd_s h
  refine V_rdI gf_J29_7 rfl rfl rfl e2 dJ29_size_1 ?_
  cases h
  exact V_iret rfl dJ29_size_4

abbrev VV_J29_navigableKeySet (l : Launch) (G : Gx) (σ0 : Hp) (o : Oc) (σe : Hp) (Se : Ms) := V l G RJ29 cJ29_navigableKeySet 2 (some (.object "java/util/NavigableSet")) [] false 4 91 σ0 o σe Se
def f_J29_navigableKeySet_26 (σ : Hp) (t0 : Nat) : Option (Nat × Hp) :=
  some (t0, σ)
set_option maxHeartbeats 4000000 in
theorem v_J29_navigableKeySet_26 {l : Launch} {G : Gx} (hst : l.stackTraces = false) {σ0 σe : Hp} {Se : Ms} {r : Nat} {σ : Hp} {t0 : Nat} (h : f_J29_navigableKeySet_26 σ t0 = some (r, σe)) : VV_J29_navigableKeySet l G σ0 (.inl (some (pR r))) σe Se 26 [] [pR t0] σ Se := by
  unfold f_J29_navigableKeySet_26 at h
  cases h
  exact V_aret rfl (Or.inl ⟨_, rfl⟩) dJ29_navigableKeySet_26
def f_J29_navigableKeySet (σ : Hp) (a0 : Nat) : Option (Nat × Hp) :=
  bd (rdR σ 15 a0 157) fun b1 => if b1 = 0 then (bd (gz (nC σ 17 1) (hN σ)) fun e4 => bp (f_J32_init (nC σ 17 1) (hN σ) a0) fun e6 σ7 => bd (wrR σ7 15 a0 157 (hN σ)) fun σ9 => f_J29_navigableKeySet_26 σ9 (hN σ)) else (f_J29_navigableKeySet_26 σ b1)
set_option maxHeartbeats 4000000 in
theorem v_J29_navigableKeySet (l : Launch) (G : Gx) (hst : l.stackTraces = false) (S : Ms) {σ σe : Hp} {a0 : Nat} {r : Nat} (h : f_J29_navigableKeySet σ a0 = some (r, σe)) : MT l G yJ29_navigableKeySet (ws_ yJ29_navigableKeySet cJ29_navigableKeySet 2 (some (.object "java/util/NavigableSet"))) 4 91 [pR a0] σ S (.inl (some (pR r))) σe S := by
  refine MT_of (own := RJ29) (nL := 2) (ini := false) (by decide +kernel) rfl (Nat.le_of_ble_eq_true rfl) (fun h => by cases h) hst ?_
  show VV_J29_navigableKeySet l G σ (.inl (some (pR r))) σe S 0 [(0, pR a0)] [] σ S
  unfold f_J29_navigableKeySet at h
  refine V_aload_n (i := 0) 0 dJ29_navigableKeySet_0 rfl rfl ?_
  obtain ⟨b1, e2, h⟩ := bd_s h
  refine V_rdR gf_J29_191 rfl rfl rfl e2 dJ29_navigableKeySet_1 ?_
  refine V_astore_n (i := 1) (L' := [(1, pR b1), (0, pR a0)]) dJ29_navigableKeySet_4 rfl (by decide) rfl ?_
  refine V_aload_n (i := 1) 0 dJ29_navigableKeySet_5 rfl rfl ?_
  refine V_ifnull 13 dJ29_navigableKeySet_6 (by decide) (fun c3 => ?_) (fun c3 => ?_)
  · replace h := it_t c3 h
    refine V_aload_n (i := 0) 1 dJ29_navigableKeySet_13 rfl rfl ?_
    refine V_new (n := 1) ci_16 (by decide +kernel) q1850 q1851 q121 dJ29_navigableKeySet_14 ?_
    refine V_dup dJ29_navigableKeySet_17 rfl ?_
    refine V_aload_n (i := 0) 1 dJ29_navigableKeySet_18 rfl rfl ?_
    obtain ⟨e4, e5, h⟩ := bd_s h
    obtain ⟨e6, σ7, e8, h⟩ := bp_s h
    refine V_callI_0 (n9 := 1) [pR (hN σ), pR a0] (v_J32_init l G hst _ e8) rfl rfl q1854 q121 q1852 q1853 rfl (by decide +kernel) (by decide) (Nat.le_of_ble_eq_true rfl) (gz_n e5) dJ29_navigableKeySet_19 ?_
    refine V_dup_x1 dJ29_navigableKeySet_22 rfl rfl ?_
    obtain ⟨σ9, e10, h⟩ := bd_s h
    refine V_wrR gw_J29_191 (okF_obj _ rfl) rfl rfl e10 dJ29_navigableKeySet_23 ?_
    refine V_sub [] rfl ?_
    exact v_J29_navigableKeySet_26 hst h
  · replace h := it_f c3 h
    refine V_aload_n (i := 1) 0 dJ29_navigableKeySet_9 rfl rfl ?_
    refine V_goto 26 dJ29_navigableKeySet_10 (by decide) ?_
    refine V_sub [] rfl ?_
    exact v_J29_navigableKeySet_26 hst h

abbrev VV_J29_keySet (l : Launch) (G : Gx) (σ0 : Hp) (o : Oc) (σe : Hp) (Se : Ms) := V l G RJ29 cJ29_keySet 1 (some (.object "java/util/Set")) [] false 5 112 σ0 o σe Se
def f_J29_keySet (σ : Hp) (a0 : Nat) : Option (Nat × Hp) :=
  bd (gk σ 15 a0) fun e1 => bp (f_J29_navigableKeySet σ a0) fun b3 σ4 => some (b3, σ4)
set_option maxHeartbeats 4000000 in
theorem v_J29_keySet (l : Launch) (G : Gx) (hst : l.stackTraces = false) (S : Ms) {σ σe : Hp} {a0 : Nat} {r : Nat} (h : f_J29_keySet σ a0 = some (r, σe)) : MT l G yJ29_keySet (ws_ yJ29_keySet cJ29_keySet 1 (some (.object "java/util/Set"))) 5 112 [pR a0] σ S (.inl (some (pR r))) σe S := by
  refine MT_of (own := RJ29) (nL := 1) (ini := false) (by decide +kernel) rfl (Nat.le_of_ble_eq_true rfl) (fun h => by cases h) hst ?_
  show VV_J29_keySet l G σ (.inl (some (pR r))) σe S 0 [(0, pR a0)] [] σ S
  unfold f_J29_keySet at h
  refine V_aload_n (i := 0) 0 dJ29_keySet_0 rfl rfl ?_
  obtain ⟨e1, e2, h⟩ := bd_s h
  obtain ⟨b3, σ4, e5, h⟩ := bp_s h
  refine V_callV_v (n9 := 0) (c := 14) (r := (RJ29, TJ29, 9)) [] (v_J29_navigableKeySet l G hst _ e5) rfl rfl (lw_V q1846 q1847 q1848 q117 q1849) (by decide +kernel) (by decide) (Nat.le_of_ble_eq_true rfl) (gk_k e2 rfl) rfl dJ29_keySet_1 ?_
  cases h
  exact V_aret rfl (Or.inl ⟨_, rfl⟩) dJ29_keySet_4

abbrev VV_J33_hasNext (l : Launch) (G : Gx) (σ0 : Hp) (o : Oc) (σe : Hp) (Se : Ms) := V l G RJ33 cJ33_hasNext 1 (some .boolean) [] false 1 30 σ0 o σe Se
def f_J33_hasNext_12 (σ : Hp) (s0 : Int32) : Option (Int32 × Hp) :=
  bd (okZ s0) fun e1 => some (s0, σ)
set_option maxHeartbeats 4000000 in
theorem v_J33_hasNext_12 {l : Launch} {G : Gx} (hst : l.stackTraces = false) {σ0 σe : Hp} {Se : Ms} {r : Int32} {σ : Hp} {s0 : Int32} (h : f_J33_hasNext_12 σ s0 = some (r, σe)) : VV_J33_hasNext l G σ0 (.inl (some (pI r))) σe Se 12 [] [pI s0] σ Se := by
  unfold f_J33_hasNext_12 at h
  obtain ⟨e1, e2, h⟩ := bd_s h
  cases h
  exact V_retZ e2 rfl dJ33_hasNext_12
def f_J33_hasNext (σ : Hp) (a0 : Nat) : Option (Int32 × Hp) :=
  bd (rdR σ 18 a0 180) fun b1 => if b1 = 0 then (f_J33_hasNext_12 σ (0 : Int32)) else (f_J33_hasNext_12 σ (1 : Int32))
set_option maxHeartbeats 4000000 in
theorem v_J33_hasNext (l : Launch) (G : Gx) (hst : l.stackTraces = false) (S : Ms) {σ σe : Hp} {a0 : Nat} {r : Int32} (h : f_J33_hasNext σ a0 = some (r, σe)) : MT l G yJ33_hasNext (ws_ yJ33_hasNext cJ33_hasNext 1 (some .boolean)) 1 30 [pR a0] σ S (.inl (some (pI r))) σe S := by
  refine MT_of (own := RJ33) (nL := 1) (ini := false) (by decide +kernel) rfl (Nat.le_of_ble_eq_true rfl) (fun h => by cases h) hst ?_
  show VV_J33_hasNext l G σ (.inl (some (pI r))) σe S 0 [(0, pR a0)] [] σ S
  unfold f_J33_hasNext at h
  refine V_aload_n (i := 0) 0 dJ33_hasNext_0 rfl rfl ?_
  obtain ⟨b1, e2, h⟩ := bd_s h
  refine V_rdR gf_J33_26 rfl rfl rfl e2 dJ33_hasNext_1 ?_
  refine V_ifnull 11 dJ33_hasNext_4 (by decide) (fun c3 => ?_) (fun c3 => ?_)
  · replace h := it_t c3 h
    refine V_iconst (v := 0) dJ33_hasNext_11 (by decide) ?_
    refine V_sub [] rfl ?_
    exact v_J33_hasNext_12 hst h
  · replace h := it_f c3 h
    refine V_iconst (v := 1) dJ33_hasNext_7 (by decide) ?_
    refine V_goto 12 dJ33_hasNext_8 (by decide) ?_
    refine V_sub [] rfl ?_
    exact v_J33_hasNext_12 hst h

abbrev VV_J6_init (l : Launch) (G : Gx) (σ0 : Hp) (o : Oc) (σe : Hp) (Se : Ms) := V l G RJ6 cJ6_init 1 none [] true 2 50 σ0 o σe Se
def f_J6_init (σ : Hp) (a0 : Nat) : Option (Unit × Hp) :=
  bd (gz σ a0) fun e1 => bp (f_J0_init σ a0) fun e3 σ4 => bd (nwA σ4 105 (17 : Int32)) fun σ6 => bd (wrR σ6 12 a0 120 (hN σ4)) fun σ8 => some ((), σ8)
set_option maxHeartbeats 4000000 in
theorem v_J6_init (l : Launch) (G : Gx) (hst : l.stackTraces = false) (S : Ms) {σ σe : Hp} {a0 : Nat} {r : Unit} (h : f_J6_init σ a0 = some (r, σe)) : MT l G yJ6_init (ws_ yJ6_init cJ6_init 1 none) 2 50 [pR a0] σ S (.inl none) σe S := by
  refine MT_of (own := RJ6) (nL := 1) (ini := true) (by decide +kernel) rfl (Nat.le_of_ble_eq_true rfl) (fun h => rfl) hst ?_
  show VV_J6_init l G σ (.inl none) σe S 0 [(0, pR a0)] [] σ S
  unfold f_J6_init at h
  refine V_aload_n (i := 0) 0 dJ6_init_0 rfl rfl ?_
  obtain ⟨e1, e2, h⟩ := bd_s h
  obtain ⟨e3, σ4, e5, h⟩ := bp_s h
  refine V_callI_0 (n9 := 0) [] (v_J0_init l G hst _ e5) rfl rfl q149 q78 q278 q148 rfl (by decide +kernel) (by decide) (Nat.le_of_ble_eq_true rfl) (gz_n e2) dJ6_init_1 ?_
  refine V_aload_n (i := 0) 0 dJ6_init_4 rfl rfl ?_
  refine V_bipush (v := 17) dJ6_init_5 (by decide) ?_
  obtain ⟨σ6, e7, h⟩ := bd_s h
  refine V_nwQ (t := 5) e7 (by decide) q279 dJ6_init_7 ?_
  obtain ⟨σ8, e9, h⟩ := bd_s h
  refine V_wrR gw_J6_3 (okF_arr _ rfl) rfl rfl e9 dJ6_init_10 ?_
  cases h
  exact V_vret rfl dJ6_init_13

abbrev VV_J6_sub (l : Launch) (G : Gx) (σ0 : Hp) (o : Oc) (σe : Hp) (Se : Ms) := V l G RJ6 cJ6_sub 3 (some .int) [] false 1 30 σ0 o σe Se
def f_J6_sub_12 (x0 : Int32) : Option Int32 :=
  some x0
set_option maxHeartbeats 4000000 in
theorem v_J6_sub_12 {l : Launch} {G : Gx} (hst : l.stackTraces = false) {σ0 σe : Hp} {Se : Ms} {r : Int32} {x0 : Int32} (h : f_J6_sub_12 x0 = some r) : VV_J6_sub l G σ0 (.inl (some (pI r))) σe Se 12 [(0, pI x0)] [] σe Se := by
  unfold f_J6_sub_12 at h
  refine V_iload_n (i := 0) 0 dJ6_sub_12 rfl rfl ?_
  cases h
  exact V_iret rfl dJ6_sub_13
def f_J6_sub (x0 : Int32) (x1 : Int32) (x2 : Int32) : Option Int32 :=
  if (0 : Int32) ≤ (x0 - x1) then (f_J6_sub_12 (x0 - x1)) else (f_J6_sub_12 ((x0 - x1) + x2))
set_option maxHeartbeats 4000000 in
theorem v_J6_sub (l : Launch) (G : Gx) (hst : l.stackTraces = false) (σ : Hp) (S : Ms) {x0 : Int32} {x1 : Int32} {x2 : Int32} {r : Int32} (h : f_J6_sub x0 x1 x2 = some r) : MT l G yJ6_sub (ws_ yJ6_sub cJ6_sub 3 (some .int)) 1 30 [pI x0, pI x1, pI x2] σ S (.inl (some (pI r))) σ S := by
  refine MT_of (own := RJ6) (nL := 3) (ini := false) (by decide +kernel) rfl (Nat.le_of_ble_eq_true rfl) (fun h => by cases h) hst ?_
  show VV_J6_sub l G σ (.inl (some (pI r))) σ S 0 [(0, pI x0), (1, pI x1), (2, pI x2)] [] σ S
  unfold f_J6_sub at h
  refine V_iload_n (i := 0) 0 dJ6_sub_0 rfl rfl ?_
  refine V_iload_n (i := 1) 1 dJ6_sub_1 rfl rfl ?_
  refine V_isub dJ6_sub_2 ?_
  refine V_dup dJ6_sub_3 rfl ?_
  refine V_istore_n (i := 0) (L' := [(0, pI (x0 - x1)), (1, pI x1), (2, pI x2)]) dJ6_sub_4 rfl (by decide) rfl ?_
  refine V_if_ge 12 dJ6_sub_5 (by decide) (fun c1 => ?_) (fun c1 => ?_)
  · replace h := it_t c1 h
    refine V_sub [0] rfl ?_
    exact v_J6_sub_12 hst h
  · replace h := it_f c1 h
    refine V_iload_n (i := 0) 0 dJ6_sub_8 rfl rfl ?_
    refine V_iload_n (i := 2) 2 dJ6_sub_9 rfl rfl ?_
    refine V_iadd dJ6_sub_10 ?_
    refine V_istore_n (i := 0) (L' := [(0, pI ((x0 - x1) + x2)), (1, pI x1), (2, pI x2)]) dJ6_sub_11 rfl (by decide) rfl ?_
    refine V_sub [0] rfl ?_
    exact v_J6_sub_12 hst h

abbrev VV_J6_size (l : Launch) (G : Gx) (σ0 : Hp) (o : Oc) (σe : Hp) (Se : Ms) := V l G RJ6 cJ6_size 1 (some .int) [] false 2 52 σ0 o σe Se
def f_J6_size (σ : Hp) (a0 : Nat) : Option (Int32 × Hp) :=
  bd (rdI σ 12 a0 122) fun y1 => bd (rdI σ 12 a0 121) fun y3 => bd (rdR σ 12 a0 120) fun b5 => bd (elN σ b5) fun y7 => bd (f_J6_sub y1 y3 y7) fun y9 => some (y9, σ)
set_option maxHeartbeats 4000000 in
theorem v_J6_size (l : Launch) (G : Gx) (hst : l.stackTraces = false) (S : Ms) {σ σe : Hp} {a0 : Nat} {r : Int32} (h : f_J6_size σ a0 = some (r, σe)) : MT l G yJ6_size (ws_ yJ6_size cJ6_size 1 (some .int)) 2 52 [pR a0] σ S (.inl (some (pI r))) σe S := by
  refine MT_of (own := RJ6) (nL := 1) (ini := false) (by decide +kernel) rfl (Nat.le_of_ble_eq_true rfl) (fun h => by cases h) hst ?_
  show VV_J6_size l G σ (.inl (some (pI r))) σe S 0 [(0, pR a0)] [] σ S
  unfold f_J6_size at h
  refine V_aload_n (i := 0) 0 dJ6_size_0 rfl rfl ?_
  obtain ⟨y1, e2, h⟩ := bd_s h
  refine V_rdI gf_J6_20 rfl rfl rfl e2 dJ6_size_1 ?_
  refine V_aload_n (i := 0) 0 dJ6_size_4 rfl rfl ?_
  obtain ⟨y3, e4, h⟩ := bd_s h
  refine V_rdI gf_J6_24 rfl rfl rfl e4 dJ6_size_5 ?_
  refine V_aload_n (i := 0) 0 dJ6_size_8 rfl rfl ?_
  obtain ⟨b5, e6, h⟩ := bd_s h
  refine V_rdR gf_J6_3 rfl rfl rfl e6 dJ6_size_9 ?_
  obtain ⟨y7, e8, h⟩ := bd_s h
  refine V_elN e8 dJ6_size_12 ?_
  obtain ⟨y9, e10, h⟩ := bd_s h
  refine V_callS_v (n9 := 3) [] (v_J6_sub l G hst _ _ e10) rfl rfl (lw_S q912 q913 q85 q914) (by decide +kernel) (by decide) (Nat.le_of_ble_eq_true rfl) dJ6_size_13 ?_
  cases h
  exact V_iret rfl dJ6_size_16

abbrev VV_J6_elementAt (l : Launch) (G : Gx) (σ0 : Hp) (o : Oc) (σe : Hp) (Se : Ms) := V l G RJ6 cJ6_elementAt 2 (some (.object "java/lang/Object")) [] false 1 30 σ0 o σe Se
def f_J6_elementAt (σ : Hp) (a0 : Nat) (x1 : Int32) : Option (Nat × Hp) :=
  bd (elR σ 105 a0 x1) fun b1 => some (b1, σ)
set_option maxHeartbeats 4000000 in
theorem v_J6_elementAt (l : Launch) (G : Gx) (hst : l.stackTraces = false) (S : Ms) {σ σe : Hp} {a0 : Nat} {x1 : Int32} {r : Nat} (h : f_J6_elementAt σ a0 x1 = some (r, σe)) : MT l G yJ6_elementAt (ws_ yJ6_elementAt cJ6_elementAt 2 (some (.object "java/lang/Object"))) 1 30 [pR a0, pI x1] σ S (.inl (some (pR r))) σe S := by
  refine MT_of (own := RJ6) (nL := 2) (ini := false) (by decide +kernel) rfl (Nat.le_of_ble_eq_true rfl) (fun h => by cases h) hst ?_
  show VV_J6_elementAt l G σ (.inl (some (pR r))) σe S 0 [(0, pR a0), (1, pI x1)] [] σ S
  unfold f_J6_elementAt at h
  refine V_aload_n (i := 0) 0 dJ6_elementAt_0 rfl rfl ?_
  refine V_iload_n (i := 1) 1 dJ6_elementAt_1 rfl rfl ?_
  obtain ⟨b1, e2, h⟩ := bd_s h
  refine V_elR5 e2 dJ6_elementAt_2 ?_
  cases h
  exact V_aret rfl (Or.inl ⟨_, rfl⟩) dJ6_elementAt_3

abbrev VV_J6_inc (l : Launch) (G : Gx) (σ0 : Hp) (o : Oc) (σe : Hp) (Se : Ms) := V l G RJ6 cJ6_inc 2 (some .int) [] false 1 30 σ0 o σe Se
def f_J6_inc_10 (x0 : Int32) : Option Int32 :=
  some x0
set_option maxHeartbeats 4000000 in
theorem v_J6_inc_10 {l : Launch} {G : Gx} (hst : l.stackTraces = false) {σ0 σe : Hp} {Se : Ms} {r : Int32} {x0 : Int32} (h : f_J6_inc_10 x0 = some r) : VV_J6_inc l G σ0 (.inl (some (pI r))) σe Se 10 [(0, pI x0)] [] σe Se := by
  unfold f_J6_inc_10 at h
  refine V_iload_n (i := 0) 0 dJ6_inc_10 rfl rfl ?_
  cases h
  exact V_iret rfl dJ6_inc_11
def f_J6_inc (x0 : Int32) (x1 : Int32) : Option Int32 :=
  if (x0 + (1 : Int32)) < x1 then (f_J6_inc_10 (x0 + (1 : Int32))) else (f_J6_inc_10 (0 : Int32))
set_option maxHeartbeats 4000000 in
theorem v_J6_inc (l : Launch) (G : Gx) (hst : l.stackTraces = false) (σ : Hp) (S : Ms) {x0 : Int32} {x1 : Int32} {r : Int32} (h : f_J6_inc x0 x1 = some r) : MT l G yJ6_inc (ws_ yJ6_inc cJ6_inc 2 (some .int)) 1 30 [pI x0, pI x1] σ S (.inl (some (pI r))) σ S := by
  refine MT_of (own := RJ6) (nL := 2) (ini := false) (by decide +kernel) rfl (Nat.le_of_ble_eq_true rfl) (fun h => by cases h) hst ?_
  show VV_J6_inc l G σ (.inl (some (pI r))) σ S 0 [(0, pI x0), (1, pI x1)] [] σ S
  unfold f_J6_inc at h
  refine V_iinc (v := (x0 + (1 : Int32))) (L' := [(0, pI (x0 + (1 : Int32))), (1, pI x1)]) 0 dJ6_inc_0 rfl rfl (by decide) rfl ?_
  refine V_iload_n (i := 0) 0 dJ6_inc_3 rfl rfl ?_
  refine V_iload_n (i := 1) 1 dJ6_inc_4 rfl rfl ?_
  refine V_icmp_lt 10 dJ6_inc_5 (by decide) (fun c1 => ?_) (fun c1 => ?_)
  · replace h := it_t c1 h
    refine V_sub [0] rfl ?_
    exact v_J6_inc_10 hst h
  · replace h := it_f c1 h
    refine V_iconst (v := 0) dJ6_inc_8 (by decide) ?_
    refine V_istore_n (i := 0) (L' := [(0, pI (0 : Int32)), (1, pI x1)]) dJ6_inc_9 rfl (by decide) rfl ?_
    refine V_sub [0] rfl ?_
    exact v_J6_inc_10 hst h

abbrev VV_J6_pollFirst (l : Launch) (G : Gx) (σ0 : Hp) (o : Oc) (σe : Hp) (Se : Ms) := V l G RJ6 cJ6_pollFirst 4 (some (.object "java/lang/Object")) [] false 2 51 σ0 o σe Se
def f_J6_pollFirst_34 (σ : Hp) (a3 : Nat) : Option (Nat × Hp) :=
  some (a3, σ)
set_option maxHeartbeats 4000000 in
theorem v_J6_pollFirst_34 {l : Launch} {G : Gx} (hst : l.stackTraces = false) {σ0 σe : Hp} {Se : Ms} {r : Nat} {σ : Hp} {a3 : Nat} (h : f_J6_pollFirst_34 σ a3 = some (r, σe)) : VV_J6_pollFirst l G σ0 (.inl (some (pR r))) σe Se 34 [(3, pR a3)] [] σ Se := by
  unfold f_J6_pollFirst_34 at h
  refine V_aload_n (i := 3) 0 dJ6_pollFirst_34 rfl rfl ?_
  cases h
  exact V_aret rfl (Or.inl ⟨_, rfl⟩) dJ6_pollFirst_35
def f_J6_pollFirst (σ : Hp) (a0 : Nat) : Option (Nat × Hp) :=
  bd (rdR σ 12 a0 120) fun b1 => bd (rdI σ 12 a0 121) fun y3 => bp (f_J6_elementAt σ b1 y3) fun b5 σ6 => if b5 = 0 then (f_J6_pollFirst_34 σ6 b5) else (bd (stR σ6 105 b1 y3 0) fun σ9 => bd (elN σ9 b1) fun y11 => bd (f_J6_inc y3 y11) fun y13 => bd (wrI σ9 12 a0 121 y13) fun σ15 => f_J6_pollFirst_34 σ15 b5)
set_option maxHeartbeats 4000000 in
theorem v_J6_pollFirst (l : Launch) (G : Gx) (hst : l.stackTraces = false) (S : Ms) {σ σe : Hp} {a0 : Nat} {r : Nat} (h : f_J6_pollFirst σ a0 = some (r, σe)) : MT l G yJ6_pollFirst (ws_ yJ6_pollFirst cJ6_pollFirst 4 (some (.object "java/lang/Object"))) 2 51 [pR a0] σ S (.inl (some (pR r))) σe S := by
  refine MT_of (own := RJ6) (nL := 4) (ini := false) (by decide +kernel) rfl (Nat.le_of_ble_eq_true rfl) (fun h => by cases h) hst ?_
  show VV_J6_pollFirst l G σ (.inl (some (pR r))) σe S 0 [(0, pR a0)] [] σ S
  unfold f_J6_pollFirst at h
  refine V_aload_n (i := 0) 0 dJ6_pollFirst_0 rfl rfl ?_
  obtain ⟨b1, e2, h⟩ := bd_s h
  refine V_rdR gf_J6_3 rfl rfl rfl e2 dJ6_pollFirst_1 ?_
  refine V_dup dJ6_pollFirst_4 rfl ?_
  refine V_astore_n (i := 1) (L' := [(1, pR b1), (0, pR a0)]) dJ6_pollFirst_5 rfl (by decide) rfl ?_
  refine V_aload_n (i := 0) 1 dJ6_pollFirst_6 rfl rfl ?_
  obtain ⟨y3, e4, h⟩ := bd_s h
  refine V_rdI gf_J6_24 rfl rfl rfl e4 dJ6_pollFirst_7 ?_
  refine V_dup dJ6_pollFirst_10 rfl ?_
  refine V_istore_n (i := 2) (L' := [(2, pI y3), (1, pR b1), (0, pR a0)]) dJ6_pollFirst_11 rfl (by decide) rfl ?_
  obtain ⟨b5, σ6, e7, h⟩ := bp_s h
  refine V_callS_v (n9 := 2) [] (v_J6_elementAt l G hst _ e7) rfl rfl (lw_S q923 q924 q85 q925) (by decide +kernel) (by decide) (Nat.le_of_ble_eq_true rfl) dJ6_pollFirst_12 ?_
  refine V_astore_n (i := 3) (L' := [(3, pR b5), (2, pI y3), (1, pR b1), (0, pR a0)]) dJ6_pollFirst_15 rfl (by decide) rfl ?_
  refine V_aload_n (i := 3) 0 dJ6_pollFirst_16 rfl rfl ?_
  refine V_ifnull 34 dJ6_pollFirst_17 (by decide) (fun c8 => ?_) (fun c8 => ?_)
  · replace h := it_t c8 h
    refine V_sub [0] rfl ?_
    exact v_J6_pollFirst_34 hst h
  · replace h := it_f c8 h
    refine V_aload_n (i := 1) 2 dJ6_pollFirst_20 rfl rfl ?_
    refine V_iload_n (i := 2) 1 dJ6_pollFirst_21 rfl rfl ?_
    refine V_null dJ6_pollFirst_22 ?_
    obtain ⟨σ9, e10, h⟩ := bd_s h
    refine V_stR5 e10 dJ6_pollFirst_23 ?_
    refine V_aload_n (i := 0) 3 dJ6_pollFirst_24 rfl rfl ?_
    refine V_iload_n (i := 2) 1 dJ6_pollFirst_25 rfl rfl ?_
    refine V_aload_n (i := 1) 2 dJ6_pollFirst_26 rfl rfl ?_
    obtain ⟨y11, e12, h⟩ := bd_s h
    refine V_elN e12 dJ6_pollFirst_27 ?_
    obtain ⟨y13, e14, h⟩ := bd_s h
    refine V_callS_v (n9 := 2) [pR a0] (v_J6_inc l G hst _ _ e14) rfl rfl (lw_S q926 q927 q85 q928) (by decide +kernel) (by decide) (Nat.le_of_ble_eq_true rfl) dJ6_pollFirst_28 ?_
    obtain ⟨σ15, e16, h⟩ := bd_s h
    refine V_wrI gw_J6_24 rfl rfl rfl e16 dJ6_pollFirst_31 ?_
    refine V_sub [0] rfl ?_
    exact v_J6_pollFirst_34 hst h

abbrev VV_J6_removeFirst (l : Launch) (G : Gx) (σ0 : Hp) (o : Oc) (σe : Hp) (Se : Ms) := V l G RJ6 cJ6_removeFirst 2 (some (.object "java/lang/Object")) [] false 3 74 σ0 o σe Se
def f_J6_removeFirst (σ : Hp) (a0 : Nat) : Option (Nat × Hp) :=
  bd (gk σ 12 a0) fun e1 => bp (f_J6_pollFirst σ a0) fun b3 σ4 => if b3 = 0 then (none) else (some (b3, σ4))
set_option maxHeartbeats 4000000 in
theorem v_J6_removeFirst (l : Launch) (G : Gx) (hst : l.stackTraces = false) (S : Ms) {σ σe : Hp} {a0 : Nat} {r : Nat} (h : f_J6_removeFirst σ a0 = some (r, σe)) : MT l G yJ6_removeFirst (ws_ yJ6_removeFirst cJ6_removeFirst 2 (some (.object "java/lang/Object"))) 3 74 [pR a0] σ S (.inl (some (pR r))) σe S := by
  refine MT_of (own := RJ6) (nL := 2) (ini := false) (by decide +kernel) rfl (Nat.le_of_ble_eq_true rfl) (fun h => by cases h) hst ?_
  show VV_J6_removeFirst l G σ (.inl (some (pR r))) σe S 0 [(0, pR a0)] [] σ S
  unfold f_J6_removeFirst at h
  refine V_aload_n (i := 0) 0 dJ6_removeFirst_0 rfl rfl ?_
  obtain ⟨e1, e2, h⟩ := bd_s h
  obtain ⟨b3, σ4, e5, h⟩ := bp_s h
  refine V_callV_v (n9 := 0) (c := 11) (r := (RJ6, TJ6, 3)) [] (v_J6_pollFirst l G hst _ e5) rfl rfl (lw_V q919 q920 q921 q85 q922) (by decide +kernel) (by decide) (Nat.le_of_ble_eq_true rfl) (gk_k e2 rfl) rfl dJ6_removeFirst_1 ?_
  refine V_astore_n (i := 1) (L' := [(1, pR b3), (0, pR a0)]) dJ6_removeFirst_4 rfl (by decide) rfl ?_
  refine V_aload_n (i := 1) 0 dJ6_removeFirst_5 rfl rfl ?_
  refine V_ifnonnull 17 dJ6_removeFirst_6 (by decide) (fun c6 => ?_) (fun c6 => ?_)
  · replace h := it_f c6 h
    refine V_aload_n (i := 1) 0 dJ6_removeFirst_17 rfl rfl ?_
    cases h
    exact V_aret rfl (Or.inl ⟨_, rfl⟩) dJ6_removeFirst_18
  · replace h := it_t c6 h
    cases h

abbrev VV_J6_addLast (l : Launch) (G : Gx) (σ0 : Hp) (o : Oc) (σe : Hp) (Se : Ms) := V l G RJ6 cJ6_addLast 3 none [] false 2 51 σ0 o σe Se
def f_J6_addLast (σ : Hp) (a0 : Nat) (a1 : Nat) : Option (Unit × Hp) :=
  if a1 = 0 then (none) else (bd (rdR σ 12 a0 120) fun b2 => bd (rdI σ 12 a0 122) fun y4 => bd (stR σ 105 b2 y4 a1) fun σ6 => bd (rdI σ6 12 a0 121) fun y8 => bd (rdI σ6 12 a0 122) fun y10 => bd (elN σ6 b2) fun y12 => bd (f_J6_inc y10 y12) fun y14 => bd (wrI σ6 12 a0 122 y14) fun σ16 => if y8 = y14 then (none) else (some ((), σ16)))
set_option maxHeartbeats 4000000 in
theorem v_J6_addLast (l : Launch) (G : Gx) (hst : l.stackTraces = false) (S : Ms) {σ σe : Hp} {a0 : Nat} {a1 : Nat} {r : Unit} (h : f_J6_addLast σ a0 a1 = some (r, σe)) : MT l G yJ6_addLast (ws_ yJ6_addLast cJ6_addLast 3 none) 2 51 [pR a0, pR a1] σ S (.inl none) σe S := by
  refine MT_of (own := RJ6) (nL := 3) (ini := false) (by decide +kernel) rfl (Nat.le_of_ble_eq_true rfl) (fun h => by cases h) hst ?_
  show VV_J6_addLast l G σ (.inl none) σe S 0 [(0, pR a0), (1, pR a1)] [] σ S
  unfold f_J6_addLast at h
  refine V_aload_n (i := 1) 1 dJ6_addLast_0 rfl rfl ?_
  refine V_ifnonnull 12 dJ6_addLast_1 (by decide) (fun c1 => ?_) (fun c1 => ?_)
  · replace h := it_f c1 h
    refine V_aload_n (i := 0) 0 dJ6_addLast_12 rfl rfl ?_
    obtain ⟨b2, e3, h⟩ := bd_s h
    refine V_rdR gf_J6_3 rfl rfl rfl e3 dJ6_addLast_13 ?_
    refine V_astore_n (i := 2) (L' := [(2, pR b2), (0, pR a0), (1, pR a1)]) dJ6_addLast_16 rfl (by decide) rfl ?_
    refine V_aload_n (i := 2) 0 dJ6_addLast_17 rfl rfl ?_
    refine V_aload_n (i := 0) 1 dJ6_addLast_18 rfl rfl ?_
    obtain ⟨y4, e5, h⟩ := bd_s h
    refine V_rdI gf_J6_20 rfl rfl rfl e5 dJ6_addLast_19 ?_
    refine V_aload_n (i := 1) 2 dJ6_addLast_22 rfl rfl ?_
    obtain ⟨σ6, e7, h⟩ := bd_s h
    refine V_stR5 e7 dJ6_addLast_23 ?_
    refine V_aload_n (i := 0) 1 dJ6_addLast_24 rfl rfl ?_
    obtain ⟨y8, e9, h⟩ := bd_s h
    refine V_rdI gf_J6_24 rfl rfl rfl e9 dJ6_addLast_25 ?_
    refine V_aload_n (i := 0) 1 dJ6_addLast_28 rfl rfl ?_
    refine V_aload_n (i := 0) 1 dJ6_addLast_29 rfl rfl ?_
    obtain ⟨y10, e11, h⟩ := bd_s h
    refine V_rdI gf_J6_20 rfl rfl rfl e11 dJ6_addLast_30 ?_
    refine V_aload_n (i := 2) 0 dJ6_addLast_33 rfl rfl ?_
    obtain ⟨y12, e13, h⟩ := bd_s h
    refine V_elN e13 dJ6_addLast_34 ?_
    obtain ⟨y14, e15, h⟩ := bd_s h
    refine V_callS_v (n9 := 2) [pR a0, pI y8] (v_J6_inc l G hst _ _ e15) rfl rfl (lw_S q926 q927 q85 q928) (by decide +kernel) (by decide) (Nat.le_of_ble_eq_true rfl) dJ6_addLast_35 ?_
    refine V_dup_x1 dJ6_addLast_38 rfl rfl ?_
    obtain ⟨σ16, e17, h⟩ := bd_s h
    refine V_wrI gw_J6_20 rfl rfl rfl e17 dJ6_addLast_39 ?_
    refine V_icmp_ne 50 dJ6_addLast_42 (by decide) (fun c18 => ?_) (fun c18 => ?_)
    · replace h := it_f c18 h
      cases h
      exact V_vret rfl dJ6_addLast_50
    · replace h := it_t c18 h
      refine V_aload_n (i := 0) 1 dJ6_addLast_45 rfl rfl ?_
      refine V_iconst (v := 1) dJ6_addLast_46 (by decide) ?_
      cases h
  · replace h := it_t c1 h
    cases h

abbrev VV_J6_isEmpty (l : Launch) (G : Gx) (σ0 : Hp) (o : Oc) (σe : Hp) (Se : Ms) := V l G RJ6 cJ6_isEmpty 1 (some .boolean) [] false 1 30 σ0 o σe Se
def f_J6_isEmpty_16 (σ : Hp) (s0 : Int32) : Option (Int32 × Hp) :=
  bd (okZ s0) fun e1 => some (s0, σ)
set_option maxHeartbeats 4000000 in
theorem v_J6_isEmpty_16 {l : Launch} {G : Gx} (hst : l.stackTraces = false) {σ0 σe : Hp} {Se : Ms} {r : Int32} {σ : Hp} {s0 : Int32} (h : f_J6_isEmpty_16 σ s0 = some (r, σe)) : VV_J6_isEmpty l G σ0 (.inl (some (pI r))) σe Se 16 [] [pI s0] σ Se := by
  unfold f_J6_isEmpty_16 at h
  obtain ⟨e1, e2, h⟩ := bd_s h
  cases h
  exact V_retZ e2 rfl dJ6_isEmpty_16
def f_J6_isEmpty (σ : Hp) (a0 : Nat) : Option (Int32 × Hp) :=
  bd (rdI σ 12 a0 121) fun y1 => bd (rdI σ 12 a0 122) fun y3 => if y1 = y3 then (f_J6_isEmpty_16 σ (1 : Int32)) else (f_J6_isEmpty_16 σ (0 : Int32))
set_option maxHeartbeats 4000000 in
theorem v_J6_isEmpty (l : Launch) (G : Gx) (hst : l.stackTraces = false) (S : Ms) {σ σe : Hp} {a0 : Nat} {r : Int32} (h : f_J6_isEmpty σ a0 = some (r, σe)) : MT l G yJ6_isEmpty (ws_ yJ6_isEmpty cJ6_isEmpty 1 (some .boolean)) 1 30 [pR a0] σ S (.inl (some (pI r))) σe S := by
  refine MT_of (own := RJ6) (nL := 1) (ini := false) (by decide +kernel) rfl (Nat.le_of_ble_eq_true rfl) (fun h => by cases h) hst ?_
  show VV_J6_isEmpty l G σ (.inl (some (pI r))) σe S 0 [(0, pR a0)] [] σ S
  unfold f_J6_isEmpty at h
  refine V_aload_n (i := 0) 0 dJ6_isEmpty_0 rfl rfl ?_
  obtain ⟨y1, e2, h⟩ := bd_s h
  refine V_rdI gf_J6_24 rfl rfl rfl e2 dJ6_isEmpty_1 ?_
  refine V_aload_n (i := 0) 0 dJ6_isEmpty_4 rfl rfl ?_
  obtain ⟨y3, e4, h⟩ := bd_s h
  refine V_rdI gf_J6_20 rfl rfl rfl e4 dJ6_isEmpty_5 ?_
  refine V_icmp_ne 15 dJ6_isEmpty_8 (by decide) (fun c5 => ?_) (fun c5 => ?_)
  · replace h := it_f c5 h
    refine V_iconst (v := 0) dJ6_isEmpty_15 (by decide) ?_
    refine V_sub [] rfl ?_
    exact v_J6_isEmpty_16 hst h
  · replace h := it_t c5 h
    refine V_iconst (v := 1) dJ6_isEmpty_11 (by decide) ?_
    refine V_goto 16 dJ6_isEmpty_12 (by decide) ?_
    refine V_sub [] rfl ?_
    exact v_J6_isEmpty_16 hst h

abbrev VV_J6_dec (l : Launch) (G : Gx) (σ0 : Hp) (o : Oc) (σe : Hp) (Se : Ms) := V l G RJ6 cJ6_dec 2 (some .int) [] false 1 30 σ0 o σe Se
def f_J6_dec_11 (x0 : Int32) : Option Int32 :=
  some x0
set_option maxHeartbeats 4000000 in
theorem v_J6_dec_11 {l : Launch} {G : Gx} (hst : l.stackTraces = false) {σ0 σe : Hp} {Se : Ms} {r : Int32} {x0 : Int32} (h : f_J6_dec_11 x0 = some r) : VV_J6_dec l G σ0 (.inl (some (pI r))) σe Se 11 [(0, pI x0)] [] σe Se := by
  unfold f_J6_dec_11 at h
  refine V_iload_n (i := 0) 0 dJ6_dec_11 rfl rfl ?_
  cases h
  exact V_iret rfl dJ6_dec_12
def f_J6_dec (x0 : Int32) (x1 : Int32) : Option Int32 :=
  if (0 : Int32) ≤ (x0 + (-1 : Int32)) then (f_J6_dec_11 (x0 + (-1 : Int32))) else (f_J6_dec_11 (x1 - (1 : Int32)))
set_option maxHeartbeats 4000000 in
theorem v_J6_dec (l : Launch) (G : Gx) (hst : l.stackTraces = false) (σ : Hp) (S : Ms) {x0 : Int32} {x1 : Int32} {r : Int32} (h : f_J6_dec x0 x1 = some r) : MT l G yJ6_dec (ws_ yJ6_dec cJ6_dec 2 (some .int)) 1 30 [pI x0, pI x1] σ S (.inl (some (pI r))) σ S := by
  refine MT_of (own := RJ6) (nL := 2) (ini := false) (by decide +kernel) rfl (Nat.le_of_ble_eq_true rfl) (fun h => by cases h) hst ?_
  show VV_J6_dec l G σ (.inl (some (pI r))) σ S 0 [(0, pI x0), (1, pI x1)] [] σ S
  unfold f_J6_dec at h
  refine V_iinc (v := (x0 + (-1 : Int32))) (L' := [(0, pI (x0 + (-1 : Int32))), (1, pI x1)]) 0 dJ6_dec_0 rfl rfl (by decide) rfl ?_
  refine V_iload_n (i := 0) 0 dJ6_dec_3 rfl rfl ?_
  refine V_if_ge 11 dJ6_dec_4 (by decide) (fun c1 => ?_) (fun c1 => ?_)
  · replace h := it_t c1 h
    refine V_sub [0] rfl ?_
    exact v_J6_dec_11 hst h
  · replace h := it_f c1 h
    refine V_iload_n (i := 1) 1 dJ6_dec_7 rfl rfl ?_
    refine V_iconst (v := 1) dJ6_dec_8 (by decide) ?_
    refine V_isub dJ6_dec_9 ?_
    refine V_istore_n (i := 0) (L' := [(0, pI (x1 - (1 : Int32))), (1, pI x1)]) dJ6_dec_10 rfl (by decide) rfl ?_
    refine V_sub [0] rfl ?_
    exact v_J6_dec_11 hst h

abbrev VV_J6_pollLast (l : Launch) (G : Gx) (σ0 : Hp) (o : Oc) (σe : Hp) (Se : Ms) := V l G RJ6 cJ6_pollLast 4 (some (.object "java/lang/Object")) [] false 2 51 σ0 o σe Se
def f_J6_pollLast_34 (σ : Hp) (a3 : Nat) : Option (Nat × Hp) :=
  some (a3, σ)
set_option maxHeartbeats 4000000 in
theorem v_J6_pollLast_34 {l : Launch} {G : Gx} (hst : l.stackTraces = false) {σ0 σe : Hp} {Se : Ms} {r : Nat} {σ : Hp} {a3 : Nat} (h : f_J6_pollLast_34 σ a3 = some (r, σe)) : VV_J6_pollLast l G σ0 (.inl (some (pR r))) σe Se 34 [(3, pR a3)] [] σ Se := by
  unfold f_J6_pollLast_34 at h
  refine V_aload_n (i := 3) 0 dJ6_pollLast_34 rfl rfl ?_
  cases h
  exact V_aret rfl (Or.inl ⟨_, rfl⟩) dJ6_pollLast_35
def f_J6_pollLast (σ : Hp) (a0 : Nat) : Option (Nat × Hp) :=
  bd (rdR σ 12 a0 120) fun b1 => bd (rdI σ 12 a0 122) fun y3 => bd (elN σ b1) fun y5 => bd (f_J6_dec y3 y5) fun y7 => bp (f_J6_elementAt σ b1 y7) fun b9 σ10 => if b9 = 0 then (f_J6_pollLast_34 σ10 b9) else (bd (wrI σ10 12 a0 122 y7) fun σ13 => bd (stR σ13 105 b1 y7 0) fun σ15 => f_J6_pollLast_34 σ15 b9)
set_option maxHeartbeats 4000000 in
theorem v_J6_pollLast (l : Launch) (G : Gx) (hst : l.stackTraces = false) (S : Ms) {σ σe : Hp} {a0 : Nat} {r : Nat} (h : f_J6_pollLast σ a0 = some (r, σe)) : MT l G yJ6_pollLast (ws_ yJ6_pollLast cJ6_pollLast 4 (some (.object "java/lang/Object"))) 2 51 [pR a0] σ S (.inl (some (pR r))) σe S := by
  refine MT_of (own := RJ6) (nL := 4) (ini := false) (by decide +kernel) rfl (Nat.le_of_ble_eq_true rfl) (fun h => by cases h) hst ?_
  show VV_J6_pollLast l G σ (.inl (some (pR r))) σe S 0 [(0, pR a0)] [] σ S
  unfold f_J6_pollLast at h
  refine V_aload_n (i := 0) 0 dJ6_pollLast_0 rfl rfl ?_
  obtain ⟨b1, e2, h⟩ := bd_s h
  refine V_rdR gf_J6_3 rfl rfl rfl e2 dJ6_pollLast_1 ?_
  refine V_dup dJ6_pollLast_4 rfl ?_
  refine V_astore_n (i := 1) (L' := [(1, pR b1), (0, pR a0)]) dJ6_pollLast_5 rfl (by decide) rfl ?_
  refine V_aload_n (i := 0) 1 dJ6_pollLast_6 rfl rfl ?_
  obtain ⟨y3, e4, h⟩ := bd_s h
  refine V_rdI gf_J6_20 rfl rfl rfl e4 dJ6_pollLast_7 ?_
  refine V_aload_n (i := 1) 0 dJ6_pollLast_10 rfl rfl ?_
  obtain ⟨y5, e6, h⟩ := bd_s h
  refine V_elN e6 dJ6_pollLast_11 ?_
  obtain ⟨y7, e8, h⟩ := bd_s h
  refine V_callS_v (n9 := 2) [pR b1] (v_J6_dec l G hst _ _ e8) rfl rfl (lw_S q1272 q1273 q85 q1274) (by decide +kernel) (by decide) (Nat.le_of_ble_eq_true rfl) dJ6_pollLast_12 ?_
  refine V_dup dJ6_pollLast_15 rfl ?_
  refine V_istore_n (i := 2) (L' := [(2, pI y7), (1, pR b1), (0, pR a0)]) dJ6_pollLast_16 rfl (by decide) rfl ?_
  obtain ⟨b9, σ10, e11, h⟩ := bp_s h
  refine V_callS_v (n9 := 2) [] (v_J6_elementAt l G hst _ e11) rfl rfl (lw_S q923 q924 q85 q925) (by decide +kernel) (by decide) (Nat.le_of_ble_eq_true rfl) dJ6_pollLast_17 ?_
  refine V_astore_n (i := 3) (L' := [(3, pR b9), (2, pI y7), (1, pR b1), (0, pR a0)]) dJ6_pollLast_20 rfl (by decide) rfl ?_
  refine V_aload_n (i := 3) 0 dJ6_pollLast_21 rfl rfl ?_
  refine V_ifnull 34 dJ6_pollLast_22 (by decide) (fun c12 => ?_) (fun c12 => ?_)
  · replace h := it_t c12 h
    refine V_sub [0] rfl ?_
    exact v_J6_pollLast_34 hst h
  · replace h := it_f c12 h
    refine V_aload_n (i := 1) 2 dJ6_pollLast_25 rfl rfl ?_
    refine V_aload_n (i := 0) 3 dJ6_pollLast_26 rfl rfl ?_
    refine V_iload_n (i := 2) 1 dJ6_pollLast_27 rfl rfl ?_
    refine V_dup_x1 dJ6_pollLast_28 rfl rfl ?_
    obtain ⟨σ13, e14, h⟩ := bd_s h
    refine V_wrI gw_J6_20 rfl rfl rfl e14 dJ6_pollLast_29 ?_
    refine V_null dJ6_pollLast_32 ?_
    obtain ⟨σ15, e16, h⟩ := bd_s h
    refine V_stR5 e16 dJ6_pollLast_33 ?_
    refine V_sub [0] rfl ?_
    exact v_J6_pollLast_34 hst h

abbrev VV_J6_removeLast (l : Launch) (G : Gx) (σ0 : Hp) (o : Oc) (σe : Hp) (Se : Ms) := V l G RJ6 cJ6_removeLast 2 (some (.object "java/lang/Object")) [] false 3 74 σ0 o σe Se
def f_J6_removeLast (σ : Hp) (a0 : Nat) : Option (Nat × Hp) :=
  bd (gk σ 12 a0) fun e1 => bp (f_J6_pollLast σ a0) fun b3 σ4 => if b3 = 0 then (none) else (some (b3, σ4))
set_option maxHeartbeats 4000000 in
theorem v_J6_removeLast (l : Launch) (G : Gx) (hst : l.stackTraces = false) (S : Ms) {σ σe : Hp} {a0 : Nat} {r : Nat} (h : f_J6_removeLast σ a0 = some (r, σe)) : MT l G yJ6_removeLast (ws_ yJ6_removeLast cJ6_removeLast 2 (some (.object "java/lang/Object"))) 3 74 [pR a0] σ S (.inl (some (pR r))) σe S := by
  refine MT_of (own := RJ6) (nL := 2) (ini := false) (by decide +kernel) rfl (Nat.le_of_ble_eq_true rfl) (fun h => by cases h) hst ?_
  show VV_J6_removeLast l G σ (.inl (some (pR r))) σe S 0 [(0, pR a0)] [] σ S
  unfold f_J6_removeLast at h
  refine V_aload_n (i := 0) 0 dJ6_removeLast_0 rfl rfl ?_
  obtain ⟨e1, e2, h⟩ := bd_s h
  obtain ⟨b3, σ4, e5, h⟩ := bp_s h
  refine V_callV_v (n9 := 0) (c := 11) (r := (RJ6, TJ6, 3)) [] (v_J6_pollLast l G hst _ e5) rfl rfl (lw_V q1268 q1269 q1270 q85 q1271) (by decide +kernel) (by decide) (Nat.le_of_ble_eq_true rfl) (gk_k e2 rfl) rfl dJ6_removeLast_1 ?_
  refine V_astore_n (i := 1) (L' := [(1, pR b3), (0, pR a0)]) dJ6_removeLast_4 rfl (by decide) rfl ?_
  refine V_aload_n (i := 1) 0 dJ6_removeLast_5 rfl rfl ?_
  refine V_ifnonnull 17 dJ6_removeLast_6 (by decide) (fun c6 => ?_) (fun c6 => ?_)
  · replace h := it_f c6 h
    refine V_aload_n (i := 1) 0 dJ6_removeLast_17 rfl rfl ?_
    cases h
    exact V_aret rfl (Or.inl ⟨_, rfl⟩) dJ6_removeLast_18
  · replace h := it_t c6 h
    cases h

abbrev VV_X1_require (l : Launch) (G : Gx) (σ0 : Hp) (o : Oc) (σe : Hp) (Se : Ms) := V l G RX1 cX1_require 1 none [] false 6 100 σ0 o σe Se
def f_X1_require (σ : Hp) (x0 : Int32) : Option (Ex Unit × Hp) :=
  if x0 = (0 : Int32) then (some (.inr ("java/lang/IllegalArgumentException", hN σ), nX σ 6)) else (some (.inl (), σ))
set_option maxHeartbeats 4000000 in
theorem v_X1_require (l : Launch) (G : Gx) (hst : l.stackTraces = false) (S : Ms) {σ σe : Hp} {x0 : Int32} {r : Ex Unit} (h : f_X1_require σ x0 = some (r, σe)) : MT l G yX1_require (ws_ yX1_require cX1_require 1 none) 6 100 [pI x0] σ S (tOV r) σe S := by
  refine MT_of (own := RX1) (nL := 1) (ini := false) (by decide +kernel) rfl (Nat.le_of_ble_eq_true rfl) (fun h => by cases h) hst ?_
  show VV_X1_require l G σ (tOV r) σe S 0 [(0, pI x0)] [] σ S
  unfold f_X1_require at h
  refine V_iload_n (i := 0) 0 dX1_require_0 rfl rfl ?_
  refine V_if_ne 12 dX1_require_1 (by decide) (fun c1 => ?_) (fun c1 => ?_)
  · replace h := it_f c1 h
    cases h
    exact V_vret rfl dX1_require_12
  · replace h := it_t c1 h
    cases h
    exact V_throw0 (E := "java/lang/IllegalArgumentException") (names := ["java/lang/RuntimeException", "java/lang/Exception"]) (by decide +kernel) (by decide +kernel) q878 q94 hat_IllegalArgumentException hgo_IllegalArgumentException (by decide) dX1_require_4 dX1_require_7 dX1_require_8 dX1_require_11 (by decide) (Nat.le_of_ble_eq_true rfl)

abbrev VV_X1_allow (l : Launch) (G : Gx) (σ0 : Hp) (o : Oc) (σe : Hp) (Se : Ms) := V l G RX1 cX1_allow 1 none [] false 6 100 σ0 o σe Se
def f_X1_allow (σ : Hp) (x0 : Int32) : Option (Ex Unit × Hp) :=
  if x0 = (0 : Int32) then (some (.inr ("java/lang/IllegalStateException", hN σ), nX σ 6)) else (some (.inl (), σ))
set_option maxHeartbeats 4000000 in
theorem v_X1_allow (l : Launch) (G : Gx) (hst : l.stackTraces = false) (S : Ms) {σ σe : Hp} {x0 : Int32} {r : Ex Unit} (h : f_X1_allow σ x0 = some (r, σe)) : MT l G yX1_allow (ws_ yX1_allow cX1_allow 1 none) 6 100 [pI x0] σ S (tOV r) σe S := by
  refine MT_of (own := RX1) (nL := 1) (ini := false) (by decide +kernel) rfl (Nat.le_of_ble_eq_true rfl) (fun h => by cases h) hst ?_
  show VV_X1_allow l G σ (tOV r) σe S 0 [(0, pI x0)] [] σ S
  unfold f_X1_allow at h
  refine V_iload_n (i := 0) 0 dX1_allow_0 rfl rfl ?_
  refine V_if_ne 12 dX1_allow_1 (by decide) (fun c1 => ?_) (fun c1 => ?_)
  · replace h := it_f c1 h
    cases h
    exact V_vret rfl dX1_allow_12
  · replace h := it_t c1 h
    cases h
    exact V_throw0 (E := "java/lang/IllegalStateException") (names := ["java/lang/RuntimeException", "java/lang/Exception"]) (by decide +kernel) (by decide +kernel) q889 q95 hat_IllegalStateException hgo_IllegalStateException (by decide) dX1_allow_4 dX1_allow_7 dX1_allow_8 dX1_allow_11 (by decide) (Nat.le_of_ble_eq_true rfl)

abbrev VV_X1_save (l : Launch) (G : Gx) (σ0 : Hp) (o : Oc) (σe : Hp) (Se : Ms) := V l G RX1 cX1_save 1 none [] false 9 255 σ0 o σe Se
def f_X1_save_20 (σ : Hp) (a0 : Nat) : Option (Unit × Hp) :=
  bd (rdR σ 1 a0 11) fun b1 => bd (rdR σ 1 a0 10) fun b3 => bd (gk σ 2 b3) fun e5 => bp (f_X2_copy σ b3) fun b7 σ8 => bd (gk σ8 12 b1) fun e10 => bp (f_J6_addLast σ8 b1 b7) fun e12 σ13 => some ((), σ13)
set_option maxHeartbeats 4000000 in
theorem v_X1_save_20 {l : Launch} {G : Gx} (hst : l.stackTraces = false) {σ0 σe : Hp} {Se : Ms} {r : Unit} {σ : Hp} {a0 : Nat} (h : f_X1_save_20 σ a0 = some (r, σe)) : VV_X1_save l G σ0 (.inl none) σe Se 20 [(0, pR a0)] [] σ Se := by
  unfold f_X1_save_20 at h
  refine V_aload_n (i := 0) 0 dX1_save_20 rfl rfl ?_
  obtain ⟨b1, e2, h⟩ := bd_s h
  refine V_rdR gf_X1_19 rfl rfl rfl e2 dX1_save_21 ?_
  refine V_aload_n (i := 0) 0 dX1_save_24 rfl rfl ?_
  obtain ⟨b3, e4, h⟩ := bd_s h
  refine V_rdR gf_X1_10 rfl rfl rfl e4 dX1_save_25 ?_
  obtain ⟨e5, e6, h⟩ := bd_s h
  obtain ⟨b7, σ8, e9, h⟩ := bp_s h
  refine V_callV_v (n9 := 0) (c := 1) (r := (RX2, TX2, 7)) [pR b1] (v_X2_copy l G hst _ e9) rfl rfl (lw_V q929 q930 q931 q77 q932) (by decide +kernel) (by decide) (Nat.le_of_ble_eq_true rfl) (gk_k e6 rfl) rfl dX1_save_28 ?_
  obtain ⟨e10, e11, h⟩ := bd_s h
  obtain ⟨e12, σ13, e14, h⟩ := bp_s h
  refine V_callV_0 (n9 := 1) (c := 11) (r := (RJ6, TJ6, 3)) [] (v_J6_addLast l G hst _ e14) rfl rfl (lw_V q995 q996 q997 q85 q998) (by decide +kernel) (by decide) (Nat.le_of_ble_eq_true rfl) (gk_k e11 rfl) rfl dX1_save_31 ?_
  cases h
  exact V_vret rfl dX1_save_34
def f_X1_save (σ : Hp) (a0 : Nat) : Option (Unit × Hp) :=
  bd (rdR σ 1 a0 11) fun b1 => bd (gk σ 12 b1) fun e3 => bp (f_J6_size σ b1) fun y5 σ6 => if y5 = (6 : Int32) then (bd (rdR σ6 1 a0 11) fun b9 => bd (gk σ6 12 b9) fun e11 => bp (f_J6_removeFirst σ6 b9) fun b13 σ14 => f_X1_save_20 σ14 a0) else (f_X1_save_20 σ6 a0)
set_option maxHeartbeats 4000000 in
theorem v_X1_save (l : Launch) (G : Gx) (hst : l.stackTraces = false) (S : Ms) {σ σe : Hp} {a0 : Nat} {r : Unit} (h : f_X1_save σ a0 = some (r, σe)) : MT l G yX1_save (ws_ yX1_save cX1_save 1 none) 9 255 [pR a0] σ S (.inl none) σe S := by
  refine MT_of (own := RX1) (nL := 1) (ini := false) (by decide +kernel) rfl (Nat.le_of_ble_eq_true rfl) (fun h => by cases h) hst ?_
  show VV_X1_save l G σ (.inl none) σe S 0 [(0, pR a0)] [] σ S
  unfold f_X1_save at h
  refine V_aload_n (i := 0) 0 dX1_save_0 rfl rfl ?_
  obtain ⟨b1, e2, h⟩ := bd_s h
  refine V_rdR gf_X1_19 rfl rfl rfl e2 dX1_save_1 ?_
  obtain ⟨e3, e4, h⟩ := bd_s h
  obtain ⟨y5, σ6, e7, h⟩ := bp_s h
  refine V_callV_v (n9 := 0) (c := 11) (r := (RJ6, TJ6, 3)) [] (v_J6_size l G hst _ e7) rfl rfl (lw_V q908 q909 q910 q85 q911) (by decide +kernel) (by decide) (Nat.le_of_ble_eq_true rfl) (gk_k e4 rfl) rfl dX1_save_4 ?_
  refine V_bipush (v := 6) dX1_save_7 (by decide) ?_
  refine V_icmp_ne 20 dX1_save_9 (by decide) (fun c8 => ?_) (fun c8 => ?_)
  · replace h := it_f c8 h
    refine V_sub [0] rfl ?_
    exact v_X1_save_20 hst h
  · replace h := it_t c8 h
    refine V_aload_n (i := 0) 0 dX1_save_12 rfl rfl ?_
    obtain ⟨b9, e10, h⟩ := bd_s h
    refine V_rdR gf_X1_19 rfl rfl rfl e10 dX1_save_13 ?_
    obtain ⟨e11, e12, h⟩ := bd_s h
    obtain ⟨b13, σ14, e15, h⟩ := bp_s h
    refine V_callV_v (n9 := 0) (c := 11) (r := (RJ6, TJ6, 3)) [] (v_J6_removeFirst l G hst _ e15) rfl rfl (lw_V q915 q916 q917 q85 q918) (by decide +kernel) (by decide) (Nat.le_of_ble_eq_true rfl) (gk_k e12 rfl) rfl dX1_save_16 ?_
    refine V_pop dX1_save_19 rfl ?_
    refine V_sub [0] rfl ?_
    exact v_X1_save_20 hst h

abbrev VV_X1_block (l : Launch) (G : Gx) (σ0 : Hp) (o : Oc) (σe : Hp) (Se : Ms) := V l G RX1 cX1_block 3 (some .int) [] false 10 275 σ0 o σe Se
def f_X1_block_53 (σ : Hp) (a0 : Nat) (x1 : Int32) (x2 : Int32) (s0 : Int32) : Option (Ex Int32 × Hp) :=
  bp (f_X1_allow σ s0) fun r1 σ2 => ex r1 (fun e4 => bd (gk σ2 1 a0) fun e8 => bp (f_X1_save σ2 a0) fun e10 σ11 => bd (rdR σ11 1 a0 10) fun b13 => bd (gk σ11 2 b13) fun e15 => bp (f_X2_add σ11 b13 x1 x2) fun y17 σ18 => some (.inl y17, σ18)) (fun e6 => some (.inr e6, σ2))
set_option maxHeartbeats 4000000 in
theorem v_X1_block_53 {l : Launch} {G : Gx} (hst : l.stackTraces = false) {σ0 σe : Hp} {Se : Ms} {r : Ex Int32} {σ : Hp} {a0 : Nat} {x1 : Int32} {x2 : Int32} {s0 : Int32} (h : f_X1_block_53 σ a0 x1 x2 s0 = some (r, σe)) : VV_X1_block l G σ0 (tOI r) σe Se 53 [(0, pR a0), (1, pI x1), (2, pI x2)] [pI s0] σ Se := by
  unfold f_X1_block_53 at h
  obtain ⟨r1, σ2, e3, h⟩ := bp_s h
  refine V_callSxV (n9 := 1) [] (v_X1_allow l G hst _ e3) rfl rfl (lw_S q886 q887 q76 q888) (by decide +kernel) (by decide) (Nat.le_of_ble_eq_true rfl) dX1_block_53 (fun e4 e5 => ?_) (fun e6 e7 => ?_)
  · subst e5
    replace h := ex_l h
    refine V_aload_n (i := 0) 0 dX1_block_56 rfl rfl ?_
    obtain ⟨e8, e9, h⟩ := bd_s h
    obtain ⟨e10, σ11, e12, h⟩ := bp_s h
    refine V_callV_0 (n9 := 0) (c := 0) (r := (RX1, TX1, 4)) [] (v_X1_save l G hst _ e12) rfl rfl (lw_V q904 q906 qs10 q76 q907) (by decide +kernel) (by decide) (Nat.le_of_ble_eq_true rfl) (gk_k e9 rfl) rfl dX1_block_57 ?_
    refine V_aload_n (i := 0) 0 dX1_block_60 rfl rfl ?_
    obtain ⟨b13, e14, h⟩ := bd_s h
    refine V_rdR gf_X1_10 rfl rfl rfl e14 dX1_block_61 ?_
    refine V_iload_n (i := 1) 1 dX1_block_64 rfl rfl ?_
    refine V_iload_n (i := 2) 2 dX1_block_65 rfl rfl ?_
    obtain ⟨e15, e16, h⟩ := bd_s h
    obtain ⟨y17, σ18, e19, h⟩ := bp_s h
    refine V_callV_v (n9 := 2) (c := 1) (r := (RX2, TX2, 7)) [] (v_X2_add l G hst _ e19) rfl rfl (lw_V q1017 q1018 q1019 q77 q1020) (by decide +kernel) (by decide) (Nat.le_of_ble_eq_true rfl) (gk_k e16 rfl) rfl dX1_block_66 ?_
    cases h
    exact V_iret rfl dX1_block_69
  · subst e7
    replace h := ex_r h
    cases h
    exact VX_out (by decide)
def f_X1_block_30 (σ : Hp) (a0 : Nat) (x1 : Int32) (x2 : Int32) (s0 : Int32) : Option (Ex Int32 × Hp) :=
  bp (f_X1_require σ s0) fun r1 σ2 => ex r1 (fun e4 => bd (rdR σ2 1 a0 10) fun b8 => bd (rdR σ2 2 b8 20) fun b10 => bd (gk σ2 10 b10) fun e12 => bp (f_J2_size σ2 b10) fun y14 σ15 => if (20 : Int32) ≤ y14 then (f_X1_block_53 σ15 a0 x1 x2 (0 : Int32)) else (f_X1_block_53 σ15 a0 x1 x2 (1 : Int32))) (fun e6 => some (.inr e6, σ2))
set_option maxHeartbeats 4000000 in
theorem v_X1_block_30 {l : Launch} {G : Gx} (hst : l.stackTraces = false) {σ0 σe : Hp} {Se : Ms} {r : Ex Int32} {σ : Hp} {a0 : Nat} {x1 : Int32} {x2 : Int32} {s0 : Int32} (h : f_X1_block_30 σ a0 x1 x2 s0 = some (r, σe)) : VV_X1_block l G σ0 (tOI r) σe Se 30 [(0, pR a0), (1, pI x1), (2, pI x2)] [pI s0] σ Se := by
  unfold f_X1_block_30 at h
  obtain ⟨r1, σ2, e3, h⟩ := bp_s h
  refine V_callSxV (n9 := 1) [] (v_X1_require l G hst _ e3) rfl rfl (lw_S q875 q876 q76 q877) (by decide +kernel) (by decide) (Nat.le_of_ble_eq_true rfl) dX1_block_30 (fun e4 e5 => ?_) (fun e6 e7 => ?_)
  · subst e5
    replace h := ex_l h
    refine V_aload_n (i := 0) 0 dX1_block_33 rfl rfl ?_
    obtain ⟨b8, e9, h⟩ := bd_s h
    refine V_rdR gf_X1_10 rfl rfl rfl e9 dX1_block_34 ?_
    obtain ⟨b10, e11, h⟩ := bd_s h
    refine V_rdR gf_X1_59 rfl rfl rfl e11 dX1_block_37 ?_
    obtain ⟨e12, e13, h⟩ := bd_s h
    obtain ⟨y14, σ15, e16, h⟩ := bp_s h
    refine V_callV_v (n9 := 0) (c := 9) (r := (RJ2, TJ2, 3)) [] (v_J2_size l G hst _ e16) rfl rfl (lw_V q860 q861 q862 q80 q863) (by decide +kernel) (by decide) (Nat.le_of_ble_eq_true rfl) (gk_k e13 rfl) rfl dX1_block_40 ?_
    refine V_bipush (v := 20) dX1_block_43 (by decide) ?_
    refine V_icmp_ge 52 dX1_block_45 (by decide) (fun c17 => ?_) (fun c17 => ?_)
    · replace h := it_t c17 h
      refine V_iconst (v := 0) dX1_block_52 (by decide) ?_
      refine V_sub [0, 1, 2] rfl ?_
      exact v_X1_block_53 hst h
    · replace h := it_f c17 h
      refine V_iconst (v := 1) dX1_block_48 (by decide) ?_
      refine V_goto 53 dX1_block_49 (by decide) ?_
      refine V_sub [0, 1, 2] rfl ?_
      exact v_X1_block_53 hst h
  · subst e7
    replace h := ex_r h
    cases h
    exact VX_out (by decide)
def f_X1_block_29 (σ : Hp) (a0 : Nat) (x1 : Int32) (x2 : Int32) : Option (Ex Int32 × Hp) :=
  f_X1_block_30 σ a0 x1 x2 (0 : Int32)
set_option maxHeartbeats 4000000 in
theorem v_X1_block_29 {l : Launch} {G : Gx} (hst : l.stackTraces = false) {σ0 σe : Hp} {Se : Ms} {r : Ex Int32} {σ : Hp} {a0 : Nat} {x1 : Int32} {x2 : Int32} (h : f_X1_block_29 σ a0 x1 x2 = some (r, σe)) : VV_X1_block l G σ0 (tOI r) σe Se 29 [(0, pR a0), (1, pI x1), (2, pI x2)] [] σ Se := by
  unfold f_X1_block_29 at h
  refine V_iconst (v := 0) dX1_block_29 (by decide) ?_
  refine V_sub [0, 1, 2] rfl ?_
  exact v_X1_block_30 hst h
def f_X1_block (σ : Hp) (a0 : Nat) (x1 : Int32) (x2 : Int32) : Option (Ex Int32 × Hp) :=
  bd (f_X1_isIn x1 (500 : Int32) (100000 : Int32)) fun y1 => if y1 = (0 : Int32) then (f_X1_block_29 σ a0 x1 x2) else (bd (f_X1_isIn x2 (-900 : Int32) (900 : Int32)) fun y4 => if y4 = (0 : Int32) then (f_X1_block_29 σ a0 x1 x2) else (f_X1_block_30 σ a0 x1 x2 (1 : Int32)))
set_option maxHeartbeats 4000000 in
theorem v_X1_block (l : Launch) (G : Gx) (hst : l.stackTraces = false) (S : Ms) {σ σe : Hp} {a0 : Nat} {x1 : Int32} {x2 : Int32} {r : Ex Int32} (h : f_X1_block σ a0 x1 x2 = some (r, σe)) : MT l G yX1_block (ws_ yX1_block cX1_block 3 (some .int)) 10 275 [pR a0, pI x1, pI x2] σ S (tOI r) σe S := by
  refine MT_of (own := RX1) (nL := 3) (ini := false) (by decide +kernel) rfl (Nat.le_of_ble_eq_true rfl) (fun h => by cases h) hst ?_
  show VV_X1_block l G σ (tOI r) σe S 0 [(0, pR a0), (1, pI x1), (2, pI x2)] [] σ S
  unfold f_X1_block at h
  refine V_iload_n (i := 1) 1 dX1_block_0 rfl rfl ?_
  refine V_sipush (v := 500) dX1_block_1 (by decide) ?_
  refine V_ldc dX1_block_4 q873 ?_
  obtain ⟨y1, e2, h⟩ := bd_s h
  refine V_callS_v (n9 := 3) [] (v_X1_isIn l G hst _ _ e2) rfl rfl (lw_S q874 q754 q76 q755) (by decide +kernel) (by decide) (Nat.le_of_ble_eq_true rfl) dX1_block_6 ?_
  refine V_if_eq 29 dX1_block_9 (by decide) (fun c3 => ?_) (fun c3 => ?_)
  · replace h := it_t c3 h
    refine V_sub [0, 1, 2] rfl ?_
    exact v_X1_block_29 hst h
  · replace h := it_f c3 h
    refine V_iload_n (i := 2) 2 dX1_block_12 rfl rfl ?_
    refine V_sipush (v := (-900)) dX1_block_13 (by decide) ?_
    refine V_sipush (v := 900) dX1_block_16 (by decide) ?_
    obtain ⟨y4, e5, h⟩ := bd_s h
    refine V_callS_v (n9 := 3) [] (v_X1_isIn l G hst _ _ e5) rfl rfl (lw_S q874 q754 q76 q755) (by decide +kernel) (by decide) (Nat.le_of_ble_eq_true rfl) dX1_block_19 ?_
    refine V_if_eq 29 dX1_block_22 (by decide) (fun c6 => ?_) (fun c6 => ?_)
    · replace h := it_t c6 h
      refine V_sub [0, 1, 2] rfl ?_
      exact v_X1_block_29 hst h
    · replace h := it_f c6 h
      refine V_iconst (v := 1) dX1_block_25 (by decide) ?_
      refine V_goto 30 dX1_block_26 (by decide) ?_
      refine V_sub [0, 1, 2] rfl ?_
      exact v_X1_block_30 hst h

abbrev VV_X0_block (l : Launch) (G : Gx) (σ0 : Hp) (o : Oc) (σe : Hp) (Se : Ms) := V l G RX0 cX0_block 5 (some .int) (tableOf [(0, 10, 13, 13), (0, 10, 17, 15)]) false 11 297 σ0 o σe Se
def f_X0_block (σ : Hp) (a0 : Nat) (x1 : Int32) (x2 : Int32) (a3 : Nat) : Option (Int32 × Hp) :=
  bd (gk σ 1 a0) fun e1 => bp (f_X1_block σ a0 x1 x2) fun r3 σ4 => ex r3 (fun y6 => bd (stI σ4 103 a3 (0 : Int32) y6) fun σ10 => some ((0 : Int32), σ10)) (fun e8 => if e8.1 = "java/lang/IllegalArgumentException" then some ((1 : Int32), σ4) else if e8.1 = "java/lang/IllegalStateException" then some ((2 : Int32), σ4) else none)
set_option maxHeartbeats 4000000 in
theorem v_X0_block (l : Launch) (G : Gx) (hst : l.stackTraces = false) (S : Ms) {σ σe : Hp} {a0 : Nat} {x1 : Int32} {x2 : Int32} {a3 : Nat} {r : Int32} (h : f_X0_block σ a0 x1 x2 a3 = some (r, σe)) : MT l G yX0_block (wsW_ yX0_block cX0_block 5 (some .int) [(0, 10, 13, 13), (0, 10, 17, 15)]) 11 297 [pR a0, pI x1, pI x2, pR a3] σ S (.inl (some (pI r))) σe S := by
  refine MT_ofH (own := RX0) (nL := 5) (ini := false) (by decide +kernel) rfl (Nat.le_of_ble_eq_true rfl) (fun h => by cases h) hst ?_
  show VV_X0_block l G σ (.inl (some (pI r))) σe S 0 [(0, pR a0), (1, pI x1), (2, pI x2), (3, pR a3)] [] σ S
  unfold f_X0_block at h
  refine V_aload_n (i := 3) 3 dX0_block_0 rfl rfl ?_
  refine V_iconst (v := 0) dX0_block_1 (by decide) ?_
  refine V_aload_n (i := 0) 0 dX0_block_2 rfl rfl ?_
  refine V_iload_n (i := 1) 1 dX0_block_3 rfl rfl ?_
  refine V_iload_n (i := 2) 2 dX0_block_4 rfl rfl ?_
  obtain ⟨e1, e2, h⟩ := bd_s h
  obtain ⟨r3, σ4, e5, h⟩ := bp_s h
  refine V_callVxI (n9 := 2) (c := 0) (r := (RX1, TX1, 4)) [pI (0 : Int32), pR a3] (v_X1_block l G hst _ e5) rfl rfl (lw_V q869 q870 q871 q76 q872) (by decide +kernel) (by decide) (Nat.le_of_ble_eq_true rfl) (gk_k e2 rfl) rfl dX0_block_5 (fun y6 e7 => ?_) (fun e8 e9 => ?_)
  · subst e7
    replace h := ex_l h
    refine V_i2l dX0_block_8 ?_
    obtain ⟨σ10, e11, h⟩ := bd_s h
    refine V_stI3 e11 dX0_block_9 ?_
    refine V_goto 21 dX0_block_10 (by decide) ?_
    refine V_iconst (v := 0) dX0_block_21 (by decide) ?_
    cases h
    exact V_iret rfl dX0_block_22
  · subst e9
    replace h := ex_r h
    by_cases e12 : e8.1 = "java/lang/IllegalArgumentException"
    · replace h := (if_pos e12).symm.trans h
      rw [e12]
      refine VX_catch (E := "java/lang/IllegalArgumentException") (nm := "java/lang/IllegalArgumentException") (tableOf []) ⟨0, 10, 13, 13⟩ (tableOf [(0, 10, 17, 15)]) rfl (fun y hy => by cases hy) (by decide) (by decide) q867 (by decide +kernel) ?_
      refine V_astore (i := 4) (L' := [(4, pR (e8.2)), (0, pR a0), (1, pI x1), (2, pI x2), (3, pR a3)]) dX0_block_13 (by decide) rfl ?_
      refine V_iconst (v := 1) dX0_block_15 (by decide) ?_
      cases h
      exact V_iret rfl dX0_block_16
    replace h := (if_neg e12).symm.trans h
    by_cases e13 : e8.1 = "java/lang/IllegalStateException"
    · replace h := (if_pos e13).symm.trans h
      rw [e13]
      refine VX_catch (E := "java/lang/IllegalStateException") (nm := "java/lang/IllegalStateException") (tableOf [(0, 10, 13, 13)]) ⟨0, 10, 17, 15⟩ (tableOf []) rfl (hp_1 (Or.inr ⟨by decide, "java/lang/IllegalArgumentException", q867, by decide +kernel⟩)) (by decide) (by decide) q868 (by decide +kernel) ?_
      refine V_astore (i := 4) (L' := [(4, pR (e8.2)), (0, pR a0), (1, pI x1), (2, pI x2), (3, pR a3)]) dX0_block_17 (by decide) rfl ?_
      refine V_iconst (v := 2) dX0_block_19 (by decide) ?_
      cases h
      exact V_iret rfl dX0_block_20
    replace h := (if_neg e13).symm.trans h
    cases h

abbrev VV_X1_exists (l : Launch) (G : Gx) (σ0 : Hp) (o : Oc) (σe : Hp) (Se : Ms) := V l G RX1 cX1_exists 1 none [] false 6 100 σ0 o σe Se
def f_X1_exists (σ : Hp) (x0 : Int32) : Option (Ex Unit × Hp) :=
  if x0 = (0 : Int32) then (some (.inr ("java/lang/IndexOutOfBoundsException", hN σ), nX σ 6)) else (some (.inl (), σ))
set_option maxHeartbeats 4000000 in
theorem v_X1_exists (l : Launch) (G : Gx) (hst : l.stackTraces = false) (S : Ms) {σ σe : Hp} {x0 : Int32} {r : Ex Unit} (h : f_X1_exists σ x0 = some (r, σe)) : MT l G yX1_exists (ws_ yX1_exists cX1_exists 1 none) 6 100 [pI x0] σ S (tOV r) σe S := by
  refine MT_of (own := RX1) (nL := 1) (ini := false) (by decide +kernel) rfl (Nat.le_of_ble_eq_true rfl) (fun h => by cases h) hst ?_
  show VV_X1_exists l G σ (tOV r) σe S 0 [(0, pI x0)] [] σ S
  unfold f_X1_exists at h
  refine V_iload_n (i := 0) 0 dX1_exists_0 rfl rfl ?_
  refine V_if_ne 12 dX1_exists_1 (by decide) (fun c1 => ?_) (fun c1 => ?_)
  · replace h := it_f c1 h
    cases h
    exact V_vret rfl dX1_exists_12
  · replace h := it_t c1 h
    cases h
    exact V_throw0 (E := "java/lang/IndexOutOfBoundsException") (names := ["java/lang/RuntimeException", "java/lang/Exception"]) (by decide +kernel) (by decide +kernel) q1039 q99 hat_IndexOutOfBoundsException hgo_IndexOutOfBoundsException (by decide) dX1_exists_4 dX1_exists_7 dX1_exists_8 dX1_exists_11 (by decide) (Nat.le_of_ble_eq_true rfl)

abbrev VV_X1_blockAt (l : Launch) (G : Gx) (σ0 : Hp) (o : Oc) (σe : Hp) (Se : Ms) := V l G RX1 cX1_blockAt 2 (some (.object "GaugeBlocks$Block")) [] false 7 120 σ0 o σe Se
def f_X1_blockAt (σ : Hp) (a0 : Nat) (x1 : Int32) : Option (Ex Nat × Hp) :=
  bd (rdR σ 1 a0 10) fun b1 => bd (rdR σ 2 b1 20) fun b3 => bd (gk σ 10 b3) fun e5 => bp (f_J2_size σ b3) fun y7 σ8 => bd (f_X1_isIn x1 (0 : Int32) (y7 - (1 : Int32))) fun y10 => bp (f_X1_exists σ8 y10) fun r12 σ13 => ex r12 (fun e15 => bd (rdR σ13 1 a0 10) fun b19 => bd (rdR σ13 2 b19 20) fun b21 => bd (gk σ13 10 b21) fun e23 => bp (f_J2_get σ13 b21 x1) fun b25 σ26 => bd (ckC σ26 3 b25) fun e28 => some (.inl b25, σ26)) (fun e17 => some (.inr e17, σ13))
set_option maxHeartbeats 4000000 in
theorem v_X1_blockAt (l : Launch) (G : Gx) (hst : l.stackTraces = false) (S : Ms) {σ σe : Hp} {a0 : Nat} {x1 : Int32} {r : Ex Nat} (h : f_X1_blockAt σ a0 x1 = some (r, σe)) : MT l G yX1_blockAt (ws_ yX1_blockAt cX1_blockAt 2 (some (.object "GaugeBlocks$Block"))) 7 120 [pR a0, pI x1] σ S (tOR r) σe S := by
  refine MT_of (own := RX1) (nL := 2) (ini := false) (by decide +kernel) rfl (Nat.le_of_ble_eq_true rfl) (fun h => by cases h) hst ?_
  show VV_X1_blockAt l G σ (tOR r) σe S 0 [(0, pR a0), (1, pI x1)] [] σ S
  unfold f_X1_blockAt at h
  refine V_iload_n (i := 1) 1 dX1_blockAt_0 rfl rfl ?_
  refine V_iconst (v := 0) dX1_blockAt_1 (by decide) ?_
  refine V_aload_n (i := 0) 0 dX1_blockAt_2 rfl rfl ?_
  obtain ⟨b1, e2, h⟩ := bd_s h
  refine V_rdR gf_X1_10 rfl rfl rfl e2 dX1_blockAt_3 ?_
  obtain ⟨b3, e4, h⟩ := bd_s h
  refine V_rdR gf_X1_59 rfl rfl rfl e4 dX1_blockAt_6 ?_
  obtain ⟨e5, e6, h⟩ := bd_s h
  obtain ⟨y7, σ8, e9, h⟩ := bp_s h
  refine V_callV_v (n9 := 0) (c := 9) (r := (RJ2, TJ2, 3)) [pI (0 : Int32), pI x1] (v_J2_size l G hst _ e9) rfl rfl (lw_V q860 q861 q862 q80 q863) (by decide +kernel) (by decide) (Nat.le_of_ble_eq_true rfl) (gk_k e6 rfl) rfl dX1_blockAt_9 ?_
  refine V_iconst (v := 1) dX1_blockAt_12 (by decide) ?_
  refine V_isub dX1_blockAt_13 ?_
  obtain ⟨y10, e11, h⟩ := bd_s h
  refine V_callS_v (n9 := 3) [] (v_X1_isIn l G hst _ _ e11) rfl rfl (lw_S q874 q754 q76 q755) (by decide +kernel) (by decide) (Nat.le_of_ble_eq_true rfl) dX1_blockAt_14 ?_
  obtain ⟨r12, σ13, e14, h⟩ := bp_s h
  refine V_callSxV (n9 := 1) [] (v_X1_exists l G hst _ e14) rfl rfl (lw_S q1036 q1037 q76 q1038) (by decide +kernel) (by decide) (Nat.le_of_ble_eq_true rfl) dX1_blockAt_17 (fun e15 e16 => ?_) (fun e17 e18 => ?_)
  · subst e16
    replace h := ex_l h
    refine V_aload_n (i := 0) 0 dX1_blockAt_20 rfl rfl ?_
    obtain ⟨b19, e20, h⟩ := bd_s h
    refine V_rdR gf_X1_10 rfl rfl rfl e20 dX1_blockAt_21 ?_
    obtain ⟨b21, e22, h⟩ := bd_s h
    refine V_rdR gf_X1_59 rfl rfl rfl e22 dX1_blockAt_24 ?_
    refine V_iload_n (i := 1) 1 dX1_blockAt_27 rfl rfl ?_
    obtain ⟨e23, e24, h⟩ := bd_s h
    obtain ⟨b25, σ26, e27, h⟩ := bp_s h
    refine V_callV_v (n9 := 1) (c := 9) (r := (RJ2, TJ2, 3)) [] (v_J2_get l G hst _ e27) rfl rfl (lw_V q1054 q937 q938 q80 q939) (by decide +kernel) (by decide) (Nat.le_of_ble_eq_true rfl) (gk_k e24 rfl) rfl dX1_blockAt_28 ?_
    obtain ⟨e28, e29, h⟩ := bd_s h
    refine V_ckC (c := 2) e29 q848 rfl (Or.inl rfl) dX1_blockAt_31 ?_
    cases h
    exact V_aret rfl (Or.inl ⟨_, rfl⟩) dX1_blockAt_34
  · subst e18
    replace h := ex_r h
    cases h
    exact VX_out (by decide)

abbrev VV_X1_discard (l : Launch) (G : Gx) (σ0 : Hp) (o : Oc) (σe : Hp) (Se : Ms) := V l G RX1 cX1_discard 2 (some .int) [] false 10 275 σ0 o σe Se
def f_X1_discard (σ : Hp) (a0 : Nat) (x1 : Int32) : Option (Ex Int32 × Hp) :=
  bd (gk σ 1 a0) fun e1 => bp (f_X1_blockAt σ a0 x1) fun r3 σ4 => ex r3 (fun b6 => bd (gk σ4 3 b6) fun e10 => bp (f_X4_isFree σ4 b6) fun y12 σ13 => bp (f_X1_allow σ13 y12) fun r15 σ16 => ex r15 (fun e18 => bd (gk σ16 1 a0) fun e22 => bp (f_X1_save σ16 a0) fun e24 σ25 => bd (rdR σ25 1 a0 10) fun b27 => bd (rdR σ25 2 b27 20) fun b29 => bd (gk σ25 10 b29) fun e31 => bp (f_J2_remove σ25 b29 x1) fun b33 σ34 => bd (rdR σ34 1 a0 10) fun b36 => bd (rdR σ34 2 b36 20) fun b38 => bd (gk σ34 10 b38) fun e40 => bp (f_J2_size σ34 b38) fun y42 σ43 => some (.inl y42, σ43)) (fun e20 => some (.inr e20, σ16))) (fun e8 => some (.inr e8, σ4))
set_option maxHeartbeats 4000000 in
theorem v_X1_discard (l : Launch) (G : Gx) (hst : l.stackTraces = false) (S : Ms) {σ σe : Hp} {a0 : Nat} {x1 : Int32} {r : Ex Int32} (h : f_X1_discard σ a0 x1 = some (r, σe)) : MT l G yX1_discard (ws_ yX1_discard cX1_discard 2 (some .int)) 10 275 [pR a0, pI x1] σ S (tOI r) σe S := by
  refine MT_of (own := RX1) (nL := 2) (ini := false) (by decide +kernel) rfl (Nat.le_of_ble_eq_true rfl) (fun h => by cases h) hst ?_
  show VV_X1_discard l G σ (tOI r) σe S 0 [(0, pR a0), (1, pI x1)] [] σ S
  unfold f_X1_discard at h
  refine V_aload_n (i := 0) 0 dX1_discard_0 rfl rfl ?_
  refine V_iload_n (i := 1) 1 dX1_discard_1 rfl rfl ?_
  obtain ⟨e1, e2, h⟩ := bd_s h
  obtain ⟨r3, σ4, e5, h⟩ := bp_s h
  refine V_callVxR (n9 := 1) (c := 0) (r := (RX1, TX1, 4)) [] (v_X1_blockAt l G hst _ e5) rfl rfl (lw_V q1032 q1034 qs13 q76 q1035) (by decide +kernel) (by decide) (Nat.le_of_ble_eq_true rfl) (gk_k e2 rfl) rfl dX1_discard_2 (fun b6 e7 => ?_) (fun e8 e9 => ?_)
  · subst e7
    replace h := ex_l h
    obtain ⟨e10, e11, h⟩ := bd_s h
    obtain ⟨y12, σ13, e14, h⟩ := bp_s h
    refine V_callV_v (n9 := 0) (c := 2) (r := (RX4, TX4, 6)) [] (v_X4_isFree l G hst _ e14) rfl rfl (lw_V q1055 q1056 q1057 q98 q1058) (by decide +kernel) (by decide) (Nat.le_of_ble_eq_true rfl) (gk_k e11 rfl) rfl dX1_discard_5 ?_
    obtain ⟨r15, σ16, e17, h⟩ := bp_s h
    refine V_callSxV (n9 := 1) [] (v_X1_allow l G hst _ e17) rfl rfl (lw_S q886 q887 q76 q888) (by decide +kernel) (by decide) (Nat.le_of_ble_eq_true rfl) dX1_discard_8 (fun e18 e19 => ?_) (fun e20 e21 => ?_)
    · subst e19
      replace h := ex_l h
      refine V_aload_n (i := 0) 0 dX1_discard_11 rfl rfl ?_
      obtain ⟨e22, e23, h⟩ := bd_s h
      obtain ⟨e24, σ25, e26, h⟩ := bp_s h
      refine V_callV_0 (n9 := 0) (c := 0) (r := (RX1, TX1, 4)) [] (v_X1_save l G hst _ e26) rfl rfl (lw_V q904 q906 qs10 q76 q907) (by decide +kernel) (by decide) (Nat.le_of_ble_eq_true rfl) (gk_k e23 rfl) rfl dX1_discard_12 ?_
      refine V_aload_n (i := 0) 0 dX1_discard_15 rfl rfl ?_
      obtain ⟨b27, e28, h⟩ := bd_s h
      refine V_rdR gf_X1_10 rfl rfl rfl e28 dX1_discard_16 ?_
      obtain ⟨b29, e30, h⟩ := bd_s h
      refine V_rdR gf_X1_59 rfl rfl rfl e30 dX1_discard_19 ?_
      refine V_iload_n (i := 1) 1 dX1_discard_22 rfl rfl ?_
      obtain ⟨e31, e32, h⟩ := bd_s h
      obtain ⟨b33, σ34, e35, h⟩ := bp_s h
      refine V_callV_v (n9 := 1) (c := 9) (r := (RJ2, TJ2, 3)) [] (v_J2_remove l G hst _ e35) rfl rfl (lw_V q1059 q1060 q1061 q80 q1062) (by decide +kernel) (by decide) (Nat.le_of_ble_eq_true rfl) (gk_k e32 rfl) rfl dX1_discard_23 ?_
      refine V_pop dX1_discard_26 rfl ?_
      refine V_aload_n (i := 0) 0 dX1_discard_27 rfl rfl ?_
      obtain ⟨b36, e37, h⟩ := bd_s h
      refine V_rdR gf_X1_10 rfl rfl rfl e37 dX1_discard_28 ?_
      obtain ⟨b38, e39, h⟩ := bd_s h
      refine V_rdR gf_X1_59 rfl rfl rfl e39 dX1_discard_31 ?_
      obtain ⟨e40, e41, h⟩ := bd_s h
      obtain ⟨y42, σ43, e44, h⟩ := bp_s h
      refine V_callV_v (n9 := 0) (c := 9) (r := (RJ2, TJ2, 3)) [] (v_J2_size l G hst _ e44) rfl rfl (lw_V q860 q861 q862 q80 q863) (by decide +kernel) (by decide) (Nat.le_of_ble_eq_true rfl) (gk_k e41 rfl) rfl dX1_discard_34 ?_
      cases h
      exact V_iret rfl dX1_discard_37
    · subst e21
      replace h := ex_r h
      cases h
      exact VX_out (by decide)
  · subst e9
    replace h := ex_r h
    cases h
    exact VX_out (by decide)

abbrev VV_X0_discard (l : Launch) (G : Gx) (σ0 : Hp) (o : Oc) (σe : Hp) (Se : Ms) := V l G RX0 cX0_discard 4 (some .int) (tableOf [(0, 9, 12, 21), (0, 9, 15, 15)]) false 11 296 σ0 o σe Se
def f_X0_discard (σ : Hp) (a0 : Nat) (x1 : Int32) (a2 : Nat) : Option (Int32 × Hp) :=
  bd (gk σ 1 a0) fun e1 => bp (f_X1_discard σ a0 x1) fun r3 σ4 => ex r3 (fun y6 => bd (stI σ4 103 a2 (0 : Int32) y6) fun σ10 => some ((0 : Int32), σ10)) (fun e8 => if e8.1 = "java/lang/IndexOutOfBoundsException" then some ((1 : Int32), σ4) else if e8.1 = "java/lang/IllegalStateException" then some ((2 : Int32), σ4) else none)
set_option maxHeartbeats 4000000 in
theorem v_X0_discard (l : Launch) (G : Gx) (hst : l.stackTraces = false) (S : Ms) {σ σe : Hp} {a0 : Nat} {x1 : Int32} {a2 : Nat} {r : Int32} (h : f_X0_discard σ a0 x1 a2 = some (r, σe)) : MT l G yX0_discard (wsW_ yX0_discard cX0_discard 4 (some .int) [(0, 9, 12, 21), (0, 9, 15, 15)]) 11 296 [pR a0, pI x1, pR a2] σ S (.inl (some (pI r))) σe S := by
  refine MT_ofH (own := RX0) (nL := 4) (ini := false) (by decide +kernel) rfl (Nat.le_of_ble_eq_true rfl) (fun h => by cases h) hst ?_
  show VV_X0_discard l G σ (.inl (some (pI r))) σe S 0 [(0, pR a0), (1, pI x1), (2, pR a2)] [] σ S
  unfold f_X0_discard at h
  refine V_aload_n (i := 2) 2 dX0_discard_0 rfl rfl ?_
  refine V_iconst (v := 0) dX0_discard_1 (by decide) ?_
  refine V_aload_n (i := 0) 0 dX0_discard_2 rfl rfl ?_
  refine V_iload_n (i := 1) 1 dX0_discard_3 rfl rfl ?_
  obtain ⟨e1, e2, h⟩ := bd_s h
  obtain ⟨r3, σ4, e5, h⟩ := bp_s h
  refine V_callVxI (n9 := 1) (c := 0) (r := (RX1, TX1, 4)) [pI (0 : Int32), pR a2] (v_X1_discard l G hst _ e5) rfl rfl (lw_V q1028 q1029 q1030 q76 q1031) (by decide +kernel) (by decide) (Nat.le_of_ble_eq_true rfl) (gk_k e2 rfl) rfl dX0_discard_4 (fun y6 e7 => ?_) (fun e8 e9 => ?_)
  · subst e7
    replace h := ex_l h
    refine V_i2l dX0_discard_7 ?_
    obtain ⟨σ10, e11, h⟩ := bd_s h
    refine V_stI3 e11 dX0_discard_8 ?_
    refine V_goto 18 dX0_discard_9 (by decide) ?_
    refine V_iconst (v := 0) dX0_discard_18 (by decide) ?_
    cases h
    exact V_iret rfl dX0_discard_19
  · subst e9
    replace h := ex_r h
    by_cases e12 : e8.1 = "java/lang/IndexOutOfBoundsException"
    · replace h := (if_pos e12).symm.trans h
      rw [e12]
      refine VX_catch (E := "java/lang/IndexOutOfBoundsException") (nm := "java/lang/IndexOutOfBoundsException") (tableOf []) ⟨0, 9, 12, 21⟩ (tableOf [(0, 9, 15, 15)]) rfl (fun y hy => by cases hy) (by decide) (by decide) q1025 (by decide +kernel) ?_
      refine V_astore_n (i := 3) (L' := [(3, pR (e8.2)), (0, pR a0), (1, pI x1), (2, pR a2)]) dX0_discard_12 rfl (by decide) rfl ?_
      refine V_iconst (v := 1) dX0_discard_13 (by decide) ?_
      cases h
      exact V_iret rfl dX0_discard_14
    replace h := (if_neg e12).symm.trans h
    by_cases e13 : e8.1 = "java/lang/IllegalStateException"
    · replace h := (if_pos e13).symm.trans h
      rw [e13]
      refine VX_catch (E := "java/lang/IllegalStateException") (nm := "java/lang/IllegalStateException") (tableOf [(0, 9, 12, 21)]) ⟨0, 9, 15, 15⟩ (tableOf []) rfl (hp_1 (Or.inr ⟨by decide, "java/lang/IndexOutOfBoundsException", q1025, by decide +kernel⟩)) (by decide) (by decide) q868 (by decide +kernel) ?_
      refine V_astore_n (i := 3) (L' := [(3, pR (e8.2)), (0, pR a0), (1, pI x1), (2, pR a2)]) dX0_discard_15 rfl (by decide) rfl ?_
      refine V_iconst (v := 2) dX0_discard_16 (by decide) ?_
      cases h
      exact V_iret rfl dX0_discard_17
    replace h := (if_neg e13).symm.trans h
    cases h

abbrev VV_X1_calibrate (l : Launch) (G : Gx) (σ0 : Hp) (o : Oc) (σe : Hp) (Se : Ms) := V l G RX1 cX1_calibrate 3 (some .int) [] false 10 275 σ0 o σe Se
def f_X1_calibrate (σ : Hp) (a0 : Nat) (x1 : Int32) : Option (Ex Int32 × Hp) :=
  bd (gk σ 1 a0) fun e1 => bp (f_X1_blockAt σ a0 x1) fun r3 σ4 => ex r3 (fun b6 => bd (gk σ4 3 b6) fun e10 => bp (f_X4_isFree σ4 b6) fun y12 σ13 => bp (f_X1_allow σ13 y12) fun r15 σ16 => ex r15 (fun e18 => bd (gk σ16 1 a0) fun e22 => bp (f_X1_save σ16 a0) fun e24 σ25 => bd (gk σ25 3 b6) fun e27 => bp (f_X4_calibrate σ25 b6) fun e29 σ30 => bd (gk σ30 3 b6) fun e32 => bp (f_X4_grade σ30 b6) fun y34 σ35 => some (.inl y34, σ35)) (fun e20 => some (.inr e20, σ16))) (fun e8 => some (.inr e8, σ4))
set_option maxHeartbeats 4000000 in
theorem v_X1_calibrate (l : Launch) (G : Gx) (hst : l.stackTraces = false) (S : Ms) {σ σe : Hp} {a0 : Nat} {x1 : Int32} {r : Ex Int32} (h : f_X1_calibrate σ a0 x1 = some (r, σe)) : MT l G yX1_calibrate (ws_ yX1_calibrate cX1_calibrate 3 (some .int)) 10 275 [pR a0, pI x1] σ S (tOI r) σe S := by
  refine MT_of (own := RX1) (nL := 3) (ini := false) (by decide +kernel) rfl (Nat.le_of_ble_eq_true rfl) (fun h => by cases h) hst ?_
  show VV_X1_calibrate l G σ (tOI r) σe S 0 [(0, pR a0), (1, pI x1)] [] σ S
  unfold f_X1_calibrate at h
  refine V_aload_n (i := 0) 0 dX1_calibrate_0 rfl rfl ?_
  refine V_iload_n (i := 1) 1 dX1_calibrate_1 rfl rfl ?_
  obtain ⟨e1, e2, h⟩ := bd_s h
  obtain ⟨r3, σ4, e5, h⟩ := bp_s h
  refine V_callVxR (n9 := 1) (c := 0) (r := (RX1, TX1, 4)) [] (v_X1_blockAt l G hst _ e5) rfl rfl (lw_V q1032 q1034 qs13 q76 q1035) (by decide +kernel) (by decide) (Nat.le_of_ble_eq_true rfl) (gk_k e2 rfl) rfl dX1_calibrate_2 (fun b6 e7 => ?_) (fun e8 e9 => ?_)
  · subst e7
    replace h := ex_l h
    refine V_astore_n (i := 2) (L' := [(2, pR b6), (0, pR a0), (1, pI x1)]) dX1_calibrate_5 rfl (by decide) rfl ?_
    refine V_aload_n (i := 2) 0 dX1_calibrate_6 rfl rfl ?_
    obtain ⟨e10, e11, h⟩ := bd_s h
    obtain ⟨y12, σ13, e14, h⟩ := bp_s h
    refine V_callV_v (n9 := 0) (c := 2) (r := (RX4, TX4, 6)) [] (v_X4_isFree l G hst _ e14) rfl rfl (lw_V q1055 q1056 q1057 q98 q1058) (by decide +kernel) (by decide) (Nat.le_of_ble_eq_true rfl) (gk_k e11 rfl) rfl dX1_calibrate_7 ?_
    obtain ⟨r15, σ16, e17, h⟩ := bp_s h
    refine V_callSxV (n9 := 1) [] (v_X1_allow l G hst _ e17) rfl rfl (lw_S q886 q887 q76 q888) (by decide +kernel) (by decide) (Nat.le_of_ble_eq_true rfl) dX1_calibrate_10 (fun e18 e19 => ?_) (fun e20 e21 => ?_)
    · subst e19
      replace h := ex_l h
      refine V_aload_n (i := 0) 1 dX1_calibrate_13 rfl rfl ?_
      obtain ⟨e22, e23, h⟩ := bd_s h
      obtain ⟨e24, σ25, e26, h⟩ := bp_s h
      refine V_callV_0 (n9 := 0) (c := 0) (r := (RX1, TX1, 4)) [] (v_X1_save l G hst _ e26) rfl rfl (lw_V q904 q906 qs10 q76 q907) (by decide +kernel) (by decide) (Nat.le_of_ble_eq_true rfl) (gk_k e23 rfl) rfl dX1_calibrate_14 ?_
      refine V_aload_n (i := 2) 0 dX1_calibrate_17 rfl rfl ?_
      obtain ⟨e27, e28, h⟩ := bd_s h
      obtain ⟨e29, σ30, e31, h⟩ := bp_s h
      refine V_callV_0 (n9 := 0) (c := 2) (r := (RX4, TX4, 6)) [] (v_X4_calibrate l G hst _ e31) rfl rfl (lw_V q1075 q1076 q1077 q98 q1078) (by decide +kernel) (by decide) (Nat.le_of_ble_eq_true rfl) (gk_k e28 rfl) rfl dX1_calibrate_18 ?_
      refine V_aload_n (i := 2) 0 dX1_calibrate_21 rfl rfl ?_
      obtain ⟨e32, e33, h⟩ := bd_s h
      obtain ⟨y34, σ35, e36, h⟩ := bp_s h
      refine V_callV_v (n9 := 0) (c := 2) (r := (RX4, TX4, 6)) [] (v_X4_grade l G hst _ e36) rfl rfl (lw_V q1081 q1082 q1083 q98 q1084) (by decide +kernel) (by decide) (Nat.le_of_ble_eq_true rfl) (gk_k e33 rfl) rfl dX1_calibrate_22 ?_
      cases h
      exact V_iret rfl dX1_calibrate_25
    · subst e21
      replace h := ex_r h
      cases h
      exact VX_out (by decide)
  · subst e9
    replace h := ex_r h
    cases h
    exact VX_out (by decide)

abbrev VV_X0_calibrate (l : Launch) (G : Gx) (σ0 : Hp) (o : Oc) (σe : Hp) (Se : Ms) := V l G RX0 cX0_calibrate 4 (some .int) (tableOf [(0, 9, 12, 21), (0, 9, 15, 15)]) false 11 297 σ0 o σe Se
def f_X0_calibrate (σ : Hp) (a0 : Nat) (x1 : Int32) (a2 : Nat) : Option (Int32 × Hp) :=
  bd (gk σ 1 a0) fun e1 => bp (f_X1_calibrate σ a0 x1) fun r3 σ4 => ex r3 (fun y6 => bd (stI σ4 103 a2 (0 : Int32) y6) fun σ10 => some ((0 : Int32), σ10)) (fun e8 => if e8.1 = "java/lang/IndexOutOfBoundsException" then some ((1 : Int32), σ4) else if e8.1 = "java/lang/IllegalStateException" then some ((2 : Int32), σ4) else none)
set_option maxHeartbeats 4000000 in
theorem v_X0_calibrate (l : Launch) (G : Gx) (hst : l.stackTraces = false) (S : Ms) {σ σe : Hp} {a0 : Nat} {x1 : Int32} {a2 : Nat} {r : Int32} (h : f_X0_calibrate σ a0 x1 a2 = some (r, σe)) : MT l G yX0_calibrate (wsW_ yX0_calibrate cX0_calibrate 4 (some .int) [(0, 9, 12, 21), (0, 9, 15, 15)]) 11 297 [pR a0, pI x1, pR a2] σ S (.inl (some (pI r))) σe S := by
  refine MT_ofH (own := RX0) (nL := 4) (ini := false) (by decide +kernel) rfl (Nat.le_of_ble_eq_true rfl) (fun h => by cases h) hst ?_
  show VV_X0_calibrate l G σ (.inl (some (pI r))) σe S 0 [(0, pR a0), (1, pI x1), (2, pR a2)] [] σ S
  unfold f_X0_calibrate at h
  refine V_aload_n (i := 2) 2 dX0_calibrate_0 rfl rfl ?_
  refine V_iconst (v := 0) dX0_calibrate_1 (by decide) ?_
  refine V_aload_n (i := 0) 0 dX0_calibrate_2 rfl rfl ?_
  refine V_iload_n (i := 1) 1 dX0_calibrate_3 rfl rfl ?_
  obtain ⟨e1, e2, h⟩ := bd_s h
  obtain ⟨r3, σ4, e5, h⟩ := bp_s h
  refine V_callVxI (n9 := 1) (c := 0) (r := (RX1, TX1, 4)) [pI (0 : Int32), pR a2] (v_X1_calibrate l G hst _ e5) rfl rfl (lw_V q1071 q1072 q1073 q76 q1074) (by decide +kernel) (by decide) (Nat.le_of_ble_eq_true rfl) (gk_k e2 rfl) rfl dX0_calibrate_4 (fun y6 e7 => ?_) (fun e8 e9 => ?_)
  · subst e7
    replace h := ex_l h
    refine V_i2l dX0_calibrate_7 ?_
    obtain ⟨σ10, e11, h⟩ := bd_s h
    refine V_stI3 e11 dX0_calibrate_8 ?_
    refine V_goto 18 dX0_calibrate_9 (by decide) ?_
    refine V_iconst (v := 0) dX0_calibrate_18 (by decide) ?_
    cases h
    exact V_iret rfl dX0_calibrate_19
  · subst e9
    replace h := ex_r h
    by_cases e12 : e8.1 = "java/lang/IndexOutOfBoundsException"
    · replace h := (if_pos e12).symm.trans h
      rw [e12]
      refine VX_catch (E := "java/lang/IndexOutOfBoundsException") (nm := "java/lang/IndexOutOfBoundsException") (tableOf []) ⟨0, 9, 12, 21⟩ (tableOf [(0, 9, 15, 15)]) rfl (fun y hy => by cases hy) (by decide) (by decide) q1025 (by decide +kernel) ?_
      refine V_astore_n (i := 3) (L' := [(3, pR (e8.2)), (0, pR a0), (1, pI x1), (2, pR a2)]) dX0_calibrate_12 rfl (by decide) rfl ?_
      refine V_iconst (v := 1) dX0_calibrate_13 (by decide) ?_
      cases h
      exact V_iret rfl dX0_calibrate_14
    replace h := (if_neg e12).symm.trans h
    by_cases e13 : e8.1 = "java/lang/IllegalStateException"
    · replace h := (if_pos e13).symm.trans h
      rw [e13]
      refine VX_catch (E := "java/lang/IllegalStateException") (nm := "java/lang/IllegalStateException") (tableOf [(0, 9, 12, 21)]) ⟨0, 9, 15, 15⟩ (tableOf []) rfl (hp_1 (Or.inr ⟨by decide, "java/lang/IndexOutOfBoundsException", q1025, by decide +kernel⟩)) (by decide) (by decide) q868 (by decide +kernel) ?_
      refine V_astore_n (i := 3) (L' := [(3, pR (e8.2)), (0, pR a0), (1, pI x1), (2, pR a2)]) dX0_calibrate_15 rfl (by decide) rfl ?_
      refine V_iconst (v := 2) dX0_calibrate_16 (by decide) ?_
      cases h
      exact V_iret rfl dX0_calibrate_17
    replace h := (if_neg e13).symm.trans h
    cases h

abbrev VV_X1_hold (l : Launch) (G : Gx) (σ0 : Hp) (o : Oc) (σe : Hp) (Se : Ms) := V l G RX1 cX1_hold 4 (some .int) [] false 10 275 σ0 o σe Se
def f_X1_hold (σ : Hp) (a0 : Nat) (x1 : Int32) (x2 : Int32) : Option (Ex Int32 × Hp) :=
  bd (gk σ 1 a0) fun e1 => bp (f_X1_blockAt σ a0 x1) fun r3 σ4 => ex r3 (fun b6 => bd (f_X1_isIn x2 (1 : Int32) (60 : Int32)) fun y10 => bp (f_X1_require σ4 y10) fun r12 σ13 => ex r12 (fun e15 => bd (gk σ13 1 a0) fun e19 => bp (f_X1_save σ13 a0) fun e21 σ22 => bd (gk σ22 3 b6) fun e24 => bp (f_X4_warm σ22 b6 ((5 : Int32) * x2)) fun e26 σ27 => bd (rdI σ27 3 b6 33) fun y29 => some (.inl y29, σ27)) (fun e17 => some (.inr e17, σ13))) (fun e8 => some (.inr e8, σ4))
set_option maxHeartbeats 4000000 in
theorem v_X1_hold (l : Launch) (G : Gx) (hst : l.stackTraces = false) (S : Ms) {σ σe : Hp} {a0 : Nat} {x1 : Int32} {x2 : Int32} {r : Ex Int32} (h : f_X1_hold σ a0 x1 x2 = some (r, σe)) : MT l G yX1_hold (ws_ yX1_hold cX1_hold 4 (some .int)) 10 275 [pR a0, pI x1, pI x2] σ S (tOI r) σe S := by
  refine MT_of (own := RX1) (nL := 4) (ini := false) (by decide +kernel) rfl (Nat.le_of_ble_eq_true rfl) (fun h => by cases h) hst ?_
  show VV_X1_hold l G σ (tOI r) σe S 0 [(0, pR a0), (1, pI x1), (2, pI x2)] [] σ S
  unfold f_X1_hold at h
  refine V_aload_n (i := 0) 0 dX1_hold_0 rfl rfl ?_
  refine V_iload_n (i := 1) 1 dX1_hold_1 rfl rfl ?_
  obtain ⟨e1, e2, h⟩ := bd_s h
  obtain ⟨r3, σ4, e5, h⟩ := bp_s h
  refine V_callVxR (n9 := 1) (c := 0) (r := (RX1, TX1, 4)) [] (v_X1_blockAt l G hst _ e5) rfl rfl (lw_V q1032 q1034 qs13 q76 q1035) (by decide +kernel) (by decide) (Nat.le_of_ble_eq_true rfl) (gk_k e2 rfl) rfl dX1_hold_2 (fun b6 e7 => ?_) (fun e8 e9 => ?_)
  · subst e7
    replace h := ex_l h
    refine V_astore_n (i := 3) (L' := [(3, pR b6), (0, pR a0), (1, pI x1), (2, pI x2)]) dX1_hold_5 rfl (by decide) rfl ?_
    refine V_iload_n (i := 2) 3 dX1_hold_6 rfl rfl ?_
    refine V_iconst (v := 1) dX1_hold_7 (by decide) ?_
    refine V_bipush (v := 60) dX1_hold_8 (by decide) ?_
    obtain ⟨y10, e11, h⟩ := bd_s h
    refine V_callS_v (n9 := 3) [] (v_X1_isIn l G hst _ _ e11) rfl rfl (lw_S q874 q754 q76 q755) (by decide +kernel) (by decide) (Nat.le_of_ble_eq_true rfl) dX1_hold_10 ?_
    obtain ⟨r12, σ13, e14, h⟩ := bp_s h
    refine V_callSxV (n9 := 1) [] (v_X1_require l G hst _ e14) rfl rfl (lw_S q875 q876 q76 q877) (by decide +kernel) (by decide) (Nat.le_of_ble_eq_true rfl) dX1_hold_13 (fun e15 e16 => ?_) (fun e17 e18 => ?_)
    · subst e16
      replace h := ex_l h
      refine V_aload_n (i := 0) 1 dX1_hold_16 rfl rfl ?_
      obtain ⟨e19, e20, h⟩ := bd_s h
      obtain ⟨e21, σ22, e23, h⟩ := bp_s h
      refine V_callV_0 (n9 := 0) (c := 0) (r := (RX1, TX1, 4)) [] (v_X1_save l G hst _ e23) rfl rfl (lw_V q904 q906 qs10 q76 q907) (by decide +kernel) (by decide) (Nat.le_of_ble_eq_true rfl) (gk_k e20 rfl) rfl dX1_hold_17 ?_
      refine V_aload_n (i := 3) 0 dX1_hold_20 rfl rfl ?_
      refine V_iconst (v := 5) dX1_hold_21 (by decide) ?_
      refine V_iload_n (i := 2) 3 dX1_hold_22 rfl rfl ?_
      refine V_imul dX1_hold_23 ?_
      obtain ⟨e24, e25, h⟩ := bd_s h
      obtain ⟨e26, σ27, e28, h⟩ := bp_s h
      refine V_callV_0 (n9 := 1) (c := 2) (r := (RX4, TX4, 6)) [] (v_X4_warm l G hst _ e28) rfl rfl (lw_V q1093 q1094 q1095 q98 q1096) (by decide +kernel) (by decide) (Nat.le_of_ble_eq_true rfl) (gk_k e25 rfl) rfl dX1_hold_24 ?_
      refine V_aload_n (i := 3) 0 dX1_hold_27 rfl rfl ?_
      obtain ⟨y29, e30, h⟩ := bd_s h
      refine V_rdI gf_X1_115 rfl rfl rfl e30 dX1_hold_28 ?_
      cases h
      exact V_iret rfl dX1_hold_31
    · subst e18
      replace h := ex_r h
      cases h
      exact VX_out (by decide)
  · subst e9
    replace h := ex_r h
    cases h
    exact VX_out (by decide)

abbrev VV_X0_hold (l : Launch) (G : Gx) (σ0 : Hp) (o : Oc) (σe : Hp) (Se : Ms) := V l G RX0 cX0_hold 5 (some .int) (tableOf [(0, 10, 13, 21), (0, 10, 17, 13)]) false 11 298 σ0 o σe Se
def f_X0_hold (σ : Hp) (a0 : Nat) (x1 : Int32) (x2 : Int32) (a3 : Nat) : Option (Int32 × Hp) :=
  bd (gk σ 1 a0) fun e1 => bp (f_X1_hold σ a0 x1 x2) fun r3 σ4 => ex r3 (fun y6 => bd (stI σ4 103 a3 (0 : Int32) y6) fun σ10 => some ((0 : Int32), σ10)) (fun e8 => if e8.1 = "java/lang/IndexOutOfBoundsException" then some ((1 : Int32), σ4) else if e8.1 = "java/lang/IllegalArgumentException" then some ((2 : Int32), σ4) else none)
set_option maxHeartbeats 4000000 in
theorem v_X0_hold (l : Launch) (G : Gx) (hst : l.stackTraces = false) (S : Ms) {σ σe : Hp} {a0 : Nat} {x1 : Int32} {x2 : Int32} {a3 : Nat} {r : Int32} (h : f_X0_hold σ a0 x1 x2 a3 = some (r, σe)) : MT l G yX0_hold (wsW_ yX0_hold cX0_hold 5 (some .int) [(0, 10, 13, 21), (0, 10, 17, 13)]) 11 298 [pR a0, pI x1, pI x2, pR a3] σ S (.inl (some (pI r))) σe S := by
  refine MT_ofH (own := RX0) (nL := 5) (ini := false) (by decide +kernel) rfl (Nat.le_of_ble_eq_true rfl) (fun h => by cases h) hst ?_
  show VV_X0_hold l G σ (.inl (some (pI r))) σe S 0 [(0, pR a0), (1, pI x1), (2, pI x2), (3, pR a3)] [] σ S
  unfold f_X0_hold at h
  refine V_aload_n (i := 3) 3 dX0_hold_0 rfl rfl ?_
  refine V_iconst (v := 0) dX0_hold_1 (by decide) ?_
  refine V_aload_n (i := 0) 0 dX0_hold_2 rfl rfl ?_
  refine V_iload_n (i := 1) 1 dX0_hold_3 rfl rfl ?_
  refine V_iload_n (i := 2) 2 dX0_hold_4 rfl rfl ?_
  obtain ⟨e1, e2, h⟩ := bd_s h
  obtain ⟨r3, σ4, e5, h⟩ := bp_s h
  refine V_callVxI (n9 := 2) (c := 0) (r := (RX1, TX1, 4)) [pI (0 : Int32), pR a3] (v_X1_hold l G hst _ e5) rfl rfl (lw_V q1089 q1090 q1091 q76 q1092) (by decide +kernel) (by decide) (Nat.le_of_ble_eq_true rfl) (gk_k e2 rfl) rfl dX0_hold_5 (fun y6 e7 => ?_) (fun e8 e9 => ?_)
  · subst e7
    replace h := ex_l h
    refine V_i2l dX0_hold_8 ?_
    obtain ⟨σ10, e11, h⟩ := bd_s h
    refine V_stI3 e11 dX0_hold_9 ?_
    refine V_goto 21 dX0_hold_10 (by decide) ?_
    refine V_iconst (v := 0) dX0_hold_21 (by decide) ?_
    cases h
    exact V_iret rfl dX0_hold_22
  · subst e9
    replace h := ex_r h
    by_cases e12 : e8.1 = "java/lang/IndexOutOfBoundsException"
    · replace h := (if_pos e12).symm.trans h
      rw [e12]
      refine VX_catch (E := "java/lang/IndexOutOfBoundsException") (nm := "java/lang/IndexOutOfBoundsException") (tableOf []) ⟨0, 10, 13, 21⟩ (tableOf [(0, 10, 17, 13)]) rfl (fun y hy => by cases hy) (by decide) (by decide) q1025 (by decide +kernel) ?_
      refine V_astore (i := 4) (L' := [(4, pR (e8.2)), (0, pR a0), (1, pI x1), (2, pI x2), (3, pR a3)]) dX0_hold_13 (by decide) rfl ?_
      refine V_iconst (v := 1) dX0_hold_15 (by decide) ?_
      cases h
      exact V_iret rfl dX0_hold_16
    replace h := (if_neg e12).symm.trans h
    by_cases e13 : e8.1 = "java/lang/IllegalArgumentException"
    · replace h := (if_pos e13).symm.trans h
      rw [e13]
      refine VX_catch (E := "java/lang/IllegalArgumentException") (nm := "java/lang/IllegalArgumentException") (tableOf [(0, 10, 13, 21)]) ⟨0, 10, 17, 13⟩ (tableOf []) rfl (hp_1 (Or.inr ⟨by decide, "java/lang/IndexOutOfBoundsException", q1025, by decide +kernel⟩)) (by decide) (by decide) q867 (by decide +kernel) ?_
      refine V_astore (i := 4) (L' := [(4, pR (e8.2)), (0, pR a0), (1, pI x1), (2, pI x2), (3, pR a3)]) dX0_hold_17 (by decide) rfl ?_
      refine V_iconst (v := 2) dX0_hold_19 (by decide) ?_
      cases h
      exact V_iret rfl dX0_hold_20
    replace h := (if_neg e13).symm.trans h
    cases h
