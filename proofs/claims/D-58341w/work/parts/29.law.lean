/-! the law's own body: written by gen/genL.py -/
set_option maxRecDepth 100000
abbrev VV_L_law (l : Launch) (G : Gx) (σ0 : Hp) (o : Oc) (σe : Hp) (Se : Ms) := V l G RX0 cL_law 9 (some .boolean) [] false 35 867 σ0 o σe Se
def f_L_law_1811 (G : Gx) (k23 : Hp → Ms → Int32 → Nat → Nat → Option (Int32 × Hp × Ms)) (σ : Hp) (S : Ms) (x4 : Int32) (a3 : Nat) (a1 : Nat) : Option (Int32 × Hp × Ms) :=
  k23 σ S (x4 + (3 : Int32)) a3 a1
set_option maxHeartbeats 4000000 in
theorem v_L_law_1811 {l : Launch} {G : Gx} (hst : l.stackTraces = false) (hm : gmo G ≠ 0) (hsc : gst G 4 ≠ 0) {σ0 σe : Hp} {Se : Ms} {r : Int32} {k23 : Hp → Ms → Int32 → Nat → Nat → Option (Int32 × Hp × Ms)} (hk23 : ∀ (σ : Hp) (S : Ms) (x4 : Int32) (a3 : Nat) (a1 : Nat), k23 σ S x4 a3 a1 = some (r, σe, Se) → VV_L_law l G σ0 (.inl (some (pI r))) σe Se 23 [(4, pI x4), (3, pR a3), (0, pR (gst G 4)), (1, pR a1), (2, pR (gmo G))] [] σ S) {σ : Hp} {S : Ms} {x4 : Int32} {a3 : Nat} {a1 : Nat} (h : f_L_law_1811 G k23 σ S x4 a3 a1 = some (r, σe, Se)) : VV_L_law l G σ0 (.inl (some (pI r))) σe Se 1811 [(4, pI x4), (3, pR a3), (0, pR (gst G 4)), (1, pR a1), (2, pR (gmo G))] [] σ S := by
  unfold f_L_law_1811 at h
  refine V_iinc (v := (x4 + (3 : Int32))) (L' := [(4, pI (x4 + (3 : Int32))), (3, pR a3), (0, pR (gst G 4)), (1, pR a1), (2, pR (gmo G))]) 0 dL_law_1811 rfl rfl (by decide) rfl ?_
  refine V_goto 23 dL_law_1814 (by decide) ?_
  refine V_sub [0, 1, 2, 3, 4] rfl ?_
  exact hk23 _ _ _ _ _ h
def f_L_law_233 (G : Gx) (k23 : Hp → Ms → Int32 → Nat → Nat → Option (Int32 × Hp × Ms)) (σ : Hp) (S : Ms) (x4 : Int32) (a3 : Nat) (a1 : Nat) : Option (Int32 × Hp × Ms) :=
  f_L_law_1811 G k23 σ S x4 a3 a1
set_option maxHeartbeats 4000000 in
theorem v_L_law_233 {l : Launch} {G : Gx} (hst : l.stackTraces = false) (hm : gmo G ≠ 0) (hsc : gst G 4 ≠ 0) {σ0 σe : Hp} {Se : Ms} {r : Int32} {k23 : Hp → Ms → Int32 → Nat → Nat → Option (Int32 × Hp × Ms)} (hk23 : ∀ (σ : Hp) (S : Ms) (x4 : Int32) (a3 : Nat) (a1 : Nat), k23 σ S x4 a3 a1 = some (r, σe, Se) → VV_L_law l G σ0 (.inl (some (pI r))) σe Se 23 [(4, pI x4), (3, pR a3), (0, pR (gst G 4)), (1, pR a1), (2, pR (gmo G))] [] σ S) {σ : Hp} {S : Ms} {x4 : Int32} {a3 : Nat} {a1 : Nat} (h : f_L_law_233 G k23 σ S x4 a3 a1 = some (r, σe, Se)) : VV_L_law l G σ0 (.inl (some (pI r))) σe Se 233 [(4, pI x4), (3, pR a3), (0, pR (gst G 4)), (1, pR a1), (2, pR (gmo G))] [] σ S := by
  unfold f_L_law_233 at h
  refine V_goto 1811 dL_law_233 (by decide) ?_
  refine V_sub [0, 1, 2, 3, 4] rfl ?_
  exact v_L_law_1811 hst hm hsc hk23 h
def f_L_law_168 (G : Gx) (k23 : Hp → Ms → Int32 → Nat → Nat → Option (Int32 × Hp × Ms)) (σ : Hp) (S : Ms) (x4 : Int32) (a3 : Nat) (a1 : Nat) : Option (Int32 × Hp × Ms) :=
  bd (scI G (x4 + (1 : Int32))) fun y1 => bd (scI G (x4 + (2 : Int32))) fun y3 => bp (f_X0_block σ a1 y1 y3 a3) fun y5 σ6 => bd (scI G (x4 + (1 : Int32))) fun y8 => bd (scI G (x4 + (2 : Int32))) fun y10 => bp (f_X3_block S y8 y10) fun y12 S13 => bp (f_X3_thrown S13 ) fun y15 S16 => if y15 = y5 then (if y5 = (0 : Int32) then (bd (elI σ6 103 a3 (0 : Int32)) fun y20 => if (lcm9 (y20.toInt64) (y12.toInt64)) = (0 : Int32) then (f_L_law_233 G k23 σ6 S16 x4 a3 a1) else (bd (okZ (0 : Int32)) fun e23 => some ((0 : Int32), σ6, S16))) else (f_L_law_233 G k23 σ6 S16 x4 a3 a1)) else (bd (okZ (0 : Int32)) fun e25 => some ((0 : Int32), σ6, S16))
set_option maxHeartbeats 4000000 in
theorem v_L_law_168 {l : Launch} {G : Gx} (hst : l.stackTraces = false) (hm : gmo G ≠ 0) (hsc : gst G 4 ≠ 0) {σ0 σe : Hp} {Se : Ms} {r : Int32} {k23 : Hp → Ms → Int32 → Nat → Nat → Option (Int32 × Hp × Ms)} (hk23 : ∀ (σ : Hp) (S : Ms) (x4 : Int32) (a3 : Nat) (a1 : Nat), k23 σ S x4 a3 a1 = some (r, σe, Se) → VV_L_law l G σ0 (.inl (some (pI r))) σe Se 23 [(4, pI x4), (3, pR a3), (0, pR (gst G 4)), (1, pR a1), (2, pR (gmo G))] [] σ S) {σ : Hp} {S : Ms} {x4 : Int32} {a3 : Nat} {a1 : Nat} (h : f_L_law_168 G k23 σ S x4 a3 a1 = some (r, σe, Se)) : VV_L_law l G σ0 (.inl (some (pI r))) σe Se 168 [(4, pI x4), (3, pR a3), (0, pR (gst G 4)), (1, pR a1), (2, pR (gmo G))] [] σ S := by
  unfold f_L_law_168 at h
  refine V_aload_n (i := 1) 3 dL_law_168 rfl rfl ?_
  refine V_aload_n (i := 0) 2 dL_law_169 rfl rfl ?_
  refine V_iload (i := 4) 0 dL_law_170 rfl ?_
  refine V_iconst (v := 1) dL_law_172 (by decide) ?_
  refine V_iadd dL_law_173 ?_
  obtain ⟨y1, e2, h⟩ := bd_s h
  refine V_scI hsc e2 dL_law_174 ?_
  refine V_aload_n (i := 0) 2 dL_law_175 rfl rfl ?_
  refine V_iload (i := 4) 0 dL_law_176 rfl ?_
  refine V_iconst (v := 2) dL_law_178 (by decide) ?_
  refine V_iadd dL_law_179 ?_
  obtain ⟨y3, e4, h⟩ := bd_s h
  refine V_scI hsc e4 dL_law_180 ?_
  refine V_aload_n (i := 3) 1 dL_law_181 rfl rfl ?_
  obtain ⟨y5, σ6, e7, h⟩ := bp_s h
  refine V_callSH_v (n9 := 4) [] (v_X0_block l G hst _ e7) rfl rfl (lw_SW q864 q865 q75 q866) (by decide +kernel) (by decide) (Nat.le_of_ble_eq_true rfl) dL_law_182 ?_
  refine V_istore (i := 5) (L' := [(5, pI y5), (4, pI x4), (3, pR a3), (0, pR (gst G 4)), (1, pR a1), (2, pR (gmo G))]) dL_law_185 (by decide) rfl ?_
  refine V_aload_n (i := 2) 5 dL_law_187 rfl rfl ?_
  refine V_aload_n (i := 0) 3 dL_law_188 rfl rfl ?_
  refine V_iload (i := 4) 1 dL_law_189 rfl ?_
  refine V_iconst (v := 1) dL_law_191 (by decide) ?_
  refine V_iadd dL_law_192 ?_
  obtain ⟨y8, e9, h⟩ := bd_s h
  refine V_scI hsc e9 dL_law_193 ?_
  refine V_aload_n (i := 0) 3 dL_law_194 rfl rfl ?_
  refine V_iload (i := 4) 1 dL_law_195 rfl ?_
  refine V_iconst (v := 2) dL_law_197 (by decide) ?_
  refine V_iadd dL_law_198 ?_
  obtain ⟨y10, e11, h⟩ := bd_s h
  refine V_scI hsc e11 dL_law_199 ?_
  obtain ⟨y12, S13, e14, h⟩ := bp_s h
  refine V_callM_v (n9 := 2) [] hm (v_X3_block l G hst hm _ e14) rfl rfl (lw_V q2081 q2082 q2083 q90 q2084) (by decide +kernel) (by decide) (Nat.le_of_ble_eq_true rfl) dL_law_200 ?_
  refine V_istore (i := 6) (L' := [(6, pI y12), (5, pI y5), (4, pI x4), (3, pR a3), (0, pR (gst G 4)), (1, pR a1), (2, pR (gmo G))]) dL_law_203 (by decide) rfl ?_
  refine V_aload_n (i := 2) 6 dL_law_205 rfl rfl ?_
  obtain ⟨y15, S16, e17, h⟩ := bp_s h
  refine V_callM_v (n9 := 0) [] hm (v_X3_thrown l G hst hm _ e17) rfl rfl (lw_V q2054 q2055 q2056 q90 q2057) (by decide +kernel) (by decide) (Nat.le_of_ble_eq_true rfl) dL_law_206 ?_
  refine V_iload (i := 5) 1 dL_law_209 rfl ?_
  refine V_icmp_eq 216 dL_law_211 (by decide) (fun c18 => ?_) (fun c18 => ?_)
  · replace h := it_t c18 h
    refine V_iload (i := 5) 1 dL_law_216 rfl ?_
    refine V_if_ne 233 dL_law_218 (by decide) (fun c19 => ?_) (fun c19 => ?_)
    · replace h := it_f c19 h
      refine V_sub [2, 3, 4, 5, 6] rfl ?_
      exact v_L_law_233 hst hm hsc hk23 h
    · replace h := it_t c19 h
      refine V_aload_n (i := 3) 3 dL_law_221 rfl rfl ?_
      refine V_iconst (v := 0) dL_law_222 (by decide) ?_
      obtain ⟨y20, e21, h⟩ := bd_s h
      refine V_elL3 e21 dL_law_223 ?_
      refine V_iload (i := 6) 0 dL_law_224 rfl ?_
      refine V_i2l dL_law_226 ?_
      refine V_lcmp dL_law_227 ?_
      refine V_if_eq 233 dL_law_228 (by decide) (fun c22 => ?_) (fun c22 => ?_)
      · replace h := it_t c22 h
        refine V_sub [2, 3, 4, 5, 6] rfl ?_
        exact v_L_law_233 hst hm hsc hk23 h
      · replace h := it_f c22 h
        refine V_iconst (v := 0) dL_law_231 (by decide) ?_
        obtain ⟨e23, e24, h⟩ := bd_s h
        cases h
        exact V_retZ e24 rfl dL_law_232
  · replace h := it_f c18 h
    refine V_iconst (v := 0) dL_law_214 (by decide) ?_
    obtain ⟨e25, e26, h⟩ := bd_s h
    cases h
    exact V_retZ e26 rfl dL_law_215
def f_L_law_289 (G : Gx) (k23 : Hp → Ms → Int32 → Nat → Nat → Option (Int32 × Hp × Ms)) (σ : Hp) (S : Ms) (x4 : Int32) (a3 : Nat) (a1 : Nat) : Option (Int32 × Hp × Ms) :=
  f_L_law_1811 G k23 σ S x4 a3 a1
set_option maxHeartbeats 4000000 in
theorem v_L_law_289 {l : Launch} {G : Gx} (hst : l.stackTraces = false) (hm : gmo G ≠ 0) (hsc : gst G 4 ≠ 0) {σ0 σe : Hp} {Se : Ms} {r : Int32} {k23 : Hp → Ms → Int32 → Nat → Nat → Option (Int32 × Hp × Ms)} (hk23 : ∀ (σ : Hp) (S : Ms) (x4 : Int32) (a3 : Nat) (a1 : Nat), k23 σ S x4 a3 a1 = some (r, σe, Se) → VV_L_law l G σ0 (.inl (some (pI r))) σe Se 23 [(4, pI x4), (3, pR a3), (0, pR (gst G 4)), (1, pR a1), (2, pR (gmo G))] [] σ S) {σ : Hp} {S : Ms} {x4 : Int32} {a3 : Nat} {a1 : Nat} (h : f_L_law_289 G k23 σ S x4 a3 a1 = some (r, σe, Se)) : VV_L_law l G σ0 (.inl (some (pI r))) σe Se 289 [(4, pI x4), (3, pR a3), (0, pR (gst G 4)), (1, pR a1), (2, pR (gmo G))] [] σ S := by
  unfold f_L_law_289 at h
  refine V_goto 1811 dL_law_289 (by decide) ?_
  refine V_sub [0, 1, 2, 3, 4] rfl ?_
  exact v_L_law_1811 hst hm hsc hk23 h
def f_L_law_236 (G : Gx) (k23 : Hp → Ms → Int32 → Nat → Nat → Option (Int32 × Hp × Ms)) (σ : Hp) (S : Ms) (x4 : Int32) (a3 : Nat) (a1 : Nat) : Option (Int32 × Hp × Ms) :=
  bd (scI G (x4 + (1 : Int32))) fun y1 => bp (f_X0_discard σ a1 y1 a3) fun y3 σ4 => bd (scI G (x4 + (1 : Int32))) fun y6 => bp (f_X3_discard S y6) fun y8 S9 => bp (f_X3_thrown S9 ) fun y11 S12 => if y11 = y3 then (if y3 = (0 : Int32) then (bd (elI σ4 103 a3 (0 : Int32)) fun y16 => if (lcm9 (y16.toInt64) (y8.toInt64)) = (0 : Int32) then (f_L_law_289 G k23 σ4 S12 x4 a3 a1) else (bd (okZ (0 : Int32)) fun e19 => some ((0 : Int32), σ4, S12))) else (f_L_law_289 G k23 σ4 S12 x4 a3 a1)) else (bd (okZ (0 : Int32)) fun e21 => some ((0 : Int32), σ4, S12))
set_option maxHeartbeats 4000000 in
theorem v_L_law_236 {l : Launch} {G : Gx} (hst : l.stackTraces = false) (hm : gmo G ≠ 0) (hsc : gst G 4 ≠ 0) {σ0 σe : Hp} {Se : Ms} {r : Int32} {k23 : Hp → Ms → Int32 → Nat → Nat → Option (Int32 × Hp × Ms)} (hk23 : ∀ (σ : Hp) (S : Ms) (x4 : Int32) (a3 : Nat) (a1 : Nat), k23 σ S x4 a3 a1 = some (r, σe, Se) → VV_L_law l G σ0 (.inl (some (pI r))) σe Se 23 [(4, pI x4), (3, pR a3), (0, pR (gst G 4)), (1, pR a1), (2, pR (gmo G))] [] σ S) {σ : Hp} {S : Ms} {x4 : Int32} {a3 : Nat} {a1 : Nat} (h : f_L_law_236 G k23 σ S x4 a3 a1 = some (r, σe, Se)) : VV_L_law l G σ0 (.inl (some (pI r))) σe Se 236 [(4, pI x4), (3, pR a3), (0, pR (gst G 4)), (1, pR a1), (2, pR (gmo G))] [] σ S := by
  unfold f_L_law_236 at h
  refine V_aload_n (i := 1) 3 dL_law_236 rfl rfl ?_
  refine V_aload_n (i := 0) 2 dL_law_237 rfl rfl ?_
  refine V_iload (i := 4) 0 dL_law_238 rfl ?_
  refine V_iconst (v := 1) dL_law_240 (by decide) ?_
  refine V_iadd dL_law_241 ?_
  obtain ⟨y1, e2, h⟩ := bd_s h
  refine V_scI hsc e2 dL_law_242 ?_
  refine V_aload_n (i := 3) 1 dL_law_243 rfl rfl ?_
  obtain ⟨y3, σ4, e5, h⟩ := bp_s h
  refine V_callSH_v (n9 := 3) [] (v_X0_discard l G hst _ e5) rfl rfl (lw_SW q1022 q1023 q75 q1024) (by decide +kernel) (by decide) (Nat.le_of_ble_eq_true rfl) dL_law_244 ?_
  refine V_istore (i := 5) (L' := [(5, pI y3), (4, pI x4), (3, pR a3), (0, pR (gst G 4)), (1, pR a1), (2, pR (gmo G))]) dL_law_247 (by decide) rfl ?_
  refine V_aload_n (i := 2) 5 dL_law_249 rfl rfl ?_
  refine V_aload_n (i := 0) 3 dL_law_250 rfl rfl ?_
  refine V_iload (i := 4) 1 dL_law_251 rfl ?_
  refine V_iconst (v := 1) dL_law_253 (by decide) ?_
  refine V_iadd dL_law_254 ?_
  obtain ⟨y6, e7, h⟩ := bd_s h
  refine V_scI hsc e7 dL_law_255 ?_
  obtain ⟨y8, S9, e10, h⟩ := bp_s h
  refine V_callM_v (n9 := 1) [] hm (v_X3_discard l G hst hm _ e10) rfl rfl (lw_V q2094 q2095 q2096 q90 q2097) (by decide +kernel) (by decide) (Nat.le_of_ble_eq_true rfl) dL_law_256 ?_
  refine V_istore (i := 6) (L' := [(6, pI y8), (5, pI y3), (4, pI x4), (3, pR a3), (0, pR (gst G 4)), (1, pR a1), (2, pR (gmo G))]) dL_law_259 (by decide) rfl ?_
  refine V_aload_n (i := 2) 6 dL_law_261 rfl rfl ?_
  obtain ⟨y11, S12, e13, h⟩ := bp_s h
  refine V_callM_v (n9 := 0) [] hm (v_X3_thrown l G hst hm _ e13) rfl rfl (lw_V q2054 q2055 q2056 q90 q2057) (by decide +kernel) (by decide) (Nat.le_of_ble_eq_true rfl) dL_law_262 ?_
  refine V_iload (i := 5) 1 dL_law_265 rfl ?_
  refine V_icmp_eq 272 dL_law_267 (by decide) (fun c14 => ?_) (fun c14 => ?_)
  · replace h := it_t c14 h
    refine V_iload (i := 5) 1 dL_law_272 rfl ?_
    refine V_if_ne 289 dL_law_274 (by decide) (fun c15 => ?_) (fun c15 => ?_)
    · replace h := it_f c15 h
      refine V_sub [2, 3, 4, 5, 6] rfl ?_
      exact v_L_law_289 hst hm hsc hk23 h
    · replace h := it_t c15 h
      refine V_aload_n (i := 3) 3 dL_law_277 rfl rfl ?_
      refine V_iconst (v := 0) dL_law_278 (by decide) ?_
      obtain ⟨y16, e17, h⟩ := bd_s h
      refine V_elL3 e17 dL_law_279 ?_
      refine V_iload (i := 6) 0 dL_law_280 rfl ?_
      refine V_i2l dL_law_282 ?_
      refine V_lcmp dL_law_283 ?_
      refine V_if_eq 289 dL_law_284 (by decide) (fun c18 => ?_) (fun c18 => ?_)
      · replace h := it_t c18 h
        refine V_sub [2, 3, 4, 5, 6] rfl ?_
        exact v_L_law_289 hst hm hsc hk23 h
      · replace h := it_f c18 h
        refine V_iconst (v := 0) dL_law_287 (by decide) ?_
        obtain ⟨e19, e20, h⟩ := bd_s h
        cases h
        exact V_retZ e20 rfl dL_law_288
  · replace h := it_f c14 h
    refine V_iconst (v := 0) dL_law_270 (by decide) ?_
    obtain ⟨e21, e22, h⟩ := bd_s h
    cases h
    exact V_retZ e22 rfl dL_law_271
def f_L_law_345 (G : Gx) (k23 : Hp → Ms → Int32 → Nat → Nat → Option (Int32 × Hp × Ms)) (σ : Hp) (S : Ms) (x4 : Int32) (a3 : Nat) (a1 : Nat) : Option (Int32 × Hp × Ms) :=
  f_L_law_1811 G k23 σ S x4 a3 a1
set_option maxHeartbeats 4000000 in
theorem v_L_law_345 {l : Launch} {G : Gx} (hst : l.stackTraces = false) (hm : gmo G ≠ 0) (hsc : gst G 4 ≠ 0) {σ0 σe : Hp} {Se : Ms} {r : Int32} {k23 : Hp → Ms → Int32 → Nat → Nat → Option (Int32 × Hp × Ms)} (hk23 : ∀ (σ : Hp) (S : Ms) (x4 : Int32) (a3 : Nat) (a1 : Nat), k23 σ S x4 a3 a1 = some (r, σe, Se) → VV_L_law l G σ0 (.inl (some (pI r))) σe Se 23 [(4, pI x4), (3, pR a3), (0, pR (gst G 4)), (1, pR a1), (2, pR (gmo G))] [] σ S) {σ : Hp} {S : Ms} {x4 : Int32} {a3 : Nat} {a1 : Nat} (h : f_L_law_345 G k23 σ S x4 a3 a1 = some (r, σe, Se)) : VV_L_law l G σ0 (.inl (some (pI r))) σe Se 345 [(4, pI x4), (3, pR a3), (0, pR (gst G 4)), (1, pR a1), (2, pR (gmo G))] [] σ S := by
  unfold f_L_law_345 at h
  refine V_goto 1811 dL_law_345 (by decide) ?_
  refine V_sub [0, 1, 2, 3, 4] rfl ?_
  exact v_L_law_1811 hst hm hsc hk23 h
def f_L_law_292 (G : Gx) (k23 : Hp → Ms → Int32 → Nat → Nat → Option (Int32 × Hp × Ms)) (σ : Hp) (S : Ms) (x4 : Int32) (a3 : Nat) (a1 : Nat) : Option (Int32 × Hp × Ms) :=
  bd (scI G (x4 + (1 : Int32))) fun y1 => bp (f_X0_calibrate σ a1 y1 a3) fun y3 σ4 => bd (scI G (x4 + (1 : Int32))) fun y6 => bp (f_X3_calibrate S y6) fun y8 S9 => bp (f_X3_thrown S9 ) fun y11 S12 => if y11 = y3 then (if y3 = (0 : Int32) then (bd (elI σ4 103 a3 (0 : Int32)) fun y16 => if (lcm9 (y16.toInt64) (y8.toInt64)) = (0 : Int32) then (f_L_law_345 G k23 σ4 S12 x4 a3 a1) else (bd (okZ (0 : Int32)) fun e19 => some ((0 : Int32), σ4, S12))) else (f_L_law_345 G k23 σ4 S12 x4 a3 a1)) else (bd (okZ (0 : Int32)) fun e21 => some ((0 : Int32), σ4, S12))
set_option maxHeartbeats 4000000 in
theorem v_L_law_292 {l : Launch} {G : Gx} (hst : l.stackTraces = false) (hm : gmo G ≠ 0) (hsc : gst G 4 ≠ 0) {σ0 σe : Hp} {Se : Ms} {r : Int32} {k23 : Hp → Ms → Int32 → Nat → Nat → Option (Int32 × Hp × Ms)} (hk23 : ∀ (σ : Hp) (S : Ms) (x4 : Int32) (a3 : Nat) (a1 : Nat), k23 σ S x4 a3 a1 = some (r, σe, Se) → VV_L_law l G σ0 (.inl (some (pI r))) σe Se 23 [(4, pI x4), (3, pR a3), (0, pR (gst G 4)), (1, pR a1), (2, pR (gmo G))] [] σ S) {σ : Hp} {S : Ms} {x4 : Int32} {a3 : Nat} {a1 : Nat} (h : f_L_law_292 G k23 σ S x4 a3 a1 = some (r, σe, Se)) : VV_L_law l G σ0 (.inl (some (pI r))) σe Se 292 [(4, pI x4), (3, pR a3), (0, pR (gst G 4)), (1, pR a1), (2, pR (gmo G))] [] σ S := by
  unfold f_L_law_292 at h
  refine V_aload_n (i := 1) 3 dL_law_292 rfl rfl ?_
  refine V_aload_n (i := 0) 2 dL_law_293 rfl rfl ?_
  refine V_iload (i := 4) 0 dL_law_294 rfl ?_
  refine V_iconst (v := 1) dL_law_296 (by decide) ?_
  refine V_iadd dL_law_297 ?_
  obtain ⟨y1, e2, h⟩ := bd_s h
  refine V_scI hsc e2 dL_law_298 ?_
  refine V_aload_n (i := 3) 1 dL_law_299 rfl rfl ?_
  obtain ⟨y3, σ4, e5, h⟩ := bp_s h
  refine V_callSH_v (n9 := 3) [] (v_X0_calibrate l G hst _ e5) rfl rfl (lw_SW q1068 q1069 q75 q1070) (by decide +kernel) (by decide) (Nat.le_of_ble_eq_true rfl) dL_law_300 ?_
  refine V_istore (i := 5) (L' := [(5, pI y3), (4, pI x4), (3, pR a3), (0, pR (gst G 4)), (1, pR a1), (2, pR (gmo G))]) dL_law_303 (by decide) rfl ?_
  refine V_aload_n (i := 2) 5 dL_law_305 rfl rfl ?_
  refine V_aload_n (i := 0) 3 dL_law_306 rfl rfl ?_
  refine V_iload (i := 4) 1 dL_law_307 rfl ?_
  refine V_iconst (v := 1) dL_law_309 (by decide) ?_
  refine V_iadd dL_law_310 ?_
  obtain ⟨y6, e7, h⟩ := bd_s h
  refine V_scI hsc e7 dL_law_311 ?_
  obtain ⟨y8, S9, e10, h⟩ := bp_s h
  refine V_callM_v (n9 := 1) [] hm (v_X3_calibrate l G hst hm _ e10) rfl rfl (lw_V q2110 q2111 q2112 q90 q2113) (by decide +kernel) (by decide) (Nat.le_of_ble_eq_true rfl) dL_law_312 ?_
  refine V_istore (i := 6) (L' := [(6, pI y8), (5, pI y3), (4, pI x4), (3, pR a3), (0, pR (gst G 4)), (1, pR a1), (2, pR (gmo G))]) dL_law_315 (by decide) rfl ?_
  refine V_aload_n (i := 2) 6 dL_law_317 rfl rfl ?_
  obtain ⟨y11, S12, e13, h⟩ := bp_s h
  refine V_callM_v (n9 := 0) [] hm (v_X3_thrown l G hst hm _ e13) rfl rfl (lw_V q2054 q2055 q2056 q90 q2057) (by decide +kernel) (by decide) (Nat.le_of_ble_eq_true rfl) dL_law_318 ?_
  refine V_iload (i := 5) 1 dL_law_321 rfl ?_
  refine V_icmp_eq 328 dL_law_323 (by decide) (fun c14 => ?_) (fun c14 => ?_)
  · replace h := it_t c14 h
    refine V_iload (i := 5) 1 dL_law_328 rfl ?_
    refine V_if_ne 345 dL_law_330 (by decide) (fun c15 => ?_) (fun c15 => ?_)
    · replace h := it_f c15 h
      refine V_sub [2, 3, 4, 5, 6] rfl ?_
      exact v_L_law_345 hst hm hsc hk23 h
    · replace h := it_t c15 h
      refine V_aload_n (i := 3) 3 dL_law_333 rfl rfl ?_
      refine V_iconst (v := 0) dL_law_334 (by decide) ?_
      obtain ⟨y16, e17, h⟩ := bd_s h
      refine V_elL3 e17 dL_law_335 ?_
      refine V_iload (i := 6) 0 dL_law_336 rfl ?_
      refine V_i2l dL_law_338 ?_
      refine V_lcmp dL_law_339 ?_
      refine V_if_eq 345 dL_law_340 (by decide) (fun c18 => ?_) (fun c18 => ?_)
      · replace h := it_t c18 h
        refine V_sub [2, 3, 4, 5, 6] rfl ?_
        exact v_L_law_345 hst hm hsc hk23 h
      · replace h := it_f c18 h
        refine V_iconst (v := 0) dL_law_343 (by decide) ?_
        obtain ⟨e19, e20, h⟩ := bd_s h
        cases h
        exact V_retZ e20 rfl dL_law_344
  · replace h := it_f c14 h
    refine V_iconst (v := 0) dL_law_326 (by decide) ?_
    obtain ⟨e21, e22, h⟩ := bd_s h
    cases h
    exact V_retZ e22 rfl dL_law_327
def f_L_law_413 (G : Gx) (k23 : Hp → Ms → Int32 → Nat → Nat → Option (Int32 × Hp × Ms)) (σ : Hp) (S : Ms) (x4 : Int32) (a3 : Nat) (a1 : Nat) : Option (Int32 × Hp × Ms) :=
  f_L_law_1811 G k23 σ S x4 a3 a1
set_option maxHeartbeats 4000000 in
theorem v_L_law_413 {l : Launch} {G : Gx} (hst : l.stackTraces = false) (hm : gmo G ≠ 0) (hsc : gst G 4 ≠ 0) {σ0 σe : Hp} {Se : Ms} {r : Int32} {k23 : Hp → Ms → Int32 → Nat → Nat → Option (Int32 × Hp × Ms)} (hk23 : ∀ (σ : Hp) (S : Ms) (x4 : Int32) (a3 : Nat) (a1 : Nat), k23 σ S x4 a3 a1 = some (r, σe, Se) → VV_L_law l G σ0 (.inl (some (pI r))) σe Se 23 [(4, pI x4), (3, pR a3), (0, pR (gst G 4)), (1, pR a1), (2, pR (gmo G))] [] σ S) {σ : Hp} {S : Ms} {x4 : Int32} {a3 : Nat} {a1 : Nat} (h : f_L_law_413 G k23 σ S x4 a3 a1 = some (r, σe, Se)) : VV_L_law l G σ0 (.inl (some (pI r))) σe Se 413 [(4, pI x4), (3, pR a3), (0, pR (gst G 4)), (1, pR a1), (2, pR (gmo G))] [] σ S := by
  unfold f_L_law_413 at h
  refine V_goto 1811 dL_law_413 (by decide) ?_
  refine V_sub [0, 1, 2, 3, 4] rfl ?_
  exact v_L_law_1811 hst hm hsc hk23 h
def f_L_law_348 (G : Gx) (k23 : Hp → Ms → Int32 → Nat → Nat → Option (Int32 × Hp × Ms)) (σ : Hp) (S : Ms) (x4 : Int32) (a3 : Nat) (a1 : Nat) : Option (Int32 × Hp × Ms) :=
  bd (scI G (x4 + (1 : Int32))) fun y1 => bd (scI G (x4 + (2 : Int32))) fun y3 => bp (f_X0_hold σ a1 y1 y3 a3) fun y5 σ6 => bd (scI G (x4 + (1 : Int32))) fun y8 => bd (scI G (x4 + (2 : Int32))) fun y10 => bp (f_X3_hold S y8 y10) fun y12 S13 => bp (f_X3_thrown S13 ) fun y15 S16 => if y15 = y5 then (if y5 = (0 : Int32) then (bd (elI σ6 103 a3 (0 : Int32)) fun y20 => if (lcm9 (y20.toInt64) (y12.toInt64)) = (0 : Int32) then (f_L_law_413 G k23 σ6 S16 x4 a3 a1) else (bd (okZ (0 : Int32)) fun e23 => some ((0 : Int32), σ6, S16))) else (f_L_law_413 G k23 σ6 S16 x4 a3 a1)) else (bd (okZ (0 : Int32)) fun e25 => some ((0 : Int32), σ6, S16))
set_option maxHeartbeats 4000000 in
theorem v_L_law_348 {l : Launch} {G : Gx} (hst : l.stackTraces = false) (hm : gmo G ≠ 0) (hsc : gst G 4 ≠ 0) {σ0 σe : Hp} {Se : Ms} {r : Int32} {k23 : Hp → Ms → Int32 → Nat → Nat → Option (Int32 × Hp × Ms)} (hk23 : ∀ (σ : Hp) (S : Ms) (x4 : Int32) (a3 : Nat) (a1 : Nat), k23 σ S x4 a3 a1 = some (r, σe, Se) → VV_L_law l G σ0 (.inl (some (pI r))) σe Se 23 [(4, pI x4), (3, pR a3), (0, pR (gst G 4)), (1, pR a1), (2, pR (gmo G))] [] σ S) {σ : Hp} {S : Ms} {x4 : Int32} {a3 : Nat} {a1 : Nat} (h : f_L_law_348 G k23 σ S x4 a3 a1 = some (r, σe, Se)) : VV_L_law l G σ0 (.inl (some (pI r))) σe Se 348 [(4, pI x4), (3, pR a3), (0, pR (gst G 4)), (1, pR a1), (2, pR (gmo G))] [] σ S := by
  unfold f_L_law_348 at h
  refine V_aload_n (i := 1) 3 dL_law_348 rfl rfl ?_
  refine V_aload_n (i := 0) 2 dL_law_349 rfl rfl ?_
  refine V_iload (i := 4) 0 dL_law_350 rfl ?_
  refine V_iconst (v := 1) dL_law_352 (by decide) ?_
  refine V_iadd dL_law_353 ?_
  obtain ⟨y1, e2, h⟩ := bd_s h
  refine V_scI hsc e2 dL_law_354 ?_
  refine V_aload_n (i := 0) 2 dL_law_355 rfl rfl ?_
  refine V_iload (i := 4) 0 dL_law_356 rfl ?_
  refine V_iconst (v := 2) dL_law_358 (by decide) ?_
  refine V_iadd dL_law_359 ?_
  obtain ⟨y3, e4, h⟩ := bd_s h
  refine V_scI hsc e4 dL_law_360 ?_
  refine V_aload_n (i := 3) 1 dL_law_361 rfl rfl ?_
  obtain ⟨y5, σ6, e7, h⟩ := bp_s h
  refine V_callSH_v (n9 := 4) [] (v_X0_hold l G hst _ e7) rfl rfl (lw_SW q1086 q1087 q75 q1088) (by decide +kernel) (by decide) (Nat.le_of_ble_eq_true rfl) dL_law_362 ?_
  refine V_istore (i := 5) (L' := [(5, pI y5), (4, pI x4), (3, pR a3), (0, pR (gst G 4)), (1, pR a1), (2, pR (gmo G))]) dL_law_365 (by decide) rfl ?_
  refine V_aload_n (i := 2) 5 dL_law_367 rfl rfl ?_
  refine V_aload_n (i := 0) 3 dL_law_368 rfl rfl ?_
  refine V_iload (i := 4) 1 dL_law_369 rfl ?_
  refine V_iconst (v := 1) dL_law_371 (by decide) ?_
  refine V_iadd dL_law_372 ?_
  obtain ⟨y8, e9, h⟩ := bd_s h
  refine V_scI hsc e9 dL_law_373 ?_
  refine V_aload_n (i := 0) 3 dL_law_374 rfl rfl ?_
  refine V_iload (i := 4) 1 dL_law_375 rfl ?_
  refine V_iconst (v := 2) dL_law_377 (by decide) ?_
  refine V_iadd dL_law_378 ?_
  obtain ⟨y10, e11, h⟩ := bd_s h
  refine V_scI hsc e11 dL_law_379 ?_
  obtain ⟨y12, S13, e14, h⟩ := bp_s h
  refine V_callM_v (n9 := 2) [] hm (v_X3_hold l G hst hm _ e14) rfl rfl (lw_V q2125 q2126 q2127 q90 q2128) (by decide +kernel) (by decide) (Nat.le_of_ble_eq_true rfl) dL_law_380 ?_
  refine V_istore (i := 6) (L' := [(6, pI y12), (5, pI y5), (4, pI x4), (3, pR a3), (0, pR (gst G 4)), (1, pR a1), (2, pR (gmo G))]) dL_law_383 (by decide) rfl ?_
  refine V_aload_n (i := 2) 6 dL_law_385 rfl rfl ?_
  obtain ⟨y15, S16, e17, h⟩ := bp_s h
  refine V_callM_v (n9 := 0) [] hm (v_X3_thrown l G hst hm _ e17) rfl rfl (lw_V q2054 q2055 q2056 q90 q2057) (by decide +kernel) (by decide) (Nat.le_of_ble_eq_true rfl) dL_law_386 ?_
  refine V_iload (i := 5) 1 dL_law_389 rfl ?_
  refine V_icmp_eq 396 dL_law_391 (by decide) (fun c18 => ?_) (fun c18 => ?_)
  · replace h := it_t c18 h
    refine V_iload (i := 5) 1 dL_law_396 rfl ?_
    refine V_if_ne 413 dL_law_398 (by decide) (fun c19 => ?_) (fun c19 => ?_)
    · replace h := it_f c19 h
      refine V_sub [2, 3, 4, 5, 6] rfl ?_
      exact v_L_law_413 hst hm hsc hk23 h
    · replace h := it_t c19 h
      refine V_aload_n (i := 3) 3 dL_law_401 rfl rfl ?_
      refine V_iconst (v := 0) dL_law_402 (by decide) ?_
      obtain ⟨y20, e21, h⟩ := bd_s h
      refine V_elL3 e21 dL_law_403 ?_
      refine V_iload (i := 6) 0 dL_law_404 rfl ?_
      refine V_i2l dL_law_406 ?_
      refine V_lcmp dL_law_407 ?_
      refine V_if_eq 413 dL_law_408 (by decide) (fun c22 => ?_) (fun c22 => ?_)
      · replace h := it_t c22 h
        refine V_sub [2, 3, 4, 5, 6] rfl ?_
        exact v_L_law_413 hst hm hsc hk23 h
      · replace h := it_f c22 h
        refine V_iconst (v := 0) dL_law_411 (by decide) ?_
        obtain ⟨e23, e24, h⟩ := bd_s h
        cases h
        exact V_retZ e24 rfl dL_law_412
  · replace h := it_f c18 h
    refine V_iconst (v := 0) dL_law_394 (by decide) ?_
    obtain ⟨e25, e26, h⟩ := bd_s h
    cases h
    exact V_retZ e26 rfl dL_law_395
def f_L_law_469 (G : Gx) (k23 : Hp → Ms → Int32 → Nat → Nat → Option (Int32 × Hp × Ms)) (σ : Hp) (S : Ms) (x4 : Int32) (a3 : Nat) (a1 : Nat) : Option (Int32 × Hp × Ms) :=
  f_L_law_1811 G k23 σ S x4 a3 a1
set_option maxHeartbeats 4000000 in
theorem v_L_law_469 {l : Launch} {G : Gx} (hst : l.stackTraces = false) (hm : gmo G ≠ 0) (hsc : gst G 4 ≠ 0) {σ0 σe : Hp} {Se : Ms} {r : Int32} {k23 : Hp → Ms → Int32 → Nat → Nat → Option (Int32 × Hp × Ms)} (hk23 : ∀ (σ : Hp) (S : Ms) (x4 : Int32) (a3 : Nat) (a1 : Nat), k23 σ S x4 a3 a1 = some (r, σe, Se) → VV_L_law l G σ0 (.inl (some (pI r))) σe Se 23 [(4, pI x4), (3, pR a3), (0, pR (gst G 4)), (1, pR a1), (2, pR (gmo G))] [] σ S) {σ : Hp} {S : Ms} {x4 : Int32} {a3 : Nat} {a1 : Nat} (h : f_L_law_469 G k23 σ S x4 a3 a1 = some (r, σe, Se)) : VV_L_law l G σ0 (.inl (some (pI r))) σe Se 469 [(4, pI x4), (3, pR a3), (0, pR (gst G 4)), (1, pR a1), (2, pR (gmo G))] [] σ S := by
  unfold f_L_law_469 at h
  refine V_goto 1811 dL_law_469 (by decide) ?_
  refine V_sub [0, 1, 2, 3, 4] rfl ?_
  exact v_L_law_1811 hst hm hsc hk23 h
def f_L_law_416 (G : Gx) (k23 : Hp → Ms → Int32 → Nat → Nat → Option (Int32 × Hp × Ms)) (σ : Hp) (S : Ms) (x4 : Int32) (a3 : Nat) (a1 : Nat) : Option (Int32 × Hp × Ms) :=
  bd (scI G (x4 + (1 : Int32))) fun y1 => bp (f_X0_rest σ a1 y1 a3) fun y3 σ4 => bd (scI G (x4 + (1 : Int32))) fun y6 => bp (f_X3_rest S y6) fun y8 S9 => bp (f_X3_thrown S9 ) fun y11 S12 => if y11 = y3 then (if y3 = (0 : Int32) then (bd (elI σ4 103 a3 (0 : Int32)) fun y16 => if (lcm9 (y16.toInt64) (y8.toInt64)) = (0 : Int32) then (f_L_law_469 G k23 σ4 S12 x4 a3 a1) else (bd (okZ (0 : Int32)) fun e19 => some ((0 : Int32), σ4, S12))) else (f_L_law_469 G k23 σ4 S12 x4 a3 a1)) else (bd (okZ (0 : Int32)) fun e21 => some ((0 : Int32), σ4, S12))
set_option maxHeartbeats 4000000 in
theorem v_L_law_416 {l : Launch} {G : Gx} (hst : l.stackTraces = false) (hm : gmo G ≠ 0) (hsc : gst G 4 ≠ 0) {σ0 σe : Hp} {Se : Ms} {r : Int32} {k23 : Hp → Ms → Int32 → Nat → Nat → Option (Int32 × Hp × Ms)} (hk23 : ∀ (σ : Hp) (S : Ms) (x4 : Int32) (a3 : Nat) (a1 : Nat), k23 σ S x4 a3 a1 = some (r, σe, Se) → VV_L_law l G σ0 (.inl (some (pI r))) σe Se 23 [(4, pI x4), (3, pR a3), (0, pR (gst G 4)), (1, pR a1), (2, pR (gmo G))] [] σ S) {σ : Hp} {S : Ms} {x4 : Int32} {a3 : Nat} {a1 : Nat} (h : f_L_law_416 G k23 σ S x4 a3 a1 = some (r, σe, Se)) : VV_L_law l G σ0 (.inl (some (pI r))) σe Se 416 [(4, pI x4), (3, pR a3), (0, pR (gst G 4)), (1, pR a1), (2, pR (gmo G))] [] σ S := by
  unfold f_L_law_416 at h
  refine V_aload_n (i := 1) 3 dL_law_416 rfl rfl ?_
  refine V_aload_n (i := 0) 2 dL_law_417 rfl rfl ?_
  refine V_iload (i := 4) 0 dL_law_418 rfl ?_
  refine V_iconst (v := 1) dL_law_420 (by decide) ?_
  refine V_iadd dL_law_421 ?_
  obtain ⟨y1, e2, h⟩ := bd_s h
  refine V_scI hsc e2 dL_law_422 ?_
  refine V_aload_n (i := 3) 1 dL_law_423 rfl rfl ?_
  obtain ⟨y3, σ4, e5, h⟩ := bp_s h
  refine V_callSH_v (n9 := 3) [] (v_X0_rest l G hst _ e5) rfl rfl (lw_SW q1098 q1099 q75 q1100) (by decide +kernel) (by decide) (Nat.le_of_ble_eq_true rfl) dL_law_424 ?_
  refine V_istore (i := 5) (L' := [(5, pI y3), (4, pI x4), (3, pR a3), (0, pR (gst G 4)), (1, pR a1), (2, pR (gmo G))]) dL_law_427 (by decide) rfl ?_
  refine V_aload_n (i := 2) 5 dL_law_429 rfl rfl ?_
  refine V_aload_n (i := 0) 3 dL_law_430 rfl rfl ?_
  refine V_iload (i := 4) 1 dL_law_431 rfl ?_
  refine V_iconst (v := 1) dL_law_433 (by decide) ?_
  refine V_iadd dL_law_434 ?_
  obtain ⟨y6, e7, h⟩ := bd_s h
  refine V_scI hsc e7 dL_law_435 ?_
  obtain ⟨y8, S9, e10, h⟩ := bp_s h
  refine V_callM_v (n9 := 1) [] hm (v_X3_rest l G hst hm _ e10) rfl rfl (lw_V q2137 q2138 q2139 q90 q2140) (by decide +kernel) (by decide) (Nat.le_of_ble_eq_true rfl) dL_law_436 ?_
  refine V_istore (i := 6) (L' := [(6, pI y8), (5, pI y3), (4, pI x4), (3, pR a3), (0, pR (gst G 4)), (1, pR a1), (2, pR (gmo G))]) dL_law_439 (by decide) rfl ?_
  refine V_aload_n (i := 2) 6 dL_law_441 rfl rfl ?_
  obtain ⟨y11, S12, e13, h⟩ := bp_s h
  refine V_callM_v (n9 := 0) [] hm (v_X3_thrown l G hst hm _ e13) rfl rfl (lw_V q2054 q2055 q2056 q90 q2057) (by decide +kernel) (by decide) (Nat.le_of_ble_eq_true rfl) dL_law_442 ?_
  refine V_iload (i := 5) 1 dL_law_445 rfl ?_
  refine V_icmp_eq 452 dL_law_447 (by decide) (fun c14 => ?_) (fun c14 => ?_)
  · replace h := it_t c14 h
    refine V_iload (i := 5) 1 dL_law_452 rfl ?_
    refine V_if_ne 469 dL_law_454 (by decide) (fun c15 => ?_) (fun c15 => ?_)
    · replace h := it_f c15 h
      refine V_sub [2, 3, 4, 5, 6] rfl ?_
      exact v_L_law_469 hst hm hsc hk23 h
    · replace h := it_t c15 h
      refine V_aload_n (i := 3) 3 dL_law_457 rfl rfl ?_
      refine V_iconst (v := 0) dL_law_458 (by decide) ?_
      obtain ⟨y16, e17, h⟩ := bd_s h
      refine V_elL3 e17 dL_law_459 ?_
      refine V_iload (i := 6) 0 dL_law_460 rfl ?_
      refine V_i2l dL_law_462 ?_
      refine V_lcmp dL_law_463 ?_
      refine V_if_eq 469 dL_law_464 (by decide) (fun c18 => ?_) (fun c18 => ?_)
      · replace h := it_t c18 h
        refine V_sub [2, 3, 4, 5, 6] rfl ?_
        exact v_L_law_469 hst hm hsc hk23 h
      · replace h := it_f c18 h
        refine V_iconst (v := 0) dL_law_467 (by decide) ?_
        obtain ⟨e19, e20, h⟩ := bd_s h
        cases h
        exact V_retZ e20 rfl dL_law_468
  · replace h := it_f c14 h
    refine V_iconst (v := 0) dL_law_450 (by decide) ?_
    obtain ⟨e21, e22, h⟩ := bd_s h
    cases h
    exact V_retZ e22 rfl dL_law_451
def f_L_law_537 (G : Gx) (k23 : Hp → Ms → Int32 → Nat → Nat → Option (Int32 × Hp × Ms)) (σ : Hp) (S : Ms) (x4 : Int32) (a3 : Nat) (a1 : Nat) : Option (Int32 × Hp × Ms) :=
  f_L_law_1811 G k23 σ S x4 a3 a1
set_option maxHeartbeats 4000000 in
theorem v_L_law_537 {l : Launch} {G : Gx} (hst : l.stackTraces = false) (hm : gmo G ≠ 0) (hsc : gst G 4 ≠ 0) {σ0 σe : Hp} {Se : Ms} {r : Int32} {k23 : Hp → Ms → Int32 → Nat → Nat → Option (Int32 × Hp × Ms)} (hk23 : ∀ (σ : Hp) (S : Ms) (x4 : Int32) (a3 : Nat) (a1 : Nat), k23 σ S x4 a3 a1 = some (r, σe, Se) → VV_L_law l G σ0 (.inl (some (pI r))) σe Se 23 [(4, pI x4), (3, pR a3), (0, pR (gst G 4)), (1, pR a1), (2, pR (gmo G))] [] σ S) {σ : Hp} {S : Ms} {x4 : Int32} {a3 : Nat} {a1 : Nat} (h : f_L_law_537 G k23 σ S x4 a3 a1 = some (r, σe, Se)) : VV_L_law l G σ0 (.inl (some (pI r))) σe Se 537 [(4, pI x4), (3, pR a3), (0, pR (gst G 4)), (1, pR a1), (2, pR (gmo G))] [] σ S := by
  unfold f_L_law_537 at h
  refine V_goto 1811 dL_law_537 (by decide) ?_
  refine V_sub [0, 1, 2, 3, 4] rfl ?_
  exact v_L_law_1811 hst hm hsc hk23 h
def f_L_law_472 (G : Gx) (k23 : Hp → Ms → Int32 → Nat → Nat → Option (Int32 × Hp × Ms)) (σ : Hp) (S : Ms) (x4 : Int32) (a3 : Nat) (a1 : Nat) : Option (Int32 × Hp × Ms) :=
  bd (scI G (x4 + (1 : Int32))) fun y1 => bd (scI G (x4 + (2 : Int32))) fun y3 => bp (f_X0_set σ a1 y1 y3 a3) fun y5 σ6 => bd (scI G (x4 + (1 : Int32))) fun y8 => bd (scI G (x4 + (2 : Int32))) fun y10 => bp (f_X3_set S y8 y10) fun y12 S13 => bp (f_X3_thrown S13 ) fun y15 S16 => if y15 = y5 then (if y5 = (0 : Int32) then (bd (elI σ6 103 a3 (0 : Int32)) fun y20 => if (lcm9 (y20.toInt64) (y12.toInt64)) = (0 : Int32) then (f_L_law_537 G k23 σ6 S16 x4 a3 a1) else (bd (okZ (0 : Int32)) fun e23 => some ((0 : Int32), σ6, S16))) else (f_L_law_537 G k23 σ6 S16 x4 a3 a1)) else (bd (okZ (0 : Int32)) fun e25 => some ((0 : Int32), σ6, S16))
set_option maxHeartbeats 4000000 in
theorem v_L_law_472 {l : Launch} {G : Gx} (hst : l.stackTraces = false) (hm : gmo G ≠ 0) (hsc : gst G 4 ≠ 0) {σ0 σe : Hp} {Se : Ms} {r : Int32} {k23 : Hp → Ms → Int32 → Nat → Nat → Option (Int32 × Hp × Ms)} (hk23 : ∀ (σ : Hp) (S : Ms) (x4 : Int32) (a3 : Nat) (a1 : Nat), k23 σ S x4 a3 a1 = some (r, σe, Se) → VV_L_law l G σ0 (.inl (some (pI r))) σe Se 23 [(4, pI x4), (3, pR a3), (0, pR (gst G 4)), (1, pR a1), (2, pR (gmo G))] [] σ S) {σ : Hp} {S : Ms} {x4 : Int32} {a3 : Nat} {a1 : Nat} (h : f_L_law_472 G k23 σ S x4 a3 a1 = some (r, σe, Se)) : VV_L_law l G σ0 (.inl (some (pI r))) σe Se 472 [(4, pI x4), (3, pR a3), (0, pR (gst G 4)), (1, pR a1), (2, pR (gmo G))] [] σ S := by
  unfold f_L_law_472 at h
  refine V_aload_n (i := 1) 3 dL_law_472 rfl rfl ?_
  refine V_aload_n (i := 0) 2 dL_law_473 rfl rfl ?_
  refine V_iload (i := 4) 0 dL_law_474 rfl ?_
  refine V_iconst (v := 1) dL_law_476 (by decide) ?_
  refine V_iadd dL_law_477 ?_
  obtain ⟨y1, e2, h⟩ := bd_s h
  refine V_scI hsc e2 dL_law_478 ?_
  refine V_aload_n (i := 0) 2 dL_law_479 rfl rfl ?_
  refine V_iload (i := 4) 0 dL_law_480 rfl ?_
  refine V_iconst (v := 2) dL_law_482 (by decide) ?_
  refine V_iadd dL_law_483 ?_
  obtain ⟨y3, e4, h⟩ := bd_s h
  refine V_scI hsc e4 dL_law_484 ?_
  refine V_aload_n (i := 3) 1 dL_law_485 rfl rfl ?_
  obtain ⟨y5, σ6, e7, h⟩ := bp_s h
  refine V_callSH_v (n9 := 4) [] (v_X0_set l G hst _ e7) rfl rfl (lw_SW q1117 q1118 q75 q1119) (by decide +kernel) (by decide) (Nat.le_of_ble_eq_true rfl) dL_law_486 ?_
  refine V_istore (i := 5) (L' := [(5, pI y5), (4, pI x4), (3, pR a3), (0, pR (gst G 4)), (1, pR a1), (2, pR (gmo G))]) dL_law_489 (by decide) rfl ?_
  refine V_aload_n (i := 2) 5 dL_law_491 rfl rfl ?_
  refine V_aload_n (i := 0) 3 dL_law_492 rfl rfl ?_
  refine V_iload (i := 4) 1 dL_law_493 rfl ?_
  refine V_iconst (v := 1) dL_law_495 (by decide) ?_
  refine V_iadd dL_law_496 ?_
  obtain ⟨y8, e9, h⟩ := bd_s h
  refine V_scI hsc e9 dL_law_497 ?_
  refine V_aload_n (i := 0) 3 dL_law_498 rfl rfl ?_
  refine V_iload (i := 4) 1 dL_law_499 rfl ?_
  refine V_iconst (v := 2) dL_law_501 (by decide) ?_
  refine V_iadd dL_law_502 ?_
  obtain ⟨y10, e11, h⟩ := bd_s h
  refine V_scI hsc e11 dL_law_503 ?_
  obtain ⟨y12, S13, e14, h⟩ := bp_s h
  refine V_callM_v (n9 := 2) [] hm (v_X3_set l G hst hm _ e14) rfl rfl (lw_V q2148 q2149 q2150 q90 q2151) (by decide +kernel) (by decide) (Nat.le_of_ble_eq_true rfl) dL_law_504 ?_
  refine V_istore (i := 6) (L' := [(6, pI y12), (5, pI y5), (4, pI x4), (3, pR a3), (0, pR (gst G 4)), (1, pR a1), (2, pR (gmo G))]) dL_law_507 (by decide) rfl ?_
  refine V_aload_n (i := 2) 6 dL_law_509 rfl rfl ?_
  obtain ⟨y15, S16, e17, h⟩ := bp_s h
  refine V_callM_v (n9 := 0) [] hm (v_X3_thrown l G hst hm _ e17) rfl rfl (lw_V q2054 q2055 q2056 q90 q2057) (by decide +kernel) (by decide) (Nat.le_of_ble_eq_true rfl) dL_law_510 ?_
  refine V_iload (i := 5) 1 dL_law_513 rfl ?_
  refine V_icmp_eq 520 dL_law_515 (by decide) (fun c18 => ?_) (fun c18 => ?_)
  · replace h := it_t c18 h
    refine V_iload (i := 5) 1 dL_law_520 rfl ?_
    refine V_if_ne 537 dL_law_522 (by decide) (fun c19 => ?_) (fun c19 => ?_)
    · replace h := it_f c19 h
      refine V_sub [2, 3, 4, 5, 6] rfl ?_
      exact v_L_law_537 hst hm hsc hk23 h
    · replace h := it_t c19 h
      refine V_aload_n (i := 3) 3 dL_law_525 rfl rfl ?_
      refine V_iconst (v := 0) dL_law_526 (by decide) ?_
      obtain ⟨y20, e21, h⟩ := bd_s h
      refine V_elL3 e21 dL_law_527 ?_
      refine V_iload (i := 6) 0 dL_law_528 rfl ?_
      refine V_i2l dL_law_530 ?_
      refine V_lcmp dL_law_531 ?_
      refine V_if_eq 537 dL_law_532 (by decide) (fun c22 => ?_) (fun c22 => ?_)
      · replace h := it_t c22 h
        refine V_sub [2, 3, 4, 5, 6] rfl ?_
        exact v_L_law_537 hst hm hsc hk23 h
      · replace h := it_f c22 h
        refine V_iconst (v := 0) dL_law_535 (by decide) ?_
        obtain ⟨e23, e24, h⟩ := bd_s h
        cases h
        exact V_retZ e24 rfl dL_law_536
  · replace h := it_f c18 h
    refine V_iconst (v := 0) dL_law_518 (by decide) ?_
    obtain ⟨e25, e26, h⟩ := bd_s h
    cases h
    exact V_retZ e26 rfl dL_law_519
def f_L_law_605 (G : Gx) (k23 : Hp → Ms → Int32 → Nat → Nat → Option (Int32 × Hp × Ms)) (σ : Hp) (S : Ms) (x4 : Int32) (a3 : Nat) (a1 : Nat) : Option (Int32 × Hp × Ms) :=
  f_L_law_1811 G k23 σ S x4 a3 a1
set_option maxHeartbeats 4000000 in
theorem v_L_law_605 {l : Launch} {G : Gx} (hst : l.stackTraces = false) (hm : gmo G ≠ 0) (hsc : gst G 4 ≠ 0) {σ0 σe : Hp} {Se : Ms} {r : Int32} {k23 : Hp → Ms → Int32 → Nat → Nat → Option (Int32 × Hp × Ms)} (hk23 : ∀ (σ : Hp) (S : Ms) (x4 : Int32) (a3 : Nat) (a1 : Nat), k23 σ S x4 a3 a1 = some (r, σe, Se) → VV_L_law l G σ0 (.inl (some (pI r))) σe Se 23 [(4, pI x4), (3, pR a3), (0, pR (gst G 4)), (1, pR a1), (2, pR (gmo G))] [] σ S) {σ : Hp} {S : Ms} {x4 : Int32} {a3 : Nat} {a1 : Nat} (h : f_L_law_605 G k23 σ S x4 a3 a1 = some (r, σe, Se)) : VV_L_law l G σ0 (.inl (some (pI r))) σe Se 605 [(4, pI x4), (3, pR a3), (0, pR (gst G 4)), (1, pR a1), (2, pR (gmo G))] [] σ S := by
  unfold f_L_law_605 at h
  refine V_goto 1811 dL_law_605 (by decide) ?_
  refine V_sub [0, 1, 2, 3, 4] rfl ?_
  exact v_L_law_1811 hst hm hsc hk23 h
def f_L_law_540 (G : Gx) (k23 : Hp → Ms → Int32 → Nat → Nat → Option (Int32 × Hp × Ms)) (σ : Hp) (S : Ms) (x4 : Int32) (a3 : Nat) (a1 : Nat) : Option (Int32 × Hp × Ms) :=
  bd (scI G (x4 + (1 : Int32))) fun y1 => bd (scI G (x4 + (2 : Int32))) fun y3 => bp (f_X0_wring σ a1 y1 y3 a3) fun y5 σ6 => bd (scI G (x4 + (1 : Int32))) fun y8 => bd (scI G (x4 + (2 : Int32))) fun y10 => bp (f_X3_wring S y8 y10) fun y12 S13 => bp (f_X3_thrown S13 ) fun y15 S16 => if y15 = y5 then (if y5 = (0 : Int32) then (bd (elI σ6 103 a3 (0 : Int32)) fun y20 => if (lcm9 (y20.toInt64) (y12.toInt64)) = (0 : Int32) then (f_L_law_605 G k23 σ6 S16 x4 a3 a1) else (bd (okZ (0 : Int32)) fun e23 => some ((0 : Int32), σ6, S16))) else (f_L_law_605 G k23 σ6 S16 x4 a3 a1)) else (bd (okZ (0 : Int32)) fun e25 => some ((0 : Int32), σ6, S16))
set_option maxHeartbeats 4000000 in
theorem v_L_law_540 {l : Launch} {G : Gx} (hst : l.stackTraces = false) (hm : gmo G ≠ 0) (hsc : gst G 4 ≠ 0) {σ0 σe : Hp} {Se : Ms} {r : Int32} {k23 : Hp → Ms → Int32 → Nat → Nat → Option (Int32 × Hp × Ms)} (hk23 : ∀ (σ : Hp) (S : Ms) (x4 : Int32) (a3 : Nat) (a1 : Nat), k23 σ S x4 a3 a1 = some (r, σe, Se) → VV_L_law l G σ0 (.inl (some (pI r))) σe Se 23 [(4, pI x4), (3, pR a3), (0, pR (gst G 4)), (1, pR a1), (2, pR (gmo G))] [] σ S) {σ : Hp} {S : Ms} {x4 : Int32} {a3 : Nat} {a1 : Nat} (h : f_L_law_540 G k23 σ S x4 a3 a1 = some (r, σe, Se)) : VV_L_law l G σ0 (.inl (some (pI r))) σe Se 540 [(4, pI x4), (3, pR a3), (0, pR (gst G 4)), (1, pR a1), (2, pR (gmo G))] [] σ S := by
  unfold f_L_law_540 at h
  refine V_aload_n (i := 1) 3 dL_law_540 rfl rfl ?_
  refine V_aload_n (i := 0) 2 dL_law_541 rfl rfl ?_
  refine V_iload (i := 4) 0 dL_law_542 rfl ?_
  refine V_iconst (v := 1) dL_law_544 (by decide) ?_
  refine V_iadd dL_law_545 ?_
  obtain ⟨y1, e2, h⟩ := bd_s h
  refine V_scI hsc e2 dL_law_546 ?_
  refine V_aload_n (i := 0) 2 dL_law_547 rfl rfl ?_
  refine V_iload (i := 4) 0 dL_law_548 rfl ?_
  refine V_iconst (v := 2) dL_law_550 (by decide) ?_
  refine V_iadd dL_law_551 ?_
  obtain ⟨y3, e4, h⟩ := bd_s h
  refine V_scI hsc e4 dL_law_552 ?_
  refine V_aload_n (i := 3) 1 dL_law_553 rfl rfl ?_
  obtain ⟨y5, σ6, e7, h⟩ := bp_s h
  refine V_callSH_v (n9 := 4) [] (v_X0_wring l G hst _ e7) rfl rfl (lw_SW q1124 q1125 q75 q1126) (by decide +kernel) (by decide) (Nat.le_of_ble_eq_true rfl) dL_law_554 ?_
  refine V_istore (i := 5) (L' := [(5, pI y5), (4, pI x4), (3, pR a3), (0, pR (gst G 4)), (1, pR a1), (2, pR (gmo G))]) dL_law_557 (by decide) rfl ?_
  refine V_aload_n (i := 2) 5 dL_law_559 rfl rfl ?_
  refine V_aload_n (i := 0) 3 dL_law_560 rfl rfl ?_
  refine V_iload (i := 4) 1 dL_law_561 rfl ?_
  refine V_iconst (v := 1) dL_law_563 (by decide) ?_
  refine V_iadd dL_law_564 ?_
  obtain ⟨y8, e9, h⟩ := bd_s h
  refine V_scI hsc e9 dL_law_565 ?_
  refine V_aload_n (i := 0) 3 dL_law_566 rfl rfl ?_
  refine V_iload (i := 4) 1 dL_law_567 rfl ?_
  refine V_iconst (v := 2) dL_law_569 (by decide) ?_
  refine V_iadd dL_law_570 ?_
  obtain ⟨y10, e11, h⟩ := bd_s h
  refine V_scI hsc e11 dL_law_571 ?_
  obtain ⟨y12, S13, e14, h⟩ := bp_s h
  refine V_callM_v (n9 := 2) [] hm (v_X3_wring l G hst hm _ e14) rfl rfl (lw_V q2155 q2156 q2157 q90 q2158) (by decide +kernel) (by decide) (Nat.le_of_ble_eq_true rfl) dL_law_572 ?_
  refine V_istore (i := 6) (L' := [(6, pI y12), (5, pI y5), (4, pI x4), (3, pR a3), (0, pR (gst G 4)), (1, pR a1), (2, pR (gmo G))]) dL_law_575 (by decide) rfl ?_
  refine V_aload_n (i := 2) 6 dL_law_577 rfl rfl ?_
  obtain ⟨y15, S16, e17, h⟩ := bp_s h
  refine V_callM_v (n9 := 0) [] hm (v_X3_thrown l G hst hm _ e17) rfl rfl (lw_V q2054 q2055 q2056 q90 q2057) (by decide +kernel) (by decide) (Nat.le_of_ble_eq_true rfl) dL_law_578 ?_
  refine V_iload (i := 5) 1 dL_law_581 rfl ?_
  refine V_icmp_eq 588 dL_law_583 (by decide) (fun c18 => ?_) (fun c18 => ?_)
  · replace h := it_t c18 h
    refine V_iload (i := 5) 1 dL_law_588 rfl ?_
    refine V_if_ne 605 dL_law_590 (by decide) (fun c19 => ?_) (fun c19 => ?_)
    · replace h := it_f c19 h
      refine V_sub [2, 3, 4, 5, 6] rfl ?_
      exact v_L_law_605 hst hm hsc hk23 h
    · replace h := it_t c19 h
      refine V_aload_n (i := 3) 3 dL_law_593 rfl rfl ?_
      refine V_iconst (v := 0) dL_law_594 (by decide) ?_
      obtain ⟨y20, e21, h⟩ := bd_s h
      refine V_elL3 e21 dL_law_595 ?_
      refine V_iload (i := 6) 0 dL_law_596 rfl ?_
      refine V_i2l dL_law_598 ?_
      refine V_lcmp dL_law_599 ?_
      refine V_if_eq 605 dL_law_600 (by decide) (fun c22 => ?_) (fun c22 => ?_)
      · replace h := it_t c22 h
        refine V_sub [2, 3, 4, 5, 6] rfl ?_
        exact v_L_law_605 hst hm hsc hk23 h
      · replace h := it_f c22 h
        refine V_iconst (v := 0) dL_law_603 (by decide) ?_
        obtain ⟨e23, e24, h⟩ := bd_s h
        cases h
        exact V_retZ e24 rfl dL_law_604
  · replace h := it_f c18 h
    refine V_iconst (v := 0) dL_law_586 (by decide) ?_
    obtain ⟨e25, e26, h⟩ := bd_s h
    cases h
    exact V_retZ e26 rfl dL_law_587
def f_L_law_661 (G : Gx) (k23 : Hp → Ms → Int32 → Nat → Nat → Option (Int32 × Hp × Ms)) (σ : Hp) (S : Ms) (x4 : Int32) (a3 : Nat) (a1 : Nat) : Option (Int32 × Hp × Ms) :=
  f_L_law_1811 G k23 σ S x4 a3 a1
set_option maxHeartbeats 4000000 in
theorem v_L_law_661 {l : Launch} {G : Gx} (hst : l.stackTraces = false) (hm : gmo G ≠ 0) (hsc : gst G 4 ≠ 0) {σ0 σe : Hp} {Se : Ms} {r : Int32} {k23 : Hp → Ms → Int32 → Nat → Nat → Option (Int32 × Hp × Ms)} (hk23 : ∀ (σ : Hp) (S : Ms) (x4 : Int32) (a3 : Nat) (a1 : Nat), k23 σ S x4 a3 a1 = some (r, σe, Se) → VV_L_law l G σ0 (.inl (some (pI r))) σe Se 23 [(4, pI x4), (3, pR a3), (0, pR (gst G 4)), (1, pR a1), (2, pR (gmo G))] [] σ S) {σ : Hp} {S : Ms} {x4 : Int32} {a3 : Nat} {a1 : Nat} (h : f_L_law_661 G k23 σ S x4 a3 a1 = some (r, σe, Se)) : VV_L_law l G σ0 (.inl (some (pI r))) σe Se 661 [(4, pI x4), (3, pR a3), (0, pR (gst G 4)), (1, pR a1), (2, pR (gmo G))] [] σ S := by
  unfold f_L_law_661 at h
  refine V_goto 1811 dL_law_661 (by decide) ?_
  refine V_sub [0, 1, 2, 3, 4] rfl ?_
  exact v_L_law_1811 hst hm hsc hk23 h
def f_L_law_608 (G : Gx) (k23 : Hp → Ms → Int32 → Nat → Nat → Option (Int32 × Hp × Ms)) (σ : Hp) (S : Ms) (x4 : Int32) (a3 : Nat) (a1 : Nat) : Option (Int32 × Hp × Ms) :=
  bd (scI G (x4 + (1 : Int32))) fun y1 => bp (f_X0_takeOff σ a1 y1 a3) fun y3 σ4 => bd (scI G (x4 + (1 : Int32))) fun y6 => bp (f_X3_takeOff S y6) fun y8 S9 => bp (f_X3_thrown S9 ) fun y11 S12 => if y11 = y3 then (if y3 = (0 : Int32) then (bd (elI σ4 103 a3 (0 : Int32)) fun y16 => if (lcm9 (y16.toInt64) (y8.toInt64)) = (0 : Int32) then (f_L_law_661 G k23 σ4 S12 x4 a3 a1) else (bd (okZ (0 : Int32)) fun e19 => some ((0 : Int32), σ4, S12))) else (f_L_law_661 G k23 σ4 S12 x4 a3 a1)) else (bd (okZ (0 : Int32)) fun e21 => some ((0 : Int32), σ4, S12))
set_option maxHeartbeats 4000000 in
theorem v_L_law_608 {l : Launch} {G : Gx} (hst : l.stackTraces = false) (hm : gmo G ≠ 0) (hsc : gst G 4 ≠ 0) {σ0 σe : Hp} {Se : Ms} {r : Int32} {k23 : Hp → Ms → Int32 → Nat → Nat → Option (Int32 × Hp × Ms)} (hk23 : ∀ (σ : Hp) (S : Ms) (x4 : Int32) (a3 : Nat) (a1 : Nat), k23 σ S x4 a3 a1 = some (r, σe, Se) → VV_L_law l G σ0 (.inl (some (pI r))) σe Se 23 [(4, pI x4), (3, pR a3), (0, pR (gst G 4)), (1, pR a1), (2, pR (gmo G))] [] σ S) {σ : Hp} {S : Ms} {x4 : Int32} {a3 : Nat} {a1 : Nat} (h : f_L_law_608 G k23 σ S x4 a3 a1 = some (r, σe, Se)) : VV_L_law l G σ0 (.inl (some (pI r))) σe Se 608 [(4, pI x4), (3, pR a3), (0, pR (gst G 4)), (1, pR a1), (2, pR (gmo G))] [] σ S := by
  unfold f_L_law_608 at h
  refine V_aload_n (i := 1) 3 dL_law_608 rfl rfl ?_
  refine V_aload_n (i := 0) 2 dL_law_609 rfl rfl ?_
  refine V_iload (i := 4) 0 dL_law_610 rfl ?_
  refine V_iconst (v := 1) dL_law_612 (by decide) ?_
  refine V_iadd dL_law_613 ?_
  obtain ⟨y1, e2, h⟩ := bd_s h
  refine V_scI hsc e2 dL_law_614 ?_
  refine V_aload_n (i := 3) 1 dL_law_615 rfl rfl ?_
  obtain ⟨y3, σ4, e5, h⟩ := bp_s h
  refine V_callSH_v (n9 := 3) [] (v_X0_takeOff l G hst _ e5) rfl rfl (lw_SW q1154 q1155 q75 q1156) (by decide +kernel) (by decide) (Nat.le_of_ble_eq_true rfl) dL_law_616 ?_
  refine V_istore (i := 5) (L' := [(5, pI y3), (4, pI x4), (3, pR a3), (0, pR (gst G 4)), (1, pR a1), (2, pR (gmo G))]) dL_law_619 (by decide) rfl ?_
  refine V_aload_n (i := 2) 5 dL_law_621 rfl rfl ?_
  refine V_aload_n (i := 0) 3 dL_law_622 rfl rfl ?_
  refine V_iload (i := 4) 1 dL_law_623 rfl ?_
  refine V_iconst (v := 1) dL_law_625 (by decide) ?_
  refine V_iadd dL_law_626 ?_
  obtain ⟨y6, e7, h⟩ := bd_s h
  refine V_scI hsc e7 dL_law_627 ?_
  obtain ⟨y8, S9, e10, h⟩ := bp_s h
  refine V_callM_v (n9 := 1) [] hm (v_X3_takeOff l G hst hm _ e10) rfl rfl (lw_V q2182 q2183 q2184 q90 q2185) (by decide +kernel) (by decide) (Nat.le_of_ble_eq_true rfl) dL_law_628 ?_
  refine V_istore (i := 6) (L' := [(6, pI y8), (5, pI y3), (4, pI x4), (3, pR a3), (0, pR (gst G 4)), (1, pR a1), (2, pR (gmo G))]) dL_law_631 (by decide) rfl ?_
  refine V_aload_n (i := 2) 6 dL_law_633 rfl rfl ?_
  obtain ⟨y11, S12, e13, h⟩ := bp_s h
  refine V_callM_v (n9 := 0) [] hm (v_X3_thrown l G hst hm _ e13) rfl rfl (lw_V q2054 q2055 q2056 q90 q2057) (by decide +kernel) (by decide) (Nat.le_of_ble_eq_true rfl) dL_law_634 ?_
  refine V_iload (i := 5) 1 dL_law_637 rfl ?_
  refine V_icmp_eq 644 dL_law_639 (by decide) (fun c14 => ?_) (fun c14 => ?_)
  · replace h := it_t c14 h
    refine V_iload (i := 5) 1 dL_law_644 rfl ?_
    refine V_if_ne 661 dL_law_646 (by decide) (fun c15 => ?_) (fun c15 => ?_)
    · replace h := it_f c15 h
      refine V_sub [2, 3, 4, 5, 6] rfl ?_
      exact v_L_law_661 hst hm hsc hk23 h
    · replace h := it_t c15 h
      refine V_aload_n (i := 3) 3 dL_law_649 rfl rfl ?_
      refine V_iconst (v := 0) dL_law_650 (by decide) ?_
      obtain ⟨y16, e17, h⟩ := bd_s h
      refine V_elL3 e17 dL_law_651 ?_
      refine V_iload (i := 6) 0 dL_law_652 rfl ?_
      refine V_i2l dL_law_654 ?_
      refine V_lcmp dL_law_655 ?_
      refine V_if_eq 661 dL_law_656 (by decide) (fun c18 => ?_) (fun c18 => ?_)
      · replace h := it_t c18 h
        refine V_sub [2, 3, 4, 5, 6] rfl ?_
        exact v_L_law_661 hst hm hsc hk23 h
      · replace h := it_f c18 h
        refine V_iconst (v := 0) dL_law_659 (by decide) ?_
        obtain ⟨e19, e20, h⟩ := bd_s h
        cases h
        exact V_retZ e20 rfl dL_law_660
  · replace h := it_f c14 h
    refine V_iconst (v := 0) dL_law_642 (by decide) ?_
    obtain ⟨e21, e22, h⟩ := bd_s h
    cases h
    exact V_retZ e22 rfl dL_law_643
def f_L_law_729 (G : Gx) (k23 : Hp → Ms → Int32 → Nat → Nat → Option (Int32 × Hp × Ms)) (σ : Hp) (S : Ms) (x4 : Int32) (a3 : Nat) (a1 : Nat) : Option (Int32 × Hp × Ms) :=
  f_L_law_1811 G k23 σ S x4 a3 a1
set_option maxHeartbeats 4000000 in
theorem v_L_law_729 {l : Launch} {G : Gx} (hst : l.stackTraces = false) (hm : gmo G ≠ 0) (hsc : gst G 4 ≠ 0) {σ0 σe : Hp} {Se : Ms} {r : Int32} {k23 : Hp → Ms → Int32 → Nat → Nat → Option (Int32 × Hp × Ms)} (hk23 : ∀ (σ : Hp) (S : Ms) (x4 : Int32) (a3 : Nat) (a1 : Nat), k23 σ S x4 a3 a1 = some (r, σe, Se) → VV_L_law l G σ0 (.inl (some (pI r))) σe Se 23 [(4, pI x4), (3, pR a3), (0, pR (gst G 4)), (1, pR a1), (2, pR (gmo G))] [] σ S) {σ : Hp} {S : Ms} {x4 : Int32} {a3 : Nat} {a1 : Nat} (h : f_L_law_729 G k23 σ S x4 a3 a1 = some (r, σe, Se)) : VV_L_law l G σ0 (.inl (some (pI r))) σe Se 729 [(4, pI x4), (3, pR a3), (0, pR (gst G 4)), (1, pR a1), (2, pR (gmo G))] [] σ S := by
  unfold f_L_law_729 at h
  refine V_goto 1811 dL_law_729 (by decide) ?_
  refine V_sub [0, 1, 2, 3, 4] rfl ?_
  exact v_L_law_1811 hst hm hsc hk23 h
def f_L_law_664 (G : Gx) (k23 : Hp → Ms → Int32 → Nat → Nat → Option (Int32 × Hp × Ms)) (σ : Hp) (S : Ms) (x4 : Int32) (a3 : Nat) (a1 : Nat) : Option (Int32 × Hp × Ms) :=
  bd (scI G (x4 + (1 : Int32))) fun y1 => bd (scI G (x4 + (2 : Int32))) fun y3 => bp (f_X0_make σ a1 y1 y3 a3) fun y5 σ6 => bd (scI G (x4 + (1 : Int32))) fun y8 => bd (scI G (x4 + (2 : Int32))) fun y10 => bp (f_X3_make S y8 y10) fun y12 S13 => bp (f_X3_thrown S13 ) fun y15 S16 => if y15 = y5 then (if y5 = (0 : Int32) then (bd (elI σ6 103 a3 (0 : Int32)) fun y20 => if (lcm9 (y20.toInt64) (y12.toInt64)) = (0 : Int32) then (f_L_law_729 G k23 σ6 S16 x4 a3 a1) else (bd (okZ (0 : Int32)) fun e23 => some ((0 : Int32), σ6, S16))) else (f_L_law_729 G k23 σ6 S16 x4 a3 a1)) else (bd (okZ (0 : Int32)) fun e25 => some ((0 : Int32), σ6, S16))
set_option maxHeartbeats 4000000 in
theorem v_L_law_664 {l : Launch} {G : Gx} (hst : l.stackTraces = false) (hm : gmo G ≠ 0) (hsc : gst G 4 ≠ 0) {σ0 σe : Hp} {Se : Ms} {r : Int32} {k23 : Hp → Ms → Int32 → Nat → Nat → Option (Int32 × Hp × Ms)} (hk23 : ∀ (σ : Hp) (S : Ms) (x4 : Int32) (a3 : Nat) (a1 : Nat), k23 σ S x4 a3 a1 = some (r, σe, Se) → VV_L_law l G σ0 (.inl (some (pI r))) σe Se 23 [(4, pI x4), (3, pR a3), (0, pR (gst G 4)), (1, pR a1), (2, pR (gmo G))] [] σ S) {σ : Hp} {S : Ms} {x4 : Int32} {a3 : Nat} {a1 : Nat} (h : f_L_law_664 G k23 σ S x4 a3 a1 = some (r, σe, Se)) : VV_L_law l G σ0 (.inl (some (pI r))) σe Se 664 [(4, pI x4), (3, pR a3), (0, pR (gst G 4)), (1, pR a1), (2, pR (gmo G))] [] σ S := by
  unfold f_L_law_664 at h
  refine V_aload_n (i := 1) 3 dL_law_664 rfl rfl ?_
  refine V_aload_n (i := 0) 2 dL_law_665 rfl rfl ?_
  refine V_iload (i := 4) 0 dL_law_666 rfl ?_
  refine V_iconst (v := 1) dL_law_668 (by decide) ?_
  refine V_iadd dL_law_669 ?_
  obtain ⟨y1, e2, h⟩ := bd_s h
  refine V_scI hsc e2 dL_law_670 ?_
  refine V_aload_n (i := 0) 2 dL_law_671 rfl rfl ?_
  refine V_iload (i := 4) 0 dL_law_672 rfl ?_
  refine V_iconst (v := 2) dL_law_674 (by decide) ?_
  refine V_iadd dL_law_675 ?_
  obtain ⟨y3, e4, h⟩ := bd_s h
  refine V_scI hsc e4 dL_law_676 ?_
  refine V_aload_n (i := 3) 1 dL_law_677 rfl rfl ?_
  obtain ⟨y5, σ6, e7, h⟩ := bp_s h
  refine V_callSH_v (n9 := 4) [] (v_X0_make l G hst _ e7) rfl rfl (lw_SW q1167 q1168 q75 q1169) (by decide +kernel) (by decide) (Nat.le_of_ble_eq_true rfl) dL_law_678 ?_
  refine V_istore (i := 5) (L' := [(5, pI y5), (4, pI x4), (3, pR a3), (0, pR (gst G 4)), (1, pR a1), (2, pR (gmo G))]) dL_law_681 (by decide) rfl ?_
  refine V_aload_n (i := 2) 5 dL_law_683 rfl rfl ?_
  refine V_aload_n (i := 0) 3 dL_law_684 rfl rfl ?_
  refine V_iload (i := 4) 1 dL_law_685 rfl ?_
  refine V_iconst (v := 1) dL_law_687 (by decide) ?_
  refine V_iadd dL_law_688 ?_
  obtain ⟨y8, e9, h⟩ := bd_s h
  refine V_scI hsc e9 dL_law_689 ?_
  refine V_aload_n (i := 0) 3 dL_law_690 rfl rfl ?_
  refine V_iload (i := 4) 1 dL_law_691 rfl ?_
  refine V_iconst (v := 2) dL_law_693 (by decide) ?_
  refine V_iadd dL_law_694 ?_
  obtain ⟨y10, e11, h⟩ := bd_s h
  refine V_scI hsc e11 dL_law_695 ?_
  obtain ⟨y12, S13, e14, h⟩ := bp_s h
  refine V_callM_v (n9 := 2) [] hm (v_X3_make l G hst hm _ e14) rfl rfl (lw_V q2190 q2191 q2192 q90 q2193) (by decide +kernel) (by decide) (Nat.le_of_ble_eq_true rfl) dL_law_696 ?_
  refine V_istore (i := 6) (L' := [(6, pI y12), (5, pI y5), (4, pI x4), (3, pR a3), (0, pR (gst G 4)), (1, pR a1), (2, pR (gmo G))]) dL_law_699 (by decide) rfl ?_
  refine V_aload_n (i := 2) 6 dL_law_701 rfl rfl ?_
  obtain ⟨y15, S16, e17, h⟩ := bp_s h
  refine V_callM_v (n9 := 0) [] hm (v_X3_thrown l G hst hm _ e17) rfl rfl (lw_V q2054 q2055 q2056 q90 q2057) (by decide +kernel) (by decide) (Nat.le_of_ble_eq_true rfl) dL_law_702 ?_
  refine V_iload (i := 5) 1 dL_law_705 rfl ?_
  refine V_icmp_eq 712 dL_law_707 (by decide) (fun c18 => ?_) (fun c18 => ?_)
  · replace h := it_t c18 h
    refine V_iload (i := 5) 1 dL_law_712 rfl ?_
    refine V_if_ne 729 dL_law_714 (by decide) (fun c19 => ?_) (fun c19 => ?_)
    · replace h := it_f c19 h
      refine V_sub [2, 3, 4, 5, 6] rfl ?_
      exact v_L_law_729 hst hm hsc hk23 h
    · replace h := it_t c19 h
      refine V_aload_n (i := 3) 3 dL_law_717 rfl rfl ?_
      refine V_iconst (v := 0) dL_law_718 (by decide) ?_
      obtain ⟨y20, e21, h⟩ := bd_s h
      refine V_elL3 e21 dL_law_719 ?_
      refine V_iload (i := 6) 0 dL_law_720 rfl ?_
      refine V_i2l dL_law_722 ?_
      refine V_lcmp dL_law_723 ?_
      refine V_if_eq 729 dL_law_724 (by decide) (fun c22 => ?_) (fun c22 => ?_)
      · replace h := it_t c22 h
        refine V_sub [2, 3, 4, 5, 6] rfl ?_
        exact v_L_law_729 hst hm hsc hk23 h
      · replace h := it_f c22 h
        refine V_iconst (v := 0) dL_law_727 (by decide) ?_
        obtain ⟨e23, e24, h⟩ := bd_s h
        cases h
        exact V_retZ e24 rfl dL_law_728
  · replace h := it_f c18 h
    refine V_iconst (v := 0) dL_law_710 (by decide) ?_
    obtain ⟨e25, e26, h⟩ := bd_s h
    cases h
    exact V_retZ e26 rfl dL_law_711
def f_L_law_785 (G : Gx) (k23 : Hp → Ms → Int32 → Nat → Nat → Option (Int32 × Hp × Ms)) (σ : Hp) (S : Ms) (x4 : Int32) (a3 : Nat) (a1 : Nat) : Option (Int32 × Hp × Ms) :=
  f_L_law_1811 G k23 σ S x4 a3 a1
set_option maxHeartbeats 4000000 in
theorem v_L_law_785 {l : Launch} {G : Gx} (hst : l.stackTraces = false) (hm : gmo G ≠ 0) (hsc : gst G 4 ≠ 0) {σ0 σe : Hp} {Se : Ms} {r : Int32} {k23 : Hp → Ms → Int32 → Nat → Nat → Option (Int32 × Hp × Ms)} (hk23 : ∀ (σ : Hp) (S : Ms) (x4 : Int32) (a3 : Nat) (a1 : Nat), k23 σ S x4 a3 a1 = some (r, σe, Se) → VV_L_law l G σ0 (.inl (some (pI r))) σe Se 23 [(4, pI x4), (3, pR a3), (0, pR (gst G 4)), (1, pR a1), (2, pR (gmo G))] [] σ S) {σ : Hp} {S : Ms} {x4 : Int32} {a3 : Nat} {a1 : Nat} (h : f_L_law_785 G k23 σ S x4 a3 a1 = some (r, σe, Se)) : VV_L_law l G σ0 (.inl (some (pI r))) σe Se 785 [(4, pI x4), (3, pR a3), (0, pR (gst G 4)), (1, pR a1), (2, pR (gmo G))] [] σ S := by
  unfold f_L_law_785 at h
  refine V_goto 1811 dL_law_785 (by decide) ?_
  refine V_sub [0, 1, 2, 3, 4] rfl ?_
  exact v_L_law_1811 hst hm hsc hk23 h
def f_L_law_732 (G : Gx) (k23 : Hp → Ms → Int32 → Nat → Nat → Option (Int32 × Hp × Ms)) (σ : Hp) (S : Ms) (x4 : Int32) (a3 : Nat) (a1 : Nat) : Option (Int32 × Hp × Ms) :=
  bd (scI G (x4 + (1 : Int32))) fun y1 => bp (f_X0_append σ a1 y1 a3) fun y3 σ4 => bd (scI G (x4 + (1 : Int32))) fun y6 => bp (f_X3_append S y6) fun y8 S9 => bp (f_X3_thrown S9 ) fun y11 S12 => if y11 = y3 then (if y3 = (0 : Int32) then (bd (elI σ4 103 a3 (0 : Int32)) fun y16 => if (lcm9 (y16.toInt64) (y8.toInt64)) = (0 : Int32) then (f_L_law_785 G k23 σ4 S12 x4 a3 a1) else (bd (okZ (0 : Int32)) fun e19 => some ((0 : Int32), σ4, S12))) else (f_L_law_785 G k23 σ4 S12 x4 a3 a1)) else (bd (okZ (0 : Int32)) fun e21 => some ((0 : Int32), σ4, S12))
set_option maxHeartbeats 4000000 in
theorem v_L_law_732 {l : Launch} {G : Gx} (hst : l.stackTraces = false) (hm : gmo G ≠ 0) (hsc : gst G 4 ≠ 0) {σ0 σe : Hp} {Se : Ms} {r : Int32} {k23 : Hp → Ms → Int32 → Nat → Nat → Option (Int32 × Hp × Ms)} (hk23 : ∀ (σ : Hp) (S : Ms) (x4 : Int32) (a3 : Nat) (a1 : Nat), k23 σ S x4 a3 a1 = some (r, σe, Se) → VV_L_law l G σ0 (.inl (some (pI r))) σe Se 23 [(4, pI x4), (3, pR a3), (0, pR (gst G 4)), (1, pR a1), (2, pR (gmo G))] [] σ S) {σ : Hp} {S : Ms} {x4 : Int32} {a3 : Nat} {a1 : Nat} (h : f_L_law_732 G k23 σ S x4 a3 a1 = some (r, σe, Se)) : VV_L_law l G σ0 (.inl (some (pI r))) σe Se 732 [(4, pI x4), (3, pR a3), (0, pR (gst G 4)), (1, pR a1), (2, pR (gmo G))] [] σ S := by
  unfold f_L_law_732 at h
  refine V_aload_n (i := 1) 3 dL_law_732 rfl rfl ?_
  refine V_aload_n (i := 0) 2 dL_law_733 rfl rfl ?_
  refine V_iload (i := 4) 0 dL_law_734 rfl ?_
  refine V_iconst (v := 1) dL_law_736 (by decide) ?_
  refine V_iadd dL_law_737 ?_
  obtain ⟨y1, e2, h⟩ := bd_s h
  refine V_scI hsc e2 dL_law_738 ?_
  refine V_aload_n (i := 3) 1 dL_law_739 rfl rfl ?_
  obtain ⟨y3, σ4, e5, h⟩ := bp_s h
  refine V_callSH_v (n9 := 3) [] (v_X0_append l G hst _ e5) rfl rfl (lw_SW q1217 q1218 q75 q1219) (by decide +kernel) (by decide) (Nat.le_of_ble_eq_true rfl) dL_law_740 ?_
  refine V_istore (i := 5) (L' := [(5, pI y3), (4, pI x4), (3, pR a3), (0, pR (gst G 4)), (1, pR a1), (2, pR (gmo G))]) dL_law_743 (by decide) rfl ?_
  refine V_aload_n (i := 2) 5 dL_law_745 rfl rfl ?_
  refine V_aload_n (i := 0) 3 dL_law_746 rfl rfl ?_
  refine V_iload (i := 4) 1 dL_law_747 rfl ?_
  refine V_iconst (v := 1) dL_law_749 (by decide) ?_
  refine V_iadd dL_law_750 ?_
  obtain ⟨y6, e7, h⟩ := bd_s h
  refine V_scI hsc e7 dL_law_751 ?_
  obtain ⟨y8, S9, e10, h⟩ := bp_s h
  refine V_callM_v (n9 := 1) [] hm (v_X3_append l G hst hm _ e10) rfl rfl (lw_V q2221 q2222 q2223 q90 q2224) (by decide +kernel) (by decide) (Nat.le_of_ble_eq_true rfl) dL_law_752 ?_
  refine V_istore (i := 6) (L' := [(6, pI y8), (5, pI y3), (4, pI x4), (3, pR a3), (0, pR (gst G 4)), (1, pR a1), (2, pR (gmo G))]) dL_law_755 (by decide) rfl ?_
  refine V_aload_n (i := 2) 6 dL_law_757 rfl rfl ?_
  obtain ⟨y11, S12, e13, h⟩ := bp_s h
  refine V_callM_v (n9 := 0) [] hm (v_X3_thrown l G hst hm _ e13) rfl rfl (lw_V q2054 q2055 q2056 q90 q2057) (by decide +kernel) (by decide) (Nat.le_of_ble_eq_true rfl) dL_law_758 ?_
  refine V_iload (i := 5) 1 dL_law_761 rfl ?_
  refine V_icmp_eq 768 dL_law_763 (by decide) (fun c14 => ?_) (fun c14 => ?_)
  · replace h := it_t c14 h
    refine V_iload (i := 5) 1 dL_law_768 rfl ?_
    refine V_if_ne 785 dL_law_770 (by decide) (fun c15 => ?_) (fun c15 => ?_)
    · replace h := it_f c15 h
      refine V_sub [2, 3, 4, 5, 6] rfl ?_
      exact v_L_law_785 hst hm hsc hk23 h
    · replace h := it_t c15 h
      refine V_aload_n (i := 3) 3 dL_law_773 rfl rfl ?_
      refine V_iconst (v := 0) dL_law_774 (by decide) ?_
      obtain ⟨y16, e17, h⟩ := bd_s h
      refine V_elL3 e17 dL_law_775 ?_
      refine V_iload (i := 6) 0 dL_law_776 rfl ?_
      refine V_i2l dL_law_778 ?_
      refine V_lcmp dL_law_779 ?_
      refine V_if_eq 785 dL_law_780 (by decide) (fun c18 => ?_) (fun c18 => ?_)
      · replace h := it_t c18 h
        refine V_sub [2, 3, 4, 5, 6] rfl ?_
        exact v_L_law_785 hst hm hsc hk23 h
      · replace h := it_f c18 h
        refine V_iconst (v := 0) dL_law_783 (by decide) ?_
        obtain ⟨e19, e20, h⟩ := bd_s h
        cases h
        exact V_retZ e20 rfl dL_law_784
  · replace h := it_f c14 h
    refine V_iconst (v := 0) dL_law_766 (by decide) ?_
    obtain ⟨e21, e22, h⟩ := bd_s h
    cases h
    exact V_retZ e22 rfl dL_law_767
def f_L_law_788 (G : Gx) (k23 : Hp → Ms → Int32 → Nat → Nat → Option (Int32 × Hp × Ms)) (σ : Hp) (S : Ms) (x4 : Int32) (a3 : Nat) (a1 : Nat) : Option (Int32 × Hp × Ms) :=
  bd (gk σ 1 a1) fun e1 => bp (f_X1_clearBuffer σ a1) fun y3 σ4 => bp (f_X3_clearBuffer S ) fun y6 S7 => if y3 = y6 then (f_L_law_1811 G k23 σ4 S7 x4 a3 a1) else (bd (okZ (0 : Int32)) fun e10 => some ((0 : Int32), σ4, S7))
set_option maxHeartbeats 4000000 in
theorem v_L_law_788 {l : Launch} {G : Gx} (hst : l.stackTraces = false) (hm : gmo G ≠ 0) (hsc : gst G 4 ≠ 0) {σ0 σe : Hp} {Se : Ms} {r : Int32} {k23 : Hp → Ms → Int32 → Nat → Nat → Option (Int32 × Hp × Ms)} (hk23 : ∀ (σ : Hp) (S : Ms) (x4 : Int32) (a3 : Nat) (a1 : Nat), k23 σ S x4 a3 a1 = some (r, σe, Se) → VV_L_law l G σ0 (.inl (some (pI r))) σe Se 23 [(4, pI x4), (3, pR a3), (0, pR (gst G 4)), (1, pR a1), (2, pR (gmo G))] [] σ S) {σ : Hp} {S : Ms} {x4 : Int32} {a3 : Nat} {a1 : Nat} (h : f_L_law_788 G k23 σ S x4 a3 a1 = some (r, σe, Se)) : VV_L_law l G σ0 (.inl (some (pI r))) σe Se 788 [(4, pI x4), (3, pR a3), (0, pR (gst G 4)), (1, pR a1), (2, pR (gmo G))] [] σ S := by
  unfold f_L_law_788 at h
  refine V_aload_n (i := 1) 3 dL_law_788 rfl rfl ?_
  obtain ⟨e1, e2, h⟩ := bd_s h
  obtain ⟨y3, σ4, e5, h⟩ := bp_s h
  refine V_callV_v (n9 := 0) (c := 0) (r := (RX1, TX1, 4)) [] (v_X1_clearBuffer l G hst _ e5) rfl rfl (lw_V q338 q339 q340 q76 q341) (by decide +kernel) (by decide) (Nat.le_of_ble_eq_true rfl) (gk_k e2 rfl) rfl dL_law_789 ?_
  refine V_aload_n (i := 2) 4 dL_law_792 rfl rfl ?_
  obtain ⟨y6, S7, e8, h⟩ := bp_s h
  refine V_callM_v (n9 := 0) [pI y3] hm (v_X3_clearBuffer l G hst hm _ e8) rfl rfl (lw_V q2225 q2226 q2227 q90 q2228) (by decide +kernel) (by decide) (Nat.le_of_ble_eq_true rfl) dL_law_793 ?_
  refine V_icmp_eq 1811 dL_law_796 (by decide) (fun c9 => ?_) (fun c9 => ?_)
  · replace h := it_t c9 h
    refine V_sub [0, 1, 2, 3, 4] rfl ?_
    exact v_L_law_1811 hst hm hsc hk23 h
  · replace h := it_f c9 h
    refine V_iconst (v := 0) dL_law_799 (by decide) ?_
    obtain ⟨e10, e11, h⟩ := bd_s h
    cases h
    exact V_retZ e11 rfl dL_law_800
def f_L_law_801 (G : Gx) (k23 : Hp → Ms → Int32 → Nat → Nat → Option (Int32 × Hp × Ms)) (σ : Hp) (S : Ms) (x4 : Int32) (a3 : Nat) (a1 : Nat) : Option (Int32 × Hp × Ms) :=
  bd (gk σ 1 a1) fun e1 => bp (f_X1_firstError σ a1) fun y3 σ4 => bp (f_X3_firstError S ) fun y6 S7 => if y3 = y6 then (f_L_law_1811 G k23 σ4 S7 x4 a3 a1) else (bd (okZ (0 : Int32)) fun e10 => some ((0 : Int32), σ4, S7))
set_option maxHeartbeats 4000000 in
theorem v_L_law_801 {l : Launch} {G : Gx} (hst : l.stackTraces = false) (hm : gmo G ≠ 0) (hsc : gst G 4 ≠ 0) {σ0 σe : Hp} {Se : Ms} {r : Int32} {k23 : Hp → Ms → Int32 → Nat → Nat → Option (Int32 × Hp × Ms)} (hk23 : ∀ (σ : Hp) (S : Ms) (x4 : Int32) (a3 : Nat) (a1 : Nat), k23 σ S x4 a3 a1 = some (r, σe, Se) → VV_L_law l G σ0 (.inl (some (pI r))) σe Se 23 [(4, pI x4), (3, pR a3), (0, pR (gst G 4)), (1, pR a1), (2, pR (gmo G))] [] σ S) {σ : Hp} {S : Ms} {x4 : Int32} {a3 : Nat} {a1 : Nat} (h : f_L_law_801 G k23 σ S x4 a3 a1 = some (r, σe, Se)) : VV_L_law l G σ0 (.inl (some (pI r))) σe Se 801 [(4, pI x4), (3, pR a3), (0, pR (gst G 4)), (1, pR a1), (2, pR (gmo G))] [] σ S := by
  unfold f_L_law_801 at h
  refine V_aload_n (i := 1) 3 dL_law_801 rfl rfl ?_
  obtain ⟨e1, e2, h⟩ := bd_s h
  obtain ⟨y3, σ4, e5, h⟩ := bp_s h
  refine V_callVH_v (n9 := 0) (c := 0) (r := (RX1, TX1, 4)) [] (v_X1_firstError l G hst _ e5) rfl rfl (lw_VW q672 q673 q674 q76 q675) (by decide +kernel) (by decide) (Nat.le_of_ble_eq_true rfl) (gk_k e2 rfl) rfl dL_law_802 ?_
  refine V_aload_n (i := 2) 4 dL_law_805 rfl rfl ?_
  obtain ⟨y6, S7, e8, h⟩ := bp_s h
  refine V_callM_v (n9 := 0) [pI y3] hm (v_X3_firstError l G hst hm _ e8) rfl rfl (lw_V q2229 q2230 q2231 q90 q2232) (by decide +kernel) (by decide) (Nat.le_of_ble_eq_true rfl) dL_law_806 ?_
  refine V_icmp_eq 1811 dL_law_809 (by decide) (fun c9 => ?_) (fun c9 => ?_)
  · replace h := it_t c9 h
    refine V_sub [0, 1, 2, 3, 4] rfl ?_
    exact v_L_law_1811 hst hm hsc hk23 h
  · replace h := it_f c9 h
    refine V_iconst (v := 0) dL_law_812 (by decide) ?_
    obtain ⟨e10, e11, h⟩ := bd_s h
    cases h
    exact V_retZ e11 rfl dL_law_813
def f_L_law_855 (G : Gx) (k23 : Hp → Ms → Int32 → Nat → Nat → Option (Int32 × Hp × Ms)) (σ : Hp) (S : Ms) (x4 : Int32) (a3 : Nat) (a1 : Nat) : Option (Int32 × Hp × Ms) :=
  f_L_law_1811 G k23 σ S x4 a3 a1
set_option maxHeartbeats 4000000 in
theorem v_L_law_855 {l : Launch} {G : Gx} (hst : l.stackTraces = false) (hm : gmo G ≠ 0) (hsc : gst G 4 ≠ 0) {σ0 σe : Hp} {Se : Ms} {r : Int32} {k23 : Hp → Ms → Int32 → Nat → Nat → Option (Int32 × Hp × Ms)} (hk23 : ∀ (σ : Hp) (S : Ms) (x4 : Int32) (a3 : Nat) (a1 : Nat), k23 σ S x4 a3 a1 = some (r, σe, Se) → VV_L_law l G σ0 (.inl (some (pI r))) σe Se 23 [(4, pI x4), (3, pR a3), (0, pR (gst G 4)), (1, pR a1), (2, pR (gmo G))] [] σ S) {σ : Hp} {S : Ms} {x4 : Int32} {a3 : Nat} {a1 : Nat} (h : f_L_law_855 G k23 σ S x4 a3 a1 = some (r, σe, Se)) : VV_L_law l G σ0 (.inl (some (pI r))) σe Se 855 [(4, pI x4), (3, pR a3), (0, pR (gst G 4)), (1, pR a1), (2, pR (gmo G))] [] σ S := by
  unfold f_L_law_855 at h
  refine V_goto 1811 dL_law_855 (by decide) ?_
  refine V_sub [0, 1, 2, 3, 4] rfl ?_
  exact v_L_law_1811 hst hm hsc hk23 h
def f_L_law_814 (G : Gx) (k23 : Hp → Ms → Int32 → Nat → Nat → Option (Int32 × Hp × Ms)) (σ : Hp) (S : Ms) (x4 : Int32) (a3 : Nat) (a1 : Nat) : Option (Int32 × Hp × Ms) :=
  bp (f_X0_execute σ a1 a3) fun y1 σ2 => bp (f_X3_execute S ) fun y4 S5 => bp (f_X3_thrown S5 ) fun y7 S8 => if y7 = y1 then (if y1 = (0 : Int32) then (bd (elI σ2 103 a3 (0 : Int32)) fun y12 => if (lcm9 (y12.toInt64) (y4.toInt64)) = (0 : Int32) then (f_L_law_855 G k23 σ2 S8 x4 a3 a1) else (bd (okZ (0 : Int32)) fun e15 => some ((0 : Int32), σ2, S8))) else (f_L_law_855 G k23 σ2 S8 x4 a3 a1)) else (bd (okZ (0 : Int32)) fun e17 => some ((0 : Int32), σ2, S8))
set_option maxHeartbeats 4000000 in
theorem v_L_law_814 {l : Launch} {G : Gx} (hst : l.stackTraces = false) (hm : gmo G ≠ 0) (hsc : gst G 4 ≠ 0) {σ0 σe : Hp} {Se : Ms} {r : Int32} {k23 : Hp → Ms → Int32 → Nat → Nat → Option (Int32 × Hp × Ms)} (hk23 : ∀ (σ : Hp) (S : Ms) (x4 : Int32) (a3 : Nat) (a1 : Nat), k23 σ S x4 a3 a1 = some (r, σe, Se) → VV_L_law l G σ0 (.inl (some (pI r))) σe Se 23 [(4, pI x4), (3, pR a3), (0, pR (gst G 4)), (1, pR a1), (2, pR (gmo G))] [] σ S) {σ : Hp} {S : Ms} {x4 : Int32} {a3 : Nat} {a1 : Nat} (h : f_L_law_814 G k23 σ S x4 a3 a1 = some (r, σe, Se)) : VV_L_law l G σ0 (.inl (some (pI r))) σe Se 814 [(4, pI x4), (3, pR a3), (0, pR (gst G 4)), (1, pR a1), (2, pR (gmo G))] [] σ S := by
  unfold f_L_law_814 at h
  refine V_aload_n (i := 1) 3 dL_law_814 rfl rfl ?_
  refine V_aload_n (i := 3) 1 dL_law_815 rfl rfl ?_
  obtain ⟨y1, σ2, e3, h⟩ := bp_s h
  refine V_callSH_v (n9 := 2) [] (v_X0_execute l G hst _ e3) rfl rfl (lw_SW q1241 q1242 q75 q1243) (by decide +kernel) (by decide) (Nat.le_of_ble_eq_true rfl) dL_law_816 ?_
  refine V_istore (i := 5) (L' := [(5, pI y1), (4, pI x4), (3, pR a3), (0, pR (gst G 4)), (1, pR a1), (2, pR (gmo G))]) dL_law_819 (by decide) rfl ?_
  refine V_aload_n (i := 2) 5 dL_law_821 rfl rfl ?_
  obtain ⟨y4, S5, e6, h⟩ := bp_s h
  refine V_callM_v (n9 := 0) [] hm (v_X3_execute l G hst hm _ e6) rfl rfl (lw_V q2257 q2258 q2259 q90 q2260) (by decide +kernel) (by decide) (Nat.le_of_ble_eq_true rfl) dL_law_822 ?_
  refine V_istore (i := 6) (L' := [(6, pI y4), (5, pI y1), (4, pI x4), (3, pR a3), (0, pR (gst G 4)), (1, pR a1), (2, pR (gmo G))]) dL_law_825 (by decide) rfl ?_
  refine V_aload_n (i := 2) 6 dL_law_827 rfl rfl ?_
  obtain ⟨y7, S8, e9, h⟩ := bp_s h
  refine V_callM_v (n9 := 0) [] hm (v_X3_thrown l G hst hm _ e9) rfl rfl (lw_V q2054 q2055 q2056 q90 q2057) (by decide +kernel) (by decide) (Nat.le_of_ble_eq_true rfl) dL_law_828 ?_
  refine V_iload (i := 5) 1 dL_law_831 rfl ?_
  refine V_icmp_eq 838 dL_law_833 (by decide) (fun c10 => ?_) (fun c10 => ?_)
  · replace h := it_t c10 h
    refine V_iload (i := 5) 1 dL_law_838 rfl ?_
    refine V_if_ne 855 dL_law_840 (by decide) (fun c11 => ?_) (fun c11 => ?_)
    · replace h := it_f c11 h
      refine V_sub [2, 3, 4, 5, 6] rfl ?_
      exact v_L_law_855 hst hm hsc hk23 h
    · replace h := it_t c11 h
      refine V_aload_n (i := 3) 3 dL_law_843 rfl rfl ?_
      refine V_iconst (v := 0) dL_law_844 (by decide) ?_
      obtain ⟨y12, e13, h⟩ := bd_s h
      refine V_elL3 e13 dL_law_845 ?_
      refine V_iload (i := 6) 0 dL_law_846 rfl ?_
      refine V_i2l dL_law_848 ?_
      refine V_lcmp dL_law_849 ?_
      refine V_if_eq 855 dL_law_850 (by decide) (fun c14 => ?_) (fun c14 => ?_)
      · replace h := it_t c14 h
        refine V_sub [2, 3, 4, 5, 6] rfl ?_
        exact v_L_law_855 hst hm hsc hk23 h
      · replace h := it_f c14 h
        refine V_iconst (v := 0) dL_law_853 (by decide) ?_
        obtain ⟨e15, e16, h⟩ := bd_s h
        cases h
        exact V_retZ e16 rfl dL_law_854
  · replace h := it_f c10 h
    refine V_iconst (v := 0) dL_law_836 (by decide) ?_
    obtain ⟨e17, e18, h⟩ := bd_s h
    cases h
    exact V_retZ e18 rfl dL_law_837
def f_L_law_899 (G : Gx) (k23 : Hp → Ms → Int32 → Nat → Nat → Option (Int32 × Hp × Ms)) (σ : Hp) (S : Ms) (x4 : Int32) (a3 : Nat) (a1 : Nat) : Option (Int32 × Hp × Ms) :=
  f_L_law_1811 G k23 σ S x4 a3 a1
set_option maxHeartbeats 4000000 in
theorem v_L_law_899 {l : Launch} {G : Gx} (hst : l.stackTraces = false) (hm : gmo G ≠ 0) (hsc : gst G 4 ≠ 0) {σ0 σe : Hp} {Se : Ms} {r : Int32} {k23 : Hp → Ms → Int32 → Nat → Nat → Option (Int32 × Hp × Ms)} (hk23 : ∀ (σ : Hp) (S : Ms) (x4 : Int32) (a3 : Nat) (a1 : Nat), k23 σ S x4 a3 a1 = some (r, σe, Se) → VV_L_law l G σ0 (.inl (some (pI r))) σe Se 23 [(4, pI x4), (3, pR a3), (0, pR (gst G 4)), (1, pR a1), (2, pR (gmo G))] [] σ S) {σ : Hp} {S : Ms} {x4 : Int32} {a3 : Nat} {a1 : Nat} (h : f_L_law_899 G k23 σ S x4 a3 a1 = some (r, σe, Se)) : VV_L_law l G σ0 (.inl (some (pI r))) σe Se 899 [(4, pI x4), (3, pR a3), (0, pR (gst G 4)), (1, pR a1), (2, pR (gmo G))] [] σ S := by
  unfold f_L_law_899 at h
  refine V_goto 1811 dL_law_899 (by decide) ?_
  refine V_sub [0, 1, 2, 3, 4] rfl ?_
  exact v_L_law_1811 hst hm hsc hk23 h
def f_L_law_858 (G : Gx) (k23 : Hp → Ms → Int32 → Nat → Nat → Option (Int32 × Hp × Ms)) (σ : Hp) (S : Ms) (x4 : Int32) (a3 : Nat) (a1 : Nat) : Option (Int32 × Hp × Ms) :=
  bp (f_X0_undo σ a1 a3) fun y1 σ2 => bp (f_X3_undo S ) fun y4 S5 => bp (f_X3_thrown S5 ) fun y7 S8 => if y7 = y1 then (if y1 = (0 : Int32) then (bd (elI σ2 103 a3 (0 : Int32)) fun y12 => if (lcm9 (y12.toInt64) (y4.toInt64)) = (0 : Int32) then (f_L_law_899 G k23 σ2 S8 x4 a3 a1) else (bd (okZ (0 : Int32)) fun e15 => some ((0 : Int32), σ2, S8))) else (f_L_law_899 G k23 σ2 S8 x4 a3 a1)) else (bd (okZ (0 : Int32)) fun e17 => some ((0 : Int32), σ2, S8))
set_option maxHeartbeats 4000000 in
theorem v_L_law_858 {l : Launch} {G : Gx} (hst : l.stackTraces = false) (hm : gmo G ≠ 0) (hsc : gst G 4 ≠ 0) {σ0 σe : Hp} {Se : Ms} {r : Int32} {k23 : Hp → Ms → Int32 → Nat → Nat → Option (Int32 × Hp × Ms)} (hk23 : ∀ (σ : Hp) (S : Ms) (x4 : Int32) (a3 : Nat) (a1 : Nat), k23 σ S x4 a3 a1 = some (r, σe, Se) → VV_L_law l G σ0 (.inl (some (pI r))) σe Se 23 [(4, pI x4), (3, pR a3), (0, pR (gst G 4)), (1, pR a1), (2, pR (gmo G))] [] σ S) {σ : Hp} {S : Ms} {x4 : Int32} {a3 : Nat} {a1 : Nat} (h : f_L_law_858 G k23 σ S x4 a3 a1 = some (r, σe, Se)) : VV_L_law l G σ0 (.inl (some (pI r))) σe Se 858 [(4, pI x4), (3, pR a3), (0, pR (gst G 4)), (1, pR a1), (2, pR (gmo G))] [] σ S := by
  unfold f_L_law_858 at h
  refine V_aload_n (i := 1) 3 dL_law_858 rfl rfl ?_
  refine V_aload_n (i := 3) 1 dL_law_859 rfl rfl ?_
  obtain ⟨y1, σ2, e3, h⟩ := bp_s h
  refine V_callSH_v (n9 := 2) [] (v_X0_undo l G hst _ e3) rfl rfl (lw_SW q1253 q1254 q75 q1255) (by decide +kernel) (by decide) (Nat.le_of_ble_eq_true rfl) dL_law_860 ?_
  refine V_istore (i := 5) (L' := [(5, pI y1), (4, pI x4), (3, pR a3), (0, pR (gst G 4)), (1, pR a1), (2, pR (gmo G))]) dL_law_863 (by decide) rfl ?_
  refine V_aload_n (i := 2) 5 dL_law_865 rfl rfl ?_
  obtain ⟨y4, S5, e6, h⟩ := bp_s h
  refine V_callM_v (n9 := 0) [] hm (v_X3_undo l G hst hm _ e6) rfl rfl (lw_V q2058 q2059 q2060 q90 q2061) (by decide +kernel) (by decide) (Nat.le_of_ble_eq_true rfl) dL_law_866 ?_
  refine V_istore (i := 6) (L' := [(6, pI y4), (5, pI y1), (4, pI x4), (3, pR a3), (0, pR (gst G 4)), (1, pR a1), (2, pR (gmo G))]) dL_law_869 (by decide) rfl ?_
  refine V_aload_n (i := 2) 6 dL_law_871 rfl rfl ?_
  obtain ⟨y7, S8, e9, h⟩ := bp_s h
  refine V_callM_v (n9 := 0) [] hm (v_X3_thrown l G hst hm _ e9) rfl rfl (lw_V q2054 q2055 q2056 q90 q2057) (by decide +kernel) (by decide) (Nat.le_of_ble_eq_true rfl) dL_law_872 ?_
  refine V_iload (i := 5) 1 dL_law_875 rfl ?_
  refine V_icmp_eq 882 dL_law_877 (by decide) (fun c10 => ?_) (fun c10 => ?_)
  · replace h := it_t c10 h
    refine V_iload (i := 5) 1 dL_law_882 rfl ?_
    refine V_if_ne 899 dL_law_884 (by decide) (fun c11 => ?_) (fun c11 => ?_)
    · replace h := it_f c11 h
      refine V_sub [2, 3, 4, 5, 6] rfl ?_
      exact v_L_law_899 hst hm hsc hk23 h
    · replace h := it_t c11 h
      refine V_aload_n (i := 3) 3 dL_law_887 rfl rfl ?_
      refine V_iconst (v := 0) dL_law_888 (by decide) ?_
      obtain ⟨y12, e13, h⟩ := bd_s h
      refine V_elL3 e13 dL_law_889 ?_
      refine V_iload (i := 6) 0 dL_law_890 rfl ?_
      refine V_i2l dL_law_892 ?_
      refine V_lcmp dL_law_893 ?_
      refine V_if_eq 899 dL_law_894 (by decide) (fun c14 => ?_) (fun c14 => ?_)
      · replace h := it_t c14 h
        refine V_sub [2, 3, 4, 5, 6] rfl ?_
        exact v_L_law_899 hst hm hsc hk23 h
      · replace h := it_f c14 h
        refine V_iconst (v := 0) dL_law_897 (by decide) ?_
        obtain ⟨e15, e16, h⟩ := bd_s h
        cases h
        exact V_retZ e16 rfl dL_law_898
  · replace h := it_f c10 h
    refine V_iconst (v := 0) dL_law_880 (by decide) ?_
    obtain ⟨e17, e18, h⟩ := bd_s h
    cases h
    exact V_retZ e18 rfl dL_law_881
def f_L_law_955 (G : Gx) (k23 : Hp → Ms → Int32 → Nat → Nat → Option (Int32 × Hp × Ms)) (σ : Hp) (S : Ms) (x4 : Int32) (a3 : Nat) (a1 : Nat) : Option (Int32 × Hp × Ms) :=
  f_L_law_1811 G k23 σ S x4 a3 a1
set_option maxHeartbeats 4000000 in
theorem v_L_law_955 {l : Launch} {G : Gx} (hst : l.stackTraces = false) (hm : gmo G ≠ 0) (hsc : gst G 4 ≠ 0) {σ0 σe : Hp} {Se : Ms} {r : Int32} {k23 : Hp → Ms → Int32 → Nat → Nat → Option (Int32 × Hp × Ms)} (hk23 : ∀ (σ : Hp) (S : Ms) (x4 : Int32) (a3 : Nat) (a1 : Nat), k23 σ S x4 a3 a1 = some (r, σe, Se) → VV_L_law l G σ0 (.inl (some (pI r))) σe Se 23 [(4, pI x4), (3, pR a3), (0, pR (gst G 4)), (1, pR a1), (2, pR (gmo G))] [] σ S) {σ : Hp} {S : Ms} {x4 : Int32} {a3 : Nat} {a1 : Nat} (h : f_L_law_955 G k23 σ S x4 a3 a1 = some (r, σe, Se)) : VV_L_law l G σ0 (.inl (some (pI r))) σe Se 955 [(4, pI x4), (3, pR a3), (0, pR (gst G 4)), (1, pR a1), (2, pR (gmo G))] [] σ S := by
  unfold f_L_law_955 at h
  refine V_goto 1811 dL_law_955 (by decide) ?_
  refine V_sub [0, 1, 2, 3, 4] rfl ?_
  exact v_L_law_1811 hst hm hsc hk23 h
def f_L_law_902 (G : Gx) (k23 : Hp → Ms → Int32 → Nat → Nat → Option (Int32 × Hp × Ms)) (σ : Hp) (S : Ms) (x4 : Int32) (a3 : Nat) (a1 : Nat) : Option (Int32 × Hp × Ms) :=
  bd (scI G (x4 + (1 : Int32))) fun y1 => bp (f_X0_keep σ a1 y1 a3) fun y3 σ4 => bd (scI G (x4 + (1 : Int32))) fun y6 => bp (f_X3_keep S y6) fun y8 S9 => bp (f_X3_thrown S9 ) fun y11 S12 => if y11 = y3 then (if y3 = (0 : Int32) then (bd (elI σ4 103 a3 (0 : Int32)) fun y16 => if (lcm9 (y16.toInt64) (y8.toInt64)) = (0 : Int32) then (f_L_law_955 G k23 σ4 S12 x4 a3 a1) else (bd (okZ (0 : Int32)) fun e19 => some ((0 : Int32), σ4, S12))) else (f_L_law_955 G k23 σ4 S12 x4 a3 a1)) else (bd (okZ (0 : Int32)) fun e21 => some ((0 : Int32), σ4, S12))
set_option maxHeartbeats 4000000 in
theorem v_L_law_902 {l : Launch} {G : Gx} (hst : l.stackTraces = false) (hm : gmo G ≠ 0) (hsc : gst G 4 ≠ 0) {σ0 σe : Hp} {Se : Ms} {r : Int32} {k23 : Hp → Ms → Int32 → Nat → Nat → Option (Int32 × Hp × Ms)} (hk23 : ∀ (σ : Hp) (S : Ms) (x4 : Int32) (a3 : Nat) (a1 : Nat), k23 σ S x4 a3 a1 = some (r, σe, Se) → VV_L_law l G σ0 (.inl (some (pI r))) σe Se 23 [(4, pI x4), (3, pR a3), (0, pR (gst G 4)), (1, pR a1), (2, pR (gmo G))] [] σ S) {σ : Hp} {S : Ms} {x4 : Int32} {a3 : Nat} {a1 : Nat} (h : f_L_law_902 G k23 σ S x4 a3 a1 = some (r, σe, Se)) : VV_L_law l G σ0 (.inl (some (pI r))) σe Se 902 [(4, pI x4), (3, pR a3), (0, pR (gst G 4)), (1, pR a1), (2, pR (gmo G))] [] σ S := by
  unfold f_L_law_902 at h
  refine V_aload_n (i := 1) 3 dL_law_902 rfl rfl ?_
  refine V_aload_n (i := 0) 2 dL_law_903 rfl rfl ?_
  refine V_iload (i := 4) 0 dL_law_904 rfl ?_
  refine V_iconst (v := 1) dL_law_906 (by decide) ?_
  refine V_iadd dL_law_907 ?_
  obtain ⟨y1, e2, h⟩ := bd_s h
  refine V_scI hsc e2 dL_law_908 ?_
  refine V_aload_n (i := 3) 1 dL_law_909 rfl rfl ?_
  obtain ⟨y3, σ4, e5, h⟩ := bp_s h
  refine V_callSH_v (n9 := 3) [] (v_X0_keep l G hst _ e5) rfl rfl (lw_SW q1275 q1276 q75 q1277) (by decide +kernel) (by decide) (Nat.le_of_ble_eq_true rfl) dL_law_910 ?_
  refine V_istore (i := 5) (L' := [(5, pI y3), (4, pI x4), (3, pR a3), (0, pR (gst G 4)), (1, pR a1), (2, pR (gmo G))]) dL_law_913 (by decide) rfl ?_
  refine V_aload_n (i := 2) 5 dL_law_915 rfl rfl ?_
  refine V_aload_n (i := 0) 3 dL_law_916 rfl rfl ?_
  refine V_iload (i := 4) 1 dL_law_917 rfl ?_
  refine V_iconst (v := 1) dL_law_919 (by decide) ?_
  refine V_iadd dL_law_920 ?_
  obtain ⟨y6, e7, h⟩ := bd_s h
  refine V_scI hsc e7 dL_law_921 ?_
  obtain ⟨y8, S9, e10, h⟩ := bp_s h
  refine V_callM_v (n9 := 1) [] hm (v_X3_keep l G hst hm _ e10) rfl rfl (lw_V q2066 q2067 q2068 q90 q2069) (by decide +kernel) (by decide) (Nat.le_of_ble_eq_true rfl) dL_law_922 ?_
  refine V_istore (i := 6) (L' := [(6, pI y8), (5, pI y3), (4, pI x4), (3, pR a3), (0, pR (gst G 4)), (1, pR a1), (2, pR (gmo G))]) dL_law_925 (by decide) rfl ?_
  refine V_aload_n (i := 2) 6 dL_law_927 rfl rfl ?_
  obtain ⟨y11, S12, e13, h⟩ := bp_s h
  refine V_callM_v (n9 := 0) [] hm (v_X3_thrown l G hst hm _ e13) rfl rfl (lw_V q2054 q2055 q2056 q90 q2057) (by decide +kernel) (by decide) (Nat.le_of_ble_eq_true rfl) dL_law_928 ?_
  refine V_iload (i := 5) 1 dL_law_931 rfl ?_
  refine V_icmp_eq 938 dL_law_933 (by decide) (fun c14 => ?_) (fun c14 => ?_)
  · replace h := it_t c14 h
    refine V_iload (i := 5) 1 dL_law_938 rfl ?_
    refine V_if_ne 955 dL_law_940 (by decide) (fun c15 => ?_) (fun c15 => ?_)
    · replace h := it_f c15 h
      refine V_sub [2, 3, 4, 5, 6] rfl ?_
      exact v_L_law_955 hst hm hsc hk23 h
    · replace h := it_t c15 h
      refine V_aload_n (i := 3) 3 dL_law_943 rfl rfl ?_
      refine V_iconst (v := 0) dL_law_944 (by decide) ?_
      obtain ⟨y16, e17, h⟩ := bd_s h
      refine V_elL3 e17 dL_law_945 ?_
      refine V_iload (i := 6) 0 dL_law_946 rfl ?_
      refine V_i2l dL_law_948 ?_
      refine V_lcmp dL_law_949 ?_
      refine V_if_eq 955 dL_law_950 (by decide) (fun c18 => ?_) (fun c18 => ?_)
      · replace h := it_t c18 h
        refine V_sub [2, 3, 4, 5, 6] rfl ?_
        exact v_L_law_955 hst hm hsc hk23 h
      · replace h := it_f c18 h
        refine V_iconst (v := 0) dL_law_953 (by decide) ?_
        obtain ⟨e19, e20, h⟩ := bd_s h
        cases h
        exact V_retZ e20 rfl dL_law_954
  · replace h := it_f c14 h
    refine V_iconst (v := 0) dL_law_936 (by decide) ?_
    obtain ⟨e21, e22, h⟩ := bd_s h
    cases h
    exact V_retZ e22 rfl dL_law_937
def f_L_law_1011 (G : Gx) (k23 : Hp → Ms → Int32 → Nat → Nat → Option (Int32 × Hp × Ms)) (σ : Hp) (S : Ms) (x4 : Int32) (a3 : Nat) (a1 : Nat) : Option (Int32 × Hp × Ms) :=
  f_L_law_1811 G k23 σ S x4 a3 a1
set_option maxHeartbeats 4000000 in
theorem v_L_law_1011 {l : Launch} {G : Gx} (hst : l.stackTraces = false) (hm : gmo G ≠ 0) (hsc : gst G 4 ≠ 0) {σ0 σe : Hp} {Se : Ms} {r : Int32} {k23 : Hp → Ms → Int32 → Nat → Nat → Option (Int32 × Hp × Ms)} (hk23 : ∀ (σ : Hp) (S : Ms) (x4 : Int32) (a3 : Nat) (a1 : Nat), k23 σ S x4 a3 a1 = some (r, σe, Se) → VV_L_law l G σ0 (.inl (some (pI r))) σe Se 23 [(4, pI x4), (3, pR a3), (0, pR (gst G 4)), (1, pR a1), (2, pR (gmo G))] [] σ S) {σ : Hp} {S : Ms} {x4 : Int32} {a3 : Nat} {a1 : Nat} (h : f_L_law_1011 G k23 σ S x4 a3 a1 = some (r, σe, Se)) : VV_L_law l G σ0 (.inl (some (pI r))) σe Se 1011 [(4, pI x4), (3, pR a3), (0, pR (gst G 4)), (1, pR a1), (2, pR (gmo G))] [] σ S := by
  unfold f_L_law_1011 at h
  refine V_goto 1811 dL_law_1011 (by decide) ?_
  refine V_sub [0, 1, 2, 3, 4] rfl ?_
  exact v_L_law_1811 hst hm hsc hk23 h
def f_L_law_958 (G : Gx) (k23 : Hp → Ms → Int32 → Nat → Nat → Option (Int32 × Hp × Ms)) (σ : Hp) (S : Ms) (x4 : Int32) (a3 : Nat) (a1 : Nat) : Option (Int32 × Hp × Ms) :=
  bd (scI G (x4 + (1 : Int32))) fun y1 => bp (f_X0_goBack σ a1 y1 a3) fun y3 σ4 => bd (scI G (x4 + (1 : Int32))) fun y6 => bp (f_X3_goBack S y6) fun y8 S9 => bp (f_X3_thrown S9 ) fun y11 S12 => if y11 = y3 then (if y3 = (0 : Int32) then (bd (elI σ4 103 a3 (0 : Int32)) fun y16 => if (lcm9 (y16.toInt64) (y8.toInt64)) = (0 : Int32) then (f_L_law_1011 G k23 σ4 S12 x4 a3 a1) else (bd (okZ (0 : Int32)) fun e19 => some ((0 : Int32), σ4, S12))) else (f_L_law_1011 G k23 σ4 S12 x4 a3 a1)) else (bd (okZ (0 : Int32)) fun e21 => some ((0 : Int32), σ4, S12))
set_option maxHeartbeats 4000000 in
theorem v_L_law_958 {l : Launch} {G : Gx} (hst : l.stackTraces = false) (hm : gmo G ≠ 0) (hsc : gst G 4 ≠ 0) {σ0 σe : Hp} {Se : Ms} {r : Int32} {k23 : Hp → Ms → Int32 → Nat → Nat → Option (Int32 × Hp × Ms)} (hk23 : ∀ (σ : Hp) (S : Ms) (x4 : Int32) (a3 : Nat) (a1 : Nat), k23 σ S x4 a3 a1 = some (r, σe, Se) → VV_L_law l G σ0 (.inl (some (pI r))) σe Se 23 [(4, pI x4), (3, pR a3), (0, pR (gst G 4)), (1, pR a1), (2, pR (gmo G))] [] σ S) {σ : Hp} {S : Ms} {x4 : Int32} {a3 : Nat} {a1 : Nat} (h : f_L_law_958 G k23 σ S x4 a3 a1 = some (r, σe, Se)) : VV_L_law l G σ0 (.inl (some (pI r))) σe Se 958 [(4, pI x4), (3, pR a3), (0, pR (gst G 4)), (1, pR a1), (2, pR (gmo G))] [] σ S := by
  unfold f_L_law_958 at h
  refine V_aload_n (i := 1) 3 dL_law_958 rfl rfl ?_
  refine V_aload_n (i := 0) 2 dL_law_959 rfl rfl ?_
  refine V_iload (i := 4) 0 dL_law_960 rfl ?_
  refine V_iconst (v := 1) dL_law_962 (by decide) ?_
  refine V_iadd dL_law_963 ?_
  obtain ⟨y1, e2, h⟩ := bd_s h
  refine V_scI hsc e2 dL_law_964 ?_
  refine V_aload_n (i := 3) 1 dL_law_965 rfl rfl ?_
  obtain ⟨y3, σ4, e5, h⟩ := bp_s h
  refine V_callSH_v (n9 := 3) [] (v_X0_goBack l G hst _ e5) rfl rfl (lw_SW q1282 q1283 q75 q1284) (by decide +kernel) (by decide) (Nat.le_of_ble_eq_true rfl) dL_law_966 ?_
  refine V_istore (i := 5) (L' := [(5, pI y3), (4, pI x4), (3, pR a3), (0, pR (gst G 4)), (1, pR a1), (2, pR (gmo G))]) dL_law_969 (by decide) rfl ?_
  refine V_aload_n (i := 2) 5 dL_law_971 rfl rfl ?_
  refine V_aload_n (i := 0) 3 dL_law_972 rfl rfl ?_
  refine V_iload (i := 4) 1 dL_law_973 rfl ?_
  refine V_iconst (v := 1) dL_law_975 (by decide) ?_
  refine V_iadd dL_law_976 ?_
  obtain ⟨y6, e7, h⟩ := bd_s h
  refine V_scI hsc e7 dL_law_977 ?_
  obtain ⟨y8, S9, e10, h⟩ := bp_s h
  refine V_callM_v (n9 := 1) [] hm (v_X3_goBack l G hst hm _ e10) rfl rfl (lw_V q2073 q2074 q2075 q90 q2076) (by decide +kernel) (by decide) (Nat.le_of_ble_eq_true rfl) dL_law_978 ?_
  refine V_istore (i := 6) (L' := [(6, pI y8), (5, pI y3), (4, pI x4), (3, pR a3), (0, pR (gst G 4)), (1, pR a1), (2, pR (gmo G))]) dL_law_981 (by decide) rfl ?_
  refine V_aload_n (i := 2) 6 dL_law_983 rfl rfl ?_
  obtain ⟨y11, S12, e13, h⟩ := bp_s h
  refine V_callM_v (n9 := 0) [] hm (v_X3_thrown l G hst hm _ e13) rfl rfl (lw_V q2054 q2055 q2056 q90 q2057) (by decide +kernel) (by decide) (Nat.le_of_ble_eq_true rfl) dL_law_984 ?_
  refine V_iload (i := 5) 1 dL_law_987 rfl ?_
  refine V_icmp_eq 994 dL_law_989 (by decide) (fun c14 => ?_) (fun c14 => ?_)
  · replace h := it_t c14 h
    refine V_iload (i := 5) 1 dL_law_994 rfl ?_
    refine V_if_ne 1011 dL_law_996 (by decide) (fun c15 => ?_) (fun c15 => ?_)
    · replace h := it_f c15 h
      refine V_sub [2, 3, 4, 5, 6] rfl ?_
      exact v_L_law_1011 hst hm hsc hk23 h
    · replace h := it_t c15 h
      refine V_aload_n (i := 3) 3 dL_law_999 rfl rfl ?_
      refine V_iconst (v := 0) dL_law_1000 (by decide) ?_
      obtain ⟨y16, e17, h⟩ := bd_s h
      refine V_elL3 e17 dL_law_1001 ?_
      refine V_iload (i := 6) 0 dL_law_1002 rfl ?_
      refine V_i2l dL_law_1004 ?_
      refine V_lcmp dL_law_1005 ?_
      refine V_if_eq 1011 dL_law_1006 (by decide) (fun c18 => ?_) (fun c18 => ?_)
      · replace h := it_t c18 h
        refine V_sub [2, 3, 4, 5, 6] rfl ?_
        exact v_L_law_1011 hst hm hsc hk23 h
      · replace h := it_f c18 h
        refine V_iconst (v := 0) dL_law_1009 (by decide) ?_
        obtain ⟨e19, e20, h⟩ := bd_s h
        cases h
        exact V_retZ e20 rfl dL_law_1010
  · replace h := it_f c14 h
    refine V_iconst (v := 0) dL_law_992 (by decide) ?_
    obtain ⟨e21, e22, h⟩ := bd_s h
    cases h
    exact V_retZ e22 rfl dL_law_993
def f_L_law_1079 (G : Gx) (k23 : Hp → Ms → Int32 → Nat → Nat → Option (Int32 × Hp × Ms)) (σ : Hp) (S : Ms) (x4 : Int32) (a3 : Nat) (a1 : Nat) : Option (Int32 × Hp × Ms) :=
  f_L_law_1811 G k23 σ S x4 a3 a1
set_option maxHeartbeats 4000000 in
theorem v_L_law_1079 {l : Launch} {G : Gx} (hst : l.stackTraces = false) (hm : gmo G ≠ 0) (hsc : gst G 4 ≠ 0) {σ0 σe : Hp} {Se : Ms} {r : Int32} {k23 : Hp → Ms → Int32 → Nat → Nat → Option (Int32 × Hp × Ms)} (hk23 : ∀ (σ : Hp) (S : Ms) (x4 : Int32) (a3 : Nat) (a1 : Nat), k23 σ S x4 a3 a1 = some (r, σe, Se) → VV_L_law l G σ0 (.inl (some (pI r))) σe Se 23 [(4, pI x4), (3, pR a3), (0, pR (gst G 4)), (1, pR a1), (2, pR (gmo G))] [] σ S) {σ : Hp} {S : Ms} {x4 : Int32} {a3 : Nat} {a1 : Nat} (h : f_L_law_1079 G k23 σ S x4 a3 a1 = some (r, σe, Se)) : VV_L_law l G σ0 (.inl (some (pI r))) σe Se 1079 [(4, pI x4), (3, pR a3), (0, pR (gst G 4)), (1, pR a1), (2, pR (gmo G))] [] σ S := by
  unfold f_L_law_1079 at h
  refine V_goto 1811 dL_law_1079 (by decide) ?_
  refine V_sub [0, 1, 2, 3, 4] rfl ?_
  exact v_L_law_1811 hst hm hsc hk23 h
def f_L_law_1014 (G : Gx) (k23 : Hp → Ms → Int32 → Nat → Nat → Option (Int32 × Hp × Ms)) (σ : Hp) (S : Ms) (x4 : Int32) (a3 : Nat) (a1 : Nat) : Option (Int32 × Hp × Ms) :=
  bd (scI G (x4 + (1 : Int32))) fun y1 => bd (scI G (x4 + (2 : Int32))) fun y3 => bp (f_X0_blockOf σ a1 y1 y3 a3) fun y5 σ6 => bd (scI G (x4 + (1 : Int32))) fun y8 => bd (scI G (x4 + (2 : Int32))) fun y10 => bp (f_X3_blockOf S y8 y10) fun y12 S13 => bp (f_X3_thrown S13 ) fun y15 S16 => if y15 = y5 then (if y5 = (0 : Int32) then (bd (elI σ6 103 a3 (0 : Int32)) fun y20 => if (lcm9 (y20.toInt64) (y12.toInt64)) = (0 : Int32) then (f_L_law_1079 G k23 σ6 S16 x4 a3 a1) else (bd (okZ (0 : Int32)) fun e23 => some ((0 : Int32), σ6, S16))) else (f_L_law_1079 G k23 σ6 S16 x4 a3 a1)) else (bd (okZ (0 : Int32)) fun e25 => some ((0 : Int32), σ6, S16))
set_option maxHeartbeats 4000000 in
theorem v_L_law_1014 {l : Launch} {G : Gx} (hst : l.stackTraces = false) (hm : gmo G ≠ 0) (hsc : gst G 4 ≠ 0) {σ0 σe : Hp} {Se : Ms} {r : Int32} {k23 : Hp → Ms → Int32 → Nat → Nat → Option (Int32 × Hp × Ms)} (hk23 : ∀ (σ : Hp) (S : Ms) (x4 : Int32) (a3 : Nat) (a1 : Nat), k23 σ S x4 a3 a1 = some (r, σe, Se) → VV_L_law l G σ0 (.inl (some (pI r))) σe Se 23 [(4, pI x4), (3, pR a3), (0, pR (gst G 4)), (1, pR a1), (2, pR (gmo G))] [] σ S) {σ : Hp} {S : Ms} {x4 : Int32} {a3 : Nat} {a1 : Nat} (h : f_L_law_1014 G k23 σ S x4 a3 a1 = some (r, σe, Se)) : VV_L_law l G σ0 (.inl (some (pI r))) σe Se 1014 [(4, pI x4), (3, pR a3), (0, pR (gst G 4)), (1, pR a1), (2, pR (gmo G))] [] σ S := by
  unfold f_L_law_1014 at h
  refine V_aload_n (i := 1) 3 dL_law_1014 rfl rfl ?_
  refine V_aload_n (i := 0) 2 dL_law_1015 rfl rfl ?_
  refine V_iload (i := 4) 0 dL_law_1016 rfl ?_
  refine V_iconst (v := 1) dL_law_1018 (by decide) ?_
  refine V_iadd dL_law_1019 ?_
  obtain ⟨y1, e2, h⟩ := bd_s h
  refine V_scI hsc e2 dL_law_1020 ?_
  refine V_aload_n (i := 0) 2 dL_law_1021 rfl rfl ?_
  refine V_iload (i := 4) 0 dL_law_1022 rfl ?_
  refine V_iconst (v := 2) dL_law_1024 (by decide) ?_
  refine V_iadd dL_law_1025 ?_
  obtain ⟨y3, e4, h⟩ := bd_s h
  refine V_scI hsc e4 dL_law_1026 ?_
  refine V_aload_n (i := 3) 1 dL_law_1027 rfl rfl ?_
  obtain ⟨y5, σ6, e7, h⟩ := bp_s h
  refine V_callSH_v (n9 := 4) [] (v_X0_blockOf l G hst _ e7) rfl rfl (lw_SW q1289 q1290 q75 q1291) (by decide +kernel) (by decide) (Nat.le_of_ble_eq_true rfl) dL_law_1028 ?_
  refine V_istore (i := 5) (L' := [(5, pI y5), (4, pI x4), (3, pR a3), (0, pR (gst G 4)), (1, pR a1), (2, pR (gmo G))]) dL_law_1031 (by decide) rfl ?_
  refine V_aload_n (i := 2) 5 dL_law_1033 rfl rfl ?_
  refine V_aload_n (i := 0) 3 dL_law_1034 rfl rfl ?_
  refine V_iload (i := 4) 1 dL_law_1035 rfl ?_
  refine V_iconst (v := 1) dL_law_1037 (by decide) ?_
  refine V_iadd dL_law_1038 ?_
  obtain ⟨y8, e9, h⟩ := bd_s h
  refine V_scI hsc e9 dL_law_1039 ?_
  refine V_aload_n (i := 0) 3 dL_law_1040 rfl rfl ?_
  refine V_iload (i := 4) 1 dL_law_1041 rfl ?_
  refine V_iconst (v := 2) dL_law_1043 (by decide) ?_
  refine V_iadd dL_law_1044 ?_
  obtain ⟨y10, e11, h⟩ := bd_s h
  refine V_scI hsc e11 dL_law_1045 ?_
  obtain ⟨y12, S13, e14, h⟩ := bp_s h
  refine V_callM_v (n9 := 2) [] hm (v_X3_blockOf l G hst hm _ e14) rfl rfl (lw_V q2265 q2266 q2267 q90 q2268) (by decide +kernel) (by decide) (Nat.le_of_ble_eq_true rfl) dL_law_1046 ?_
  refine V_istore (i := 6) (L' := [(6, pI y12), (5, pI y5), (4, pI x4), (3, pR a3), (0, pR (gst G 4)), (1, pR a1), (2, pR (gmo G))]) dL_law_1049 (by decide) rfl ?_
  refine V_aload_n (i := 2) 6 dL_law_1051 rfl rfl ?_
  obtain ⟨y15, S16, e17, h⟩ := bp_s h
  refine V_callM_v (n9 := 0) [] hm (v_X3_thrown l G hst hm _ e17) rfl rfl (lw_V q2054 q2055 q2056 q90 q2057) (by decide +kernel) (by decide) (Nat.le_of_ble_eq_true rfl) dL_law_1052 ?_
  refine V_iload (i := 5) 1 dL_law_1055 rfl ?_
  refine V_icmp_eq 1062 dL_law_1057 (by decide) (fun c18 => ?_) (fun c18 => ?_)
  · replace h := it_t c18 h
    refine V_iload (i := 5) 1 dL_law_1062 rfl ?_
    refine V_if_ne 1079 dL_law_1064 (by decide) (fun c19 => ?_) (fun c19 => ?_)
    · replace h := it_f c19 h
      refine V_sub [2, 3, 4, 5, 6] rfl ?_
      exact v_L_law_1079 hst hm hsc hk23 h
    · replace h := it_t c19 h
      refine V_aload_n (i := 3) 3 dL_law_1067 rfl rfl ?_
      refine V_iconst (v := 0) dL_law_1068 (by decide) ?_
      obtain ⟨y20, e21, h⟩ := bd_s h
      refine V_elL3 e21 dL_law_1069 ?_
      refine V_iload (i := 6) 0 dL_law_1070 rfl ?_
      refine V_i2l dL_law_1072 ?_
      refine V_lcmp dL_law_1073 ?_
      refine V_if_eq 1079 dL_law_1074 (by decide) (fun c22 => ?_) (fun c22 => ?_)
      · replace h := it_t c22 h
        refine V_sub [2, 3, 4, 5, 6] rfl ?_
        exact v_L_law_1079 hst hm hsc hk23 h
      · replace h := it_f c22 h
        refine V_iconst (v := 0) dL_law_1077 (by decide) ?_
        obtain ⟨e23, e24, h⟩ := bd_s h
        cases h
        exact V_retZ e24 rfl dL_law_1078
  · replace h := it_f c18 h
    refine V_iconst (v := 0) dL_law_1060 (by decide) ?_
    obtain ⟨e25, e26, h⟩ := bd_s h
    cases h
    exact V_retZ e26 rfl dL_law_1061
def f_L_law_1147 (G : Gx) (k23 : Hp → Ms → Int32 → Nat → Nat → Option (Int32 × Hp × Ms)) (σ : Hp) (S : Ms) (x4 : Int32) (a3 : Nat) (a1 : Nat) : Option (Int32 × Hp × Ms) :=
  f_L_law_1811 G k23 σ S x4 a3 a1
set_option maxHeartbeats 4000000 in
theorem v_L_law_1147 {l : Launch} {G : Gx} (hst : l.stackTraces = false) (hm : gmo G ≠ 0) (hsc : gst G 4 ≠ 0) {σ0 σe : Hp} {Se : Ms} {r : Int32} {k23 : Hp → Ms → Int32 → Nat → Nat → Option (Int32 × Hp × Ms)} (hk23 : ∀ (σ : Hp) (S : Ms) (x4 : Int32) (a3 : Nat) (a1 : Nat), k23 σ S x4 a3 a1 = some (r, σe, Se) → VV_L_law l G σ0 (.inl (some (pI r))) σe Se 23 [(4, pI x4), (3, pR a3), (0, pR (gst G 4)), (1, pR a1), (2, pR (gmo G))] [] σ S) {σ : Hp} {S : Ms} {x4 : Int32} {a3 : Nat} {a1 : Nat} (h : f_L_law_1147 G k23 σ S x4 a3 a1 = some (r, σe, Se)) : VV_L_law l G σ0 (.inl (some (pI r))) σe Se 1147 [(4, pI x4), (3, pR a3), (0, pR (gst G 4)), (1, pR a1), (2, pR (gmo G))] [] σ S := by
  unfold f_L_law_1147 at h
  refine V_goto 1811 dL_law_1147 (by decide) ?_
  refine V_sub [0, 1, 2, 3, 4] rfl ?_
  exact v_L_law_1811 hst hm hsc hk23 h
def f_L_law_1082 (G : Gx) (k23 : Hp → Ms → Int32 → Nat → Nat → Option (Int32 × Hp × Ms)) (σ : Hp) (S : Ms) (x4 : Int32) (a3 : Nat) (a1 : Nat) : Option (Int32 × Hp × Ms) :=
  bd (scI G (x4 + (1 : Int32))) fun y1 => bd (scI G (x4 + (2 : Int32))) fun y3 => bp (f_X0_stackOf σ a1 y1 y3 a3) fun y5 σ6 => bd (scI G (x4 + (1 : Int32))) fun y8 => bd (scI G (x4 + (2 : Int32))) fun y10 => bp (f_X3_stackOf S y8 y10) fun y12 S13 => bp (f_X3_thrown S13 ) fun y15 S16 => if y15 = y5 then (if y5 = (0 : Int32) then (bd (elI σ6 103 a3 (0 : Int32)) fun y20 => if (lcm9 (y20.toInt64) (y12.toInt64)) = (0 : Int32) then (f_L_law_1147 G k23 σ6 S16 x4 a3 a1) else (bd (okZ (0 : Int32)) fun e23 => some ((0 : Int32), σ6, S16))) else (f_L_law_1147 G k23 σ6 S16 x4 a3 a1)) else (bd (okZ (0 : Int32)) fun e25 => some ((0 : Int32), σ6, S16))
set_option maxHeartbeats 4000000 in
theorem v_L_law_1082 {l : Launch} {G : Gx} (hst : l.stackTraces = false) (hm : gmo G ≠ 0) (hsc : gst G 4 ≠ 0) {σ0 σe : Hp} {Se : Ms} {r : Int32} {k23 : Hp → Ms → Int32 → Nat → Nat → Option (Int32 × Hp × Ms)} (hk23 : ∀ (σ : Hp) (S : Ms) (x4 : Int32) (a3 : Nat) (a1 : Nat), k23 σ S x4 a3 a1 = some (r, σe, Se) → VV_L_law l G σ0 (.inl (some (pI r))) σe Se 23 [(4, pI x4), (3, pR a3), (0, pR (gst G 4)), (1, pR a1), (2, pR (gmo G))] [] σ S) {σ : Hp} {S : Ms} {x4 : Int32} {a3 : Nat} {a1 : Nat} (h : f_L_law_1082 G k23 σ S x4 a3 a1 = some (r, σe, Se)) : VV_L_law l G σ0 (.inl (some (pI r))) σe Se 1082 [(4, pI x4), (3, pR a3), (0, pR (gst G 4)), (1, pR a1), (2, pR (gmo G))] [] σ S := by
  unfold f_L_law_1082 at h
  refine V_aload_n (i := 1) 3 dL_law_1082 rfl rfl ?_
  refine V_aload_n (i := 0) 2 dL_law_1083 rfl rfl ?_
  refine V_iload (i := 4) 0 dL_law_1084 rfl ?_
  refine V_iconst (v := 1) dL_law_1086 (by decide) ?_
  refine V_iadd dL_law_1087 ?_
  obtain ⟨y1, e2, h⟩ := bd_s h
  refine V_scI hsc e2 dL_law_1088 ?_
  refine V_aload_n (i := 0) 2 dL_law_1089 rfl rfl ?_
  refine V_iload (i := 4) 0 dL_law_1090 rfl ?_
  refine V_iconst (v := 2) dL_law_1092 (by decide) ?_
  refine V_iadd dL_law_1093 ?_
  obtain ⟨y3, e4, h⟩ := bd_s h
  refine V_scI hsc e4 dL_law_1094 ?_
  refine V_aload_n (i := 3) 1 dL_law_1095 rfl rfl ?_
  obtain ⟨y5, σ6, e7, h⟩ := bp_s h
  refine V_callSH_v (n9 := 4) [] (v_X0_stackOf l G hst _ e7) rfl rfl (lw_SW q1300 q1301 q75 q1302) (by decide +kernel) (by decide) (Nat.le_of_ble_eq_true rfl) dL_law_1096 ?_
  refine V_istore (i := 5) (L' := [(5, pI y5), (4, pI x4), (3, pR a3), (0, pR (gst G 4)), (1, pR a1), (2, pR (gmo G))]) dL_law_1099 (by decide) rfl ?_
  refine V_aload_n (i := 2) 5 dL_law_1101 rfl rfl ?_
  refine V_aload_n (i := 0) 3 dL_law_1102 rfl rfl ?_
  refine V_iload (i := 4) 1 dL_law_1103 rfl ?_
  refine V_iconst (v := 1) dL_law_1105 (by decide) ?_
  refine V_iadd dL_law_1106 ?_
  obtain ⟨y8, e9, h⟩ := bd_s h
  refine V_scI hsc e9 dL_law_1107 ?_
  refine V_aload_n (i := 0) 3 dL_law_1108 rfl rfl ?_
  refine V_iload (i := 4) 1 dL_law_1109 rfl ?_
  refine V_iconst (v := 2) dL_law_1111 (by decide) ?_
  refine V_iadd dL_law_1112 ?_
  obtain ⟨y10, e11, h⟩ := bd_s h
  refine V_scI hsc e11 dL_law_1113 ?_
  obtain ⟨y12, S13, e14, h⟩ := bp_s h
  refine V_callM_v (n9 := 2) [] hm (v_X3_stackOf l G hst hm _ e14) rfl rfl (lw_V q2277 q2278 q2279 q90 q2280) (by decide +kernel) (by decide) (Nat.le_of_ble_eq_true rfl) dL_law_1114 ?_
  refine V_istore (i := 6) (L' := [(6, pI y12), (5, pI y5), (4, pI x4), (3, pR a3), (0, pR (gst G 4)), (1, pR a1), (2, pR (gmo G))]) dL_law_1117 (by decide) rfl ?_
  refine V_aload_n (i := 2) 6 dL_law_1119 rfl rfl ?_
  obtain ⟨y15, S16, e17, h⟩ := bp_s h
  refine V_callM_v (n9 := 0) [] hm (v_X3_thrown l G hst hm _ e17) rfl rfl (lw_V q2054 q2055 q2056 q90 q2057) (by decide +kernel) (by decide) (Nat.le_of_ble_eq_true rfl) dL_law_1120 ?_
  refine V_iload (i := 5) 1 dL_law_1123 rfl ?_
  refine V_icmp_eq 1130 dL_law_1125 (by decide) (fun c18 => ?_) (fun c18 => ?_)
  · replace h := it_t c18 h
    refine V_iload (i := 5) 1 dL_law_1130 rfl ?_
    refine V_if_ne 1147 dL_law_1132 (by decide) (fun c19 => ?_) (fun c19 => ?_)
    · replace h := it_f c19 h
      refine V_sub [2, 3, 4, 5, 6] rfl ?_
      exact v_L_law_1147 hst hm hsc hk23 h
    · replace h := it_t c19 h
      refine V_aload_n (i := 3) 3 dL_law_1135 rfl rfl ?_
      refine V_iconst (v := 0) dL_law_1136 (by decide) ?_
      obtain ⟨y20, e21, h⟩ := bd_s h
      refine V_elL3 e21 dL_law_1137 ?_
      refine V_iload (i := 6) 0 dL_law_1138 rfl ?_
      refine V_i2l dL_law_1140 ?_
      refine V_lcmp dL_law_1141 ?_
      refine V_if_eq 1147 dL_law_1142 (by decide) (fun c22 => ?_) (fun c22 => ?_)
      · replace h := it_t c22 h
        refine V_sub [2, 3, 4, 5, 6] rfl ?_
        exact v_L_law_1147 hst hm hsc hk23 h
      · replace h := it_f c22 h
        refine V_iconst (v := 0) dL_law_1145 (by decide) ?_
        obtain ⟨e23, e24, h⟩ := bd_s h
        cases h
        exact V_retZ e24 rfl dL_law_1146
  · replace h := it_f c18 h
    refine V_iconst (v := 0) dL_law_1128 (by decide) ?_
    obtain ⟨e25, e26, h⟩ := bd_s h
    cases h
    exact V_retZ e26 rfl dL_law_1129
def f_L_law_1215 (G : Gx) (k23 : Hp → Ms → Int32 → Nat → Nat → Option (Int32 × Hp × Ms)) (σ : Hp) (S : Ms) (x4 : Int32) (a3 : Nat) (a1 : Nat) : Option (Int32 × Hp × Ms) :=
  f_L_law_1811 G k23 σ S x4 a3 a1
set_option maxHeartbeats 4000000 in
theorem v_L_law_1215 {l : Launch} {G : Gx} (hst : l.stackTraces = false) (hm : gmo G ≠ 0) (hsc : gst G 4 ≠ 0) {σ0 σe : Hp} {Se : Ms} {r : Int32} {k23 : Hp → Ms → Int32 → Nat → Nat → Option (Int32 × Hp × Ms)} (hk23 : ∀ (σ : Hp) (S : Ms) (x4 : Int32) (a3 : Nat) (a1 : Nat), k23 σ S x4 a3 a1 = some (r, σe, Se) → VV_L_law l G σ0 (.inl (some (pI r))) σe Se 23 [(4, pI x4), (3, pR a3), (0, pR (gst G 4)), (1, pR a1), (2, pR (gmo G))] [] σ S) {σ : Hp} {S : Ms} {x4 : Int32} {a3 : Nat} {a1 : Nat} (h : f_L_law_1215 G k23 σ S x4 a3 a1 = some (r, σe, Se)) : VV_L_law l G σ0 (.inl (some (pI r))) σe Se 1215 [(4, pI x4), (3, pR a3), (0, pR (gst G 4)), (1, pR a1), (2, pR (gmo G))] [] σ S := by
  unfold f_L_law_1215 at h
  refine V_goto 1811 dL_law_1215 (by decide) ?_
  refine V_sub [0, 1, 2, 3, 4] rfl ?_
  exact v_L_law_1811 hst hm hsc hk23 h
def f_L_law_1150 (G : Gx) (k23 : Hp → Ms → Int32 → Nat → Nat → Option (Int32 × Hp × Ms)) (σ : Hp) (S : Ms) (x4 : Int32) (a3 : Nat) (a1 : Nat) : Option (Int32 × Hp × Ms) :=
  bd (scI G (x4 + (1 : Int32))) fun y1 => bd (scI G (x4 + (2 : Int32))) fun y3 => bp (f_X0_ranked σ a1 y1 y3 a3) fun y5 σ6 => bd (scI G (x4 + (1 : Int32))) fun y8 => bd (scI G (x4 + (2 : Int32))) fun y10 => bp (f_X3_ranked S y8 y10) fun y12 S13 => bp (f_X3_thrown S13 ) fun y15 S16 => if y15 = y5 then (if y5 = (0 : Int32) then (bd (elI σ6 103 a3 (0 : Int32)) fun y20 => if (lcm9 (y20.toInt64) (y12.toInt64)) = (0 : Int32) then (f_L_law_1215 G k23 σ6 S16 x4 a3 a1) else (bd (okZ (0 : Int32)) fun e23 => some ((0 : Int32), σ6, S16))) else (f_L_law_1215 G k23 σ6 S16 x4 a3 a1)) else (bd (okZ (0 : Int32)) fun e25 => some ((0 : Int32), σ6, S16))
set_option maxHeartbeats 4000000 in
theorem v_L_law_1150 {l : Launch} {G : Gx} (hst : l.stackTraces = false) (hm : gmo G ≠ 0) (hsc : gst G 4 ≠ 0) {σ0 σe : Hp} {Se : Ms} {r : Int32} {k23 : Hp → Ms → Int32 → Nat → Nat → Option (Int32 × Hp × Ms)} (hk23 : ∀ (σ : Hp) (S : Ms) (x4 : Int32) (a3 : Nat) (a1 : Nat), k23 σ S x4 a3 a1 = some (r, σe, Se) → VV_L_law l G σ0 (.inl (some (pI r))) σe Se 23 [(4, pI x4), (3, pR a3), (0, pR (gst G 4)), (1, pR a1), (2, pR (gmo G))] [] σ S) {σ : Hp} {S : Ms} {x4 : Int32} {a3 : Nat} {a1 : Nat} (h : f_L_law_1150 G k23 σ S x4 a3 a1 = some (r, σe, Se)) : VV_L_law l G σ0 (.inl (some (pI r))) σe Se 1150 [(4, pI x4), (3, pR a3), (0, pR (gst G 4)), (1, pR a1), (2, pR (gmo G))] [] σ S := by
  unfold f_L_law_1150 at h
  refine V_aload_n (i := 1) 3 dL_law_1150 rfl rfl ?_
  refine V_aload_n (i := 0) 2 dL_law_1151 rfl rfl ?_
  refine V_iload (i := 4) 0 dL_law_1152 rfl ?_
  refine V_iconst (v := 1) dL_law_1154 (by decide) ?_
  refine V_iadd dL_law_1155 ?_
  obtain ⟨y1, e2, h⟩ := bd_s h
  refine V_scI hsc e2 dL_law_1156 ?_
  refine V_aload_n (i := 0) 2 dL_law_1157 rfl rfl ?_
  refine V_iload (i := 4) 0 dL_law_1158 rfl ?_
  refine V_iconst (v := 2) dL_law_1160 (by decide) ?_
  refine V_iadd dL_law_1161 ?_
  obtain ⟨y3, e4, h⟩ := bd_s h
  refine V_scI hsc e4 dL_law_1162 ?_
  refine V_aload_n (i := 3) 1 dL_law_1163 rfl rfl ?_
  obtain ⟨y5, σ6, e7, h⟩ := bp_s h
  refine V_callSH_v (n9 := 4) [] (v_X0_ranked l G hst _ e7) rfl rfl (lw_SW q1326 q1327 q75 q1328) (by decide +kernel) (by decide) (Nat.le_of_ble_eq_true rfl) dL_law_1164 ?_
  refine V_istore (i := 5) (L' := [(5, pI y5), (4, pI x4), (3, pR a3), (0, pR (gst G 4)), (1, pR a1), (2, pR (gmo G))]) dL_law_1167 (by decide) rfl ?_
  refine V_aload_n (i := 2) 5 dL_law_1169 rfl rfl ?_
  refine V_aload_n (i := 0) 3 dL_law_1170 rfl rfl ?_
  refine V_iload (i := 4) 1 dL_law_1171 rfl ?_
  refine V_iconst (v := 1) dL_law_1173 (by decide) ?_
  refine V_iadd dL_law_1174 ?_
  obtain ⟨y8, e9, h⟩ := bd_s h
  refine V_scI hsc e9 dL_law_1175 ?_
  refine V_aload_n (i := 0) 3 dL_law_1176 rfl rfl ?_
  refine V_iload (i := 4) 1 dL_law_1177 rfl ?_
  refine V_iconst (v := 2) dL_law_1179 (by decide) ?_
  refine V_iadd dL_law_1180 ?_
  obtain ⟨y10, e11, h⟩ := bd_s h
  refine V_scI hsc e11 dL_law_1181 ?_
  obtain ⟨y12, S13, e14, h⟩ := bp_s h
  refine V_callM_v (n9 := 2) [] hm (v_X3_ranked l G hst hm _ e14) rfl rfl (lw_V q2293 q2294 q2295 q90 q2296) (by decide +kernel) (by decide) (Nat.le_of_ble_eq_true rfl) dL_law_1182 ?_
  refine V_istore (i := 6) (L' := [(6, pI y12), (5, pI y5), (4, pI x4), (3, pR a3), (0, pR (gst G 4)), (1, pR a1), (2, pR (gmo G))]) dL_law_1185 (by decide) rfl ?_
  refine V_aload_n (i := 2) 6 dL_law_1187 rfl rfl ?_
  obtain ⟨y15, S16, e17, h⟩ := bp_s h
  refine V_callM_v (n9 := 0) [] hm (v_X3_thrown l G hst hm _ e17) rfl rfl (lw_V q2054 q2055 q2056 q90 q2057) (by decide +kernel) (by decide) (Nat.le_of_ble_eq_true rfl) dL_law_1188 ?_
  refine V_iload (i := 5) 1 dL_law_1191 rfl ?_
  refine V_icmp_eq 1198 dL_law_1193 (by decide) (fun c18 => ?_) (fun c18 => ?_)
  · replace h := it_t c18 h
    refine V_iload (i := 5) 1 dL_law_1198 rfl ?_
    refine V_if_ne 1215 dL_law_1200 (by decide) (fun c19 => ?_) (fun c19 => ?_)
    · replace h := it_f c19 h
      refine V_sub [2, 3, 4, 5, 6] rfl ?_
      exact v_L_law_1215 hst hm hsc hk23 h
    · replace h := it_t c19 h
      refine V_aload_n (i := 3) 3 dL_law_1203 rfl rfl ?_
      refine V_iconst (v := 0) dL_law_1204 (by decide) ?_
      obtain ⟨y20, e21, h⟩ := bd_s h
      refine V_elL3 e21 dL_law_1205 ?_
      refine V_iload (i := 6) 0 dL_law_1206 rfl ?_
      refine V_i2l dL_law_1208 ?_
      refine V_lcmp dL_law_1209 ?_
      refine V_if_eq 1215 dL_law_1210 (by decide) (fun c22 => ?_) (fun c22 => ?_)
      · replace h := it_t c22 h
        refine V_sub [2, 3, 4, 5, 6] rfl ?_
        exact v_L_law_1215 hst hm hsc hk23 h
      · replace h := it_f c22 h
        refine V_iconst (v := 0) dL_law_1213 (by decide) ?_
        obtain ⟨e23, e24, h⟩ := bd_s h
        cases h
        exact V_retZ e24 rfl dL_law_1214
  · replace h := it_f c18 h
    refine V_iconst (v := 0) dL_law_1196 (by decide) ?_
    obtain ⟨e25, e26, h⟩ := bd_s h
    cases h
    exact V_retZ e26 rfl dL_law_1197
def f_L_law_1271 (G : Gx) (k23 : Hp → Ms → Int32 → Nat → Nat → Option (Int32 × Hp × Ms)) (σ : Hp) (S : Ms) (x4 : Int32) (a3 : Nat) (a1 : Nat) : Option (Int32 × Hp × Ms) :=
  f_L_law_1811 G k23 σ S x4 a3 a1
set_option maxHeartbeats 4000000 in
theorem v_L_law_1271 {l : Launch} {G : Gx} (hst : l.stackTraces = false) (hm : gmo G ≠ 0) (hsc : gst G 4 ≠ 0) {σ0 σe : Hp} {Se : Ms} {r : Int32} {k23 : Hp → Ms → Int32 → Nat → Nat → Option (Int32 × Hp × Ms)} (hk23 : ∀ (σ : Hp) (S : Ms) (x4 : Int32) (a3 : Nat) (a1 : Nat), k23 σ S x4 a3 a1 = some (r, σe, Se) → VV_L_law l G σ0 (.inl (some (pI r))) σe Se 23 [(4, pI x4), (3, pR a3), (0, pR (gst G 4)), (1, pR a1), (2, pR (gmo G))] [] σ S) {σ : Hp} {S : Ms} {x4 : Int32} {a3 : Nat} {a1 : Nat} (h : f_L_law_1271 G k23 σ S x4 a3 a1 = some (r, σe, Se)) : VV_L_law l G σ0 (.inl (some (pI r))) σe Se 1271 [(4, pI x4), (3, pR a3), (0, pR (gst G 4)), (1, pR a1), (2, pR (gmo G))] [] σ S := by
  unfold f_L_law_1271 at h
  refine V_goto 1811 dL_law_1271 (by decide) ?_
  refine V_sub [0, 1, 2, 3, 4] rfl ?_
  exact v_L_law_1811 hst hm hsc hk23 h
def f_L_law_1218 (G : Gx) (k23 : Hp → Ms → Int32 → Nat → Nat → Option (Int32 × Hp × Ms)) (σ : Hp) (S : Ms) (x4 : Int32) (a3 : Nat) (a1 : Nat) : Option (Int32 × Hp × Ms) :=
  bd (scI G (x4 + (1 : Int32))) fun y1 => bp (f_X0_lengths σ a1 y1 a3) fun y3 σ4 => bd (scI G (x4 + (1 : Int32))) fun y6 => bp (f_X3_lengths S y6) fun y8 S9 => bp (f_X3_thrown S9 ) fun y11 S12 => if y11 = y3 then (if y3 = (0 : Int32) then (bd (elI σ4 103 a3 (0 : Int32)) fun y16 => if (lcm9 (y16.toInt64) (y8.toInt64)) = (0 : Int32) then (f_L_law_1271 G k23 σ4 S12 x4 a3 a1) else (bd (okZ (0 : Int32)) fun e19 => some ((0 : Int32), σ4, S12))) else (f_L_law_1271 G k23 σ4 S12 x4 a3 a1)) else (bd (okZ (0 : Int32)) fun e21 => some ((0 : Int32), σ4, S12))
set_option maxHeartbeats 4000000 in
theorem v_L_law_1218 {l : Launch} {G : Gx} (hst : l.stackTraces = false) (hm : gmo G ≠ 0) (hsc : gst G 4 ≠ 0) {σ0 σe : Hp} {Se : Ms} {r : Int32} {k23 : Hp → Ms → Int32 → Nat → Nat → Option (Int32 × Hp × Ms)} (hk23 : ∀ (σ : Hp) (S : Ms) (x4 : Int32) (a3 : Nat) (a1 : Nat), k23 σ S x4 a3 a1 = some (r, σe, Se) → VV_L_law l G σ0 (.inl (some (pI r))) σe Se 23 [(4, pI x4), (3, pR a3), (0, pR (gst G 4)), (1, pR a1), (2, pR (gmo G))] [] σ S) {σ : Hp} {S : Ms} {x4 : Int32} {a3 : Nat} {a1 : Nat} (h : f_L_law_1218 G k23 σ S x4 a3 a1 = some (r, σe, Se)) : VV_L_law l G σ0 (.inl (some (pI r))) σe Se 1218 [(4, pI x4), (3, pR a3), (0, pR (gst G 4)), (1, pR a1), (2, pR (gmo G))] [] σ S := by
  unfold f_L_law_1218 at h
  refine V_aload_n (i := 1) 3 dL_law_1218 rfl rfl ?_
  refine V_aload_n (i := 0) 2 dL_law_1219 rfl rfl ?_
  refine V_iload (i := 4) 0 dL_law_1220 rfl ?_
  refine V_iconst (v := 1) dL_law_1222 (by decide) ?_
  refine V_iadd dL_law_1223 ?_
  obtain ⟨y1, e2, h⟩ := bd_s h
  refine V_scI hsc e2 dL_law_1224 ?_
  refine V_aload_n (i := 3) 1 dL_law_1225 rfl rfl ?_
  obtain ⟨y3, σ4, e5, h⟩ := bp_s h
  refine V_callSH_v (n9 := 3) [] (v_X0_lengths l G hst _ e5) rfl rfl (lw_SW q1671 q1672 q75 q1673) (by decide +kernel) (by decide) (Nat.le_of_ble_eq_true rfl) dL_law_1226 ?_
  refine V_istore (i := 5) (L' := [(5, pI y3), (4, pI x4), (3, pR a3), (0, pR (gst G 4)), (1, pR a1), (2, pR (gmo G))]) dL_law_1229 (by decide) rfl ?_
  refine V_aload_n (i := 2) 5 dL_law_1231 rfl rfl ?_
  refine V_aload_n (i := 0) 3 dL_law_1232 rfl rfl ?_
  refine V_iload (i := 4) 1 dL_law_1233 rfl ?_
  refine V_iconst (v := 1) dL_law_1235 (by decide) ?_
  refine V_iadd dL_law_1236 ?_
  obtain ⟨y6, e7, h⟩ := bd_s h
  refine V_scI hsc e7 dL_law_1237 ?_
  obtain ⟨y8, S9, e10, h⟩ := bp_s h
  refine V_callM_v (n9 := 1) [] hm (v_X3_lengths l G hst hm _ e10) rfl rfl (lw_V q2305 q2306 q2307 q90 q2308) (by decide +kernel) (by decide) (Nat.le_of_ble_eq_true rfl) dL_law_1238 ?_
  refine V_istore (i := 6) (L' := [(6, pI y8), (5, pI y3), (4, pI x4), (3, pR a3), (0, pR (gst G 4)), (1, pR a1), (2, pR (gmo G))]) dL_law_1241 (by decide) rfl ?_
  refine V_aload_n (i := 2) 6 dL_law_1243 rfl rfl ?_
  obtain ⟨y11, S12, e13, h⟩ := bp_s h
  refine V_callM_v (n9 := 0) [] hm (v_X3_thrown l G hst hm _ e13) rfl rfl (lw_V q2054 q2055 q2056 q90 q2057) (by decide +kernel) (by decide) (Nat.le_of_ble_eq_true rfl) dL_law_1244 ?_
  refine V_iload (i := 5) 1 dL_law_1247 rfl ?_
  refine V_icmp_eq 1254 dL_law_1249 (by decide) (fun c14 => ?_) (fun c14 => ?_)
  · replace h := it_t c14 h
    refine V_iload (i := 5) 1 dL_law_1254 rfl ?_
    refine V_if_ne 1271 dL_law_1256 (by decide) (fun c15 => ?_) (fun c15 => ?_)
    · replace h := it_f c15 h
      refine V_sub [2, 3, 4, 5, 6] rfl ?_
      exact v_L_law_1271 hst hm hsc hk23 h
    · replace h := it_t c15 h
      refine V_aload_n (i := 3) 3 dL_law_1259 rfl rfl ?_
      refine V_iconst (v := 0) dL_law_1260 (by decide) ?_
      obtain ⟨y16, e17, h⟩ := bd_s h
      refine V_elL3 e17 dL_law_1261 ?_
      refine V_iload (i := 6) 0 dL_law_1262 rfl ?_
      refine V_i2l dL_law_1264 ?_
      refine V_lcmp dL_law_1265 ?_
      refine V_if_eq 1271 dL_law_1266 (by decide) (fun c18 => ?_) (fun c18 => ?_)
      · replace h := it_t c18 h
        refine V_sub [2, 3, 4, 5, 6] rfl ?_
        exact v_L_law_1271 hst hm hsc hk23 h
      · replace h := it_f c18 h
        refine V_iconst (v := 0) dL_law_1269 (by decide) ?_
        obtain ⟨e19, e20, h⟩ := bd_s h
        cases h
        exact V_retZ e20 rfl dL_law_1270
  · replace h := it_f c14 h
    refine V_iconst (v := 0) dL_law_1252 (by decide) ?_
    obtain ⟨e21, e22, h⟩ := bd_s h
    cases h
    exact V_retZ e22 rfl dL_law_1253
def f_L_law_1327 (G : Gx) (k23 : Hp → Ms → Int32 → Nat → Nat → Option (Int32 × Hp × Ms)) (σ : Hp) (S : Ms) (x4 : Int32) (a3 : Nat) (a1 : Nat) : Option (Int32 × Hp × Ms) :=
  f_L_law_1811 G k23 σ S x4 a3 a1
set_option maxHeartbeats 4000000 in
theorem v_L_law_1327 {l : Launch} {G : Gx} (hst : l.stackTraces = false) (hm : gmo G ≠ 0) (hsc : gst G 4 ≠ 0) {σ0 σe : Hp} {Se : Ms} {r : Int32} {k23 : Hp → Ms → Int32 → Nat → Nat → Option (Int32 × Hp × Ms)} (hk23 : ∀ (σ : Hp) (S : Ms) (x4 : Int32) (a3 : Nat) (a1 : Nat), k23 σ S x4 a3 a1 = some (r, σe, Se) → VV_L_law l G σ0 (.inl (some (pI r))) σe Se 23 [(4, pI x4), (3, pR a3), (0, pR (gst G 4)), (1, pR a1), (2, pR (gmo G))] [] σ S) {σ : Hp} {S : Ms} {x4 : Int32} {a3 : Nat} {a1 : Nat} (h : f_L_law_1327 G k23 σ S x4 a3 a1 = some (r, σe, Se)) : VV_L_law l G σ0 (.inl (some (pI r))) σe Se 1327 [(4, pI x4), (3, pR a3), (0, pR (gst G 4)), (1, pR a1), (2, pR (gmo G))] [] σ S := by
  unfold f_L_law_1327 at h
  refine V_goto 1811 dL_law_1327 (by decide) ?_
  refine V_sub [0, 1, 2, 3, 4] rfl ?_
  exact v_L_law_1811 hst hm hsc hk23 h
def f_L_law_1274 (G : Gx) (k23 : Hp → Ms → Int32 → Nat → Nat → Option (Int32 × Hp × Ms)) (σ : Hp) (S : Ms) (x4 : Int32) (a3 : Nat) (a1 : Nat) : Option (Int32 × Hp × Ms) :=
  bd (scI G (x4 + (1 : Int32))) fun y1 => bp (f_X0_count σ a1 y1 a3) fun y3 σ4 => bd (scI G (x4 + (1 : Int32))) fun y6 => bp (f_X3_count S y6) fun y8 S9 => bp (f_X3_thrown S9 ) fun y11 S12 => if y11 = y3 then (if y3 = (0 : Int32) then (bd (elI σ4 103 a3 (0 : Int32)) fun y16 => if (lcm9 (y16.toInt64) (y8.toInt64)) = (0 : Int32) then (f_L_law_1327 G k23 σ4 S12 x4 a3 a1) else (bd (okZ (0 : Int32)) fun e19 => some ((0 : Int32), σ4, S12))) else (f_L_law_1327 G k23 σ4 S12 x4 a3 a1)) else (bd (okZ (0 : Int32)) fun e21 => some ((0 : Int32), σ4, S12))
set_option maxHeartbeats 4000000 in
theorem v_L_law_1274 {l : Launch} {G : Gx} (hst : l.stackTraces = false) (hm : gmo G ≠ 0) (hsc : gst G 4 ≠ 0) {σ0 σe : Hp} {Se : Ms} {r : Int32} {k23 : Hp → Ms → Int32 → Nat → Nat → Option (Int32 × Hp × Ms)} (hk23 : ∀ (σ : Hp) (S : Ms) (x4 : Int32) (a3 : Nat) (a1 : Nat), k23 σ S x4 a3 a1 = some (r, σe, Se) → VV_L_law l G σ0 (.inl (some (pI r))) σe Se 23 [(4, pI x4), (3, pR a3), (0, pR (gst G 4)), (1, pR a1), (2, pR (gmo G))] [] σ S) {σ : Hp} {S : Ms} {x4 : Int32} {a3 : Nat} {a1 : Nat} (h : f_L_law_1274 G k23 σ S x4 a3 a1 = some (r, σe, Se)) : VV_L_law l G σ0 (.inl (some (pI r))) σe Se 1274 [(4, pI x4), (3, pR a3), (0, pR (gst G 4)), (1, pR a1), (2, pR (gmo G))] [] σ S := by
  unfold f_L_law_1274 at h
  refine V_aload_n (i := 1) 3 dL_law_1274 rfl rfl ?_
  refine V_aload_n (i := 0) 2 dL_law_1275 rfl rfl ?_
  refine V_iload (i := 4) 0 dL_law_1276 rfl ?_
  refine V_iconst (v := 1) dL_law_1278 (by decide) ?_
  refine V_iadd dL_law_1279 ?_
  obtain ⟨y1, e2, h⟩ := bd_s h
  refine V_scI hsc e2 dL_law_1280 ?_
  refine V_aload_n (i := 3) 1 dL_law_1281 rfl rfl ?_
  obtain ⟨y3, σ4, e5, h⟩ := bp_s h
  refine V_callSH_v (n9 := 3) [] (v_X0_count l G hst _ e5) rfl rfl (lw_SW q1910 q1911 q75 q1912) (by decide +kernel) (by decide) (Nat.le_of_ble_eq_true rfl) dL_law_1282 ?_
  refine V_istore (i := 5) (L' := [(5, pI y3), (4, pI x4), (3, pR a3), (0, pR (gst G 4)), (1, pR a1), (2, pR (gmo G))]) dL_law_1285 (by decide) rfl ?_
  refine V_aload_n (i := 2) 5 dL_law_1287 rfl rfl ?_
  refine V_aload_n (i := 0) 3 dL_law_1288 rfl rfl ?_
  refine V_iload (i := 4) 1 dL_law_1289 rfl ?_
  refine V_iconst (v := 1) dL_law_1291 (by decide) ?_
  refine V_iadd dL_law_1292 ?_
  obtain ⟨y6, e7, h⟩ := bd_s h
  refine V_scI hsc e7 dL_law_1293 ?_
  obtain ⟨y8, S9, e10, h⟩ := bp_s h
  refine V_callM_v (n9 := 1) [] hm (v_X3_count l G hst hm _ e10) rfl rfl (lw_V q2317 q2318 q2319 q90 q2320) (by decide +kernel) (by decide) (Nat.le_of_ble_eq_true rfl) dL_law_1294 ?_
  refine V_istore (i := 6) (L' := [(6, pI y8), (5, pI y3), (4, pI x4), (3, pR a3), (0, pR (gst G 4)), (1, pR a1), (2, pR (gmo G))]) dL_law_1297 (by decide) rfl ?_
  refine V_aload_n (i := 2) 6 dL_law_1299 rfl rfl ?_
  obtain ⟨y11, S12, e13, h⟩ := bp_s h
  refine V_callM_v (n9 := 0) [] hm (v_X3_thrown l G hst hm _ e13) rfl rfl (lw_V q2054 q2055 q2056 q90 q2057) (by decide +kernel) (by decide) (Nat.le_of_ble_eq_true rfl) dL_law_1300 ?_
  refine V_iload (i := 5) 1 dL_law_1303 rfl ?_
  refine V_icmp_eq 1310 dL_law_1305 (by decide) (fun c14 => ?_) (fun c14 => ?_)
  · replace h := it_t c14 h
    refine V_iload (i := 5) 1 dL_law_1310 rfl ?_
    refine V_if_ne 1327 dL_law_1312 (by decide) (fun c15 => ?_) (fun c15 => ?_)
    · replace h := it_f c15 h
      refine V_sub [2, 3, 4, 5, 6] rfl ?_
      exact v_L_law_1327 hst hm hsc hk23 h
    · replace h := it_t c15 h
      refine V_aload_n (i := 3) 3 dL_law_1315 rfl rfl ?_
      refine V_iconst (v := 0) dL_law_1316 (by decide) ?_
      obtain ⟨y16, e17, h⟩ := bd_s h
      refine V_elL3 e17 dL_law_1317 ?_
      refine V_iload (i := 6) 0 dL_law_1318 rfl ?_
      refine V_i2l dL_law_1320 ?_
      refine V_lcmp dL_law_1321 ?_
      refine V_if_eq 1327 dL_law_1322 (by decide) (fun c18 => ?_) (fun c18 => ?_)
      · replace h := it_t c18 h
        refine V_sub [2, 3, 4, 5, 6] rfl ?_
        exact v_L_law_1327 hst hm hsc hk23 h
      · replace h := it_f c18 h
        refine V_iconst (v := 0) dL_law_1325 (by decide) ?_
        obtain ⟨e19, e20, h⟩ := bd_s h
        cases h
        exact V_retZ e20 rfl dL_law_1326
  · replace h := it_f c14 h
    refine V_iconst (v := 0) dL_law_1308 (by decide) ?_
    obtain ⟨e21, e22, h⟩ := bd_s h
    cases h
    exact V_retZ e22 rfl dL_law_1309
def f_L_law_1383 (G : Gx) (k23 : Hp → Ms → Int32 → Nat → Nat → Option (Int32 × Hp × Ms)) (σ : Hp) (S : Ms) (x4 : Int32) (a3 : Nat) (a1 : Nat) : Option (Int32 × Hp × Ms) :=
  f_L_law_1811 G k23 σ S x4 a3 a1
set_option maxHeartbeats 4000000 in
theorem v_L_law_1383 {l : Launch} {G : Gx} (hst : l.stackTraces = false) (hm : gmo G ≠ 0) (hsc : gst G 4 ≠ 0) {σ0 σe : Hp} {Se : Ms} {r : Int32} {k23 : Hp → Ms → Int32 → Nat → Nat → Option (Int32 × Hp × Ms)} (hk23 : ∀ (σ : Hp) (S : Ms) (x4 : Int32) (a3 : Nat) (a1 : Nat), k23 σ S x4 a3 a1 = some (r, σe, Se) → VV_L_law l G σ0 (.inl (some (pI r))) σe Se 23 [(4, pI x4), (3, pR a3), (0, pR (gst G 4)), (1, pR a1), (2, pR (gmo G))] [] σ S) {σ : Hp} {S : Ms} {x4 : Int32} {a3 : Nat} {a1 : Nat} (h : f_L_law_1383 G k23 σ S x4 a3 a1 = some (r, σe, Se)) : VV_L_law l G σ0 (.inl (some (pI r))) σe Se 1383 [(4, pI x4), (3, pR a3), (0, pR (gst G 4)), (1, pR a1), (2, pR (gmo G))] [] σ S := by
  unfold f_L_law_1383 at h
  refine V_goto 1811 dL_law_1383 (by decide) ?_
  refine V_sub [0, 1, 2, 3, 4] rfl ?_
  exact v_L_law_1811 hst hm hsc hk23 h
def f_L_law_1330 (G : Gx) (k23 : Hp → Ms → Int32 → Nat → Nat → Option (Int32 × Hp × Ms)) (σ : Hp) (S : Ms) (x4 : Int32) (a3 : Nat) (a1 : Nat) : Option (Int32 × Hp × Ms) :=
  bd (scI G (x4 + (1 : Int32))) fun y1 => bp (f_X0_setting σ a1 y1 a3) fun y3 σ4 => bd (scI G (x4 + (1 : Int32))) fun y6 => bp (f_X3_setting S y6) fun y8 S9 => bp (f_X3_thrown S9 ) fun y11 S12 => if y11 = y3 then (if y3 = (0 : Int32) then (bd (elI σ4 103 a3 (0 : Int32)) fun y16 => if (lcm9 (y16.toInt64) (y8.toInt64)) = (0 : Int32) then (f_L_law_1383 G k23 σ4 S12 x4 a3 a1) else (bd (okZ (0 : Int32)) fun e19 => some ((0 : Int32), σ4, S12))) else (f_L_law_1383 G k23 σ4 S12 x4 a3 a1)) else (bd (okZ (0 : Int32)) fun e21 => some ((0 : Int32), σ4, S12))
set_option maxHeartbeats 4000000 in
theorem v_L_law_1330 {l : Launch} {G : Gx} (hst : l.stackTraces = false) (hm : gmo G ≠ 0) (hsc : gst G 4 ≠ 0) {σ0 σe : Hp} {Se : Ms} {r : Int32} {k23 : Hp → Ms → Int32 → Nat → Nat → Option (Int32 × Hp × Ms)} (hk23 : ∀ (σ : Hp) (S : Ms) (x4 : Int32) (a3 : Nat) (a1 : Nat), k23 σ S x4 a3 a1 = some (r, σe, Se) → VV_L_law l G σ0 (.inl (some (pI r))) σe Se 23 [(4, pI x4), (3, pR a3), (0, pR (gst G 4)), (1, pR a1), (2, pR (gmo G))] [] σ S) {σ : Hp} {S : Ms} {x4 : Int32} {a3 : Nat} {a1 : Nat} (h : f_L_law_1330 G k23 σ S x4 a3 a1 = some (r, σe, Se)) : VV_L_law l G σ0 (.inl (some (pI r))) σe Se 1330 [(4, pI x4), (3, pR a3), (0, pR (gst G 4)), (1, pR a1), (2, pR (gmo G))] [] σ S := by
  unfold f_L_law_1330 at h
  refine V_aload_n (i := 1) 3 dL_law_1330 rfl rfl ?_
  refine V_aload_n (i := 0) 2 dL_law_1331 rfl rfl ?_
  refine V_iload (i := 4) 0 dL_law_1332 rfl ?_
  refine V_iconst (v := 1) dL_law_1334 (by decide) ?_
  refine V_iadd dL_law_1335 ?_
  obtain ⟨y1, e2, h⟩ := bd_s h
  refine V_scI hsc e2 dL_law_1336 ?_
  refine V_aload_n (i := 3) 1 dL_law_1337 rfl rfl ?_
  obtain ⟨y3, σ4, e5, h⟩ := bp_s h
  refine V_callSH_v (n9 := 3) [] (v_X0_setting l G hst _ e5) rfl rfl (lw_SW q1918 q1919 q75 q1920) (by decide +kernel) (by decide) (Nat.le_of_ble_eq_true rfl) dL_law_1338 ?_
  refine V_istore (i := 5) (L' := [(5, pI y3), (4, pI x4), (3, pR a3), (0, pR (gst G 4)), (1, pR a1), (2, pR (gmo G))]) dL_law_1341 (by decide) rfl ?_
  refine V_aload_n (i := 2) 5 dL_law_1343 rfl rfl ?_
  refine V_aload_n (i := 0) 3 dL_law_1344 rfl rfl ?_
  refine V_iload (i := 4) 1 dL_law_1345 rfl ?_
  refine V_iconst (v := 1) dL_law_1347 (by decide) ?_
  refine V_iadd dL_law_1348 ?_
  obtain ⟨y6, e7, h⟩ := bd_s h
  refine V_scI hsc e7 dL_law_1349 ?_
  obtain ⟨y8, S9, e10, h⟩ := bp_s h
  refine V_callM_v (n9 := 1) [] hm (v_X3_setting l G hst hm _ e10) rfl rfl (lw_V q2337 q2338 q2339 q90 q2340) (by decide +kernel) (by decide) (Nat.le_of_ble_eq_true rfl) dL_law_1350 ?_
  refine V_istore (i := 6) (L' := [(6, pI y8), (5, pI y3), (4, pI x4), (3, pR a3), (0, pR (gst G 4)), (1, pR a1), (2, pR (gmo G))]) dL_law_1353 (by decide) rfl ?_
  refine V_aload_n (i := 2) 6 dL_law_1355 rfl rfl ?_
  obtain ⟨y11, S12, e13, h⟩ := bp_s h
  refine V_callM_v (n9 := 0) [] hm (v_X3_thrown l G hst hm _ e13) rfl rfl (lw_V q2054 q2055 q2056 q90 q2057) (by decide +kernel) (by decide) (Nat.le_of_ble_eq_true rfl) dL_law_1356 ?_
  refine V_iload (i := 5) 1 dL_law_1359 rfl ?_
  refine V_icmp_eq 1366 dL_law_1361 (by decide) (fun c14 => ?_) (fun c14 => ?_)
  · replace h := it_t c14 h
    refine V_iload (i := 5) 1 dL_law_1366 rfl ?_
    refine V_if_ne 1383 dL_law_1368 (by decide) (fun c15 => ?_) (fun c15 => ?_)
    · replace h := it_f c15 h
      refine V_sub [2, 3, 4, 5, 6] rfl ?_
      exact v_L_law_1383 hst hm hsc hk23 h
    · replace h := it_t c15 h
      refine V_aload_n (i := 3) 3 dL_law_1371 rfl rfl ?_
      refine V_iconst (v := 0) dL_law_1372 (by decide) ?_
      obtain ⟨y16, e17, h⟩ := bd_s h
      refine V_elL3 e17 dL_law_1373 ?_
      refine V_iload (i := 6) 0 dL_law_1374 rfl ?_
      refine V_i2l dL_law_1376 ?_
      refine V_lcmp dL_law_1377 ?_
      refine V_if_eq 1383 dL_law_1378 (by decide) (fun c18 => ?_) (fun c18 => ?_)
      · replace h := it_t c18 h
        refine V_sub [2, 3, 4, 5, 6] rfl ?_
        exact v_L_law_1383 hst hm hsc hk23 h
      · replace h := it_f c18 h
        refine V_iconst (v := 0) dL_law_1381 (by decide) ?_
        obtain ⟨e19, e20, h⟩ := bd_s h
        cases h
        exact V_retZ e20 rfl dL_law_1382
  · replace h := it_f c14 h
    refine V_iconst (v := 0) dL_law_1364 (by decide) ?_
    obtain ⟨e21, e22, h⟩ := bd_s h
    cases h
    exact V_retZ e22 rfl dL_law_1365
def f_L_law_1451 (G : Gx) (k23 : Hp → Ms → Int32 → Nat → Nat → Option (Int32 × Hp × Ms)) (σ : Hp) (S : Ms) (x4 : Int32) (a3 : Nat) (a1 : Nat) : Option (Int32 × Hp × Ms) :=
  f_L_law_1811 G k23 σ S x4 a3 a1
set_option maxHeartbeats 4000000 in
theorem v_L_law_1451 {l : Launch} {G : Gx} (hst : l.stackTraces = false) (hm : gmo G ≠ 0) (hsc : gst G 4 ≠ 0) {σ0 σe : Hp} {Se : Ms} {r : Int32} {k23 : Hp → Ms → Int32 → Nat → Nat → Option (Int32 × Hp × Ms)} (hk23 : ∀ (σ : Hp) (S : Ms) (x4 : Int32) (a3 : Nat) (a1 : Nat), k23 σ S x4 a3 a1 = some (r, σe, Se) → VV_L_law l G σ0 (.inl (some (pI r))) σe Se 23 [(4, pI x4), (3, pR a3), (0, pR (gst G 4)), (1, pR a1), (2, pR (gmo G))] [] σ S) {σ : Hp} {S : Ms} {x4 : Int32} {a3 : Nat} {a1 : Nat} (h : f_L_law_1451 G k23 σ S x4 a3 a1 = some (r, σe, Se)) : VV_L_law l G σ0 (.inl (some (pI r))) σe Se 1451 [(4, pI x4), (3, pR a3), (0, pR (gst G 4)), (1, pR a1), (2, pR (gmo G))] [] σ S := by
  unfold f_L_law_1451 at h
  refine V_goto 1811 dL_law_1451 (by decide) ?_
  refine V_sub [0, 1, 2, 3, 4] rfl ?_
  exact v_L_law_1811 hst hm hsc hk23 h
def f_L_law_1386 (G : Gx) (k23 : Hp → Ms → Int32 → Nat → Nat → Option (Int32 × Hp × Ms)) (σ : Hp) (S : Ms) (x4 : Int32) (a3 : Nat) (a1 : Nat) : Option (Int32 × Hp × Ms) :=
  bd (scI G (x4 + (1 : Int32))) fun y1 => bd (scI G (x4 + (2 : Int32))) fun y3 => bp (f_X0_refusal σ a1 y1 y3 a3) fun y5 σ6 => bd (scI G (x4 + (1 : Int32))) fun y8 => bd (scI G (x4 + (2 : Int32))) fun y10 => bp (f_X3_refusal S y8 y10) fun y12 S13 => bp (f_X3_thrown S13 ) fun y15 S16 => if y15 = y5 then (if y5 = (0 : Int32) then (bd (elI σ6 103 a3 (0 : Int32)) fun y20 => if (lcm9 (y20.toInt64) (y12.toInt64)) = (0 : Int32) then (f_L_law_1451 G k23 σ6 S16 x4 a3 a1) else (bd (okZ (0 : Int32)) fun e23 => some ((0 : Int32), σ6, S16))) else (f_L_law_1451 G k23 σ6 S16 x4 a3 a1)) else (bd (okZ (0 : Int32)) fun e25 => some ((0 : Int32), σ6, S16))
set_option maxHeartbeats 4000000 in
theorem v_L_law_1386 {l : Launch} {G : Gx} (hst : l.stackTraces = false) (hm : gmo G ≠ 0) (hsc : gst G 4 ≠ 0) {σ0 σe : Hp} {Se : Ms} {r : Int32} {k23 : Hp → Ms → Int32 → Nat → Nat → Option (Int32 × Hp × Ms)} (hk23 : ∀ (σ : Hp) (S : Ms) (x4 : Int32) (a3 : Nat) (a1 : Nat), k23 σ S x4 a3 a1 = some (r, σe, Se) → VV_L_law l G σ0 (.inl (some (pI r))) σe Se 23 [(4, pI x4), (3, pR a3), (0, pR (gst G 4)), (1, pR a1), (2, pR (gmo G))] [] σ S) {σ : Hp} {S : Ms} {x4 : Int32} {a3 : Nat} {a1 : Nat} (h : f_L_law_1386 G k23 σ S x4 a3 a1 = some (r, σe, Se)) : VV_L_law l G σ0 (.inl (some (pI r))) σe Se 1386 [(4, pI x4), (3, pR a3), (0, pR (gst G 4)), (1, pR a1), (2, pR (gmo G))] [] σ S := by
  unfold f_L_law_1386 at h
  refine V_aload_n (i := 1) 3 dL_law_1386 rfl rfl ?_
  refine V_aload_n (i := 0) 2 dL_law_1387 rfl rfl ?_
  refine V_iload (i := 4) 0 dL_law_1388 rfl ?_
  refine V_iconst (v := 1) dL_law_1390 (by decide) ?_
  refine V_iadd dL_law_1391 ?_
  obtain ⟨y1, e2, h⟩ := bd_s h
  refine V_scI hsc e2 dL_law_1392 ?_
  refine V_aload_n (i := 0) 2 dL_law_1393 rfl rfl ?_
  refine V_iload (i := 4) 0 dL_law_1394 rfl ?_
  refine V_iconst (v := 2) dL_law_1396 (by decide) ?_
  refine V_iadd dL_law_1397 ?_
  obtain ⟨y3, e4, h⟩ := bd_s h
  refine V_scI hsc e4 dL_law_1398 ?_
  refine V_aload_n (i := 3) 1 dL_law_1399 rfl rfl ?_
  obtain ⟨y5, σ6, e7, h⟩ := bp_s h
  refine V_callSH_v (n9 := 4) [] (v_X0_refusal l G hst _ e7) rfl rfl (lw_SW q1925 q1926 q75 q1927) (by decide +kernel) (by decide) (Nat.le_of_ble_eq_true rfl) dL_law_1400 ?_
  refine V_istore (i := 5) (L' := [(5, pI y5), (4, pI x4), (3, pR a3), (0, pR (gst G 4)), (1, pR a1), (2, pR (gmo G))]) dL_law_1403 (by decide) rfl ?_
  refine V_aload_n (i := 2) 5 dL_law_1405 rfl rfl ?_
  refine V_aload_n (i := 0) 3 dL_law_1406 rfl rfl ?_
  refine V_iload (i := 4) 1 dL_law_1407 rfl ?_
  refine V_iconst (v := 1) dL_law_1409 (by decide) ?_
  refine V_iadd dL_law_1410 ?_
  obtain ⟨y8, e9, h⟩ := bd_s h
  refine V_scI hsc e9 dL_law_1411 ?_
  refine V_aload_n (i := 0) 3 dL_law_1412 rfl rfl ?_
  refine V_iload (i := 4) 1 dL_law_1413 rfl ?_
  refine V_iconst (v := 2) dL_law_1415 (by decide) ?_
  refine V_iadd dL_law_1416 ?_
  obtain ⟨y10, e11, h⟩ := bd_s h
  refine V_scI hsc e11 dL_law_1417 ?_
  obtain ⟨y12, S13, e14, h⟩ := bp_s h
  refine V_callM_v (n9 := 2) [] hm (v_X3_refusal l G hst hm _ e14) rfl rfl (lw_V q2341 q2342 q2343 q90 q2344) (by decide +kernel) (by decide) (Nat.le_of_ble_eq_true rfl) dL_law_1418 ?_
  refine V_istore (i := 6) (L' := [(6, pI y12), (5, pI y5), (4, pI x4), (3, pR a3), (0, pR (gst G 4)), (1, pR a1), (2, pR (gmo G))]) dL_law_1421 (by decide) rfl ?_
  refine V_aload_n (i := 2) 6 dL_law_1423 rfl rfl ?_
  obtain ⟨y15, S16, e17, h⟩ := bp_s h
  refine V_callM_v (n9 := 0) [] hm (v_X3_thrown l G hst hm _ e17) rfl rfl (lw_V q2054 q2055 q2056 q90 q2057) (by decide +kernel) (by decide) (Nat.le_of_ble_eq_true rfl) dL_law_1424 ?_
  refine V_iload (i := 5) 1 dL_law_1427 rfl ?_
  refine V_icmp_eq 1434 dL_law_1429 (by decide) (fun c18 => ?_) (fun c18 => ?_)
  · replace h := it_t c18 h
    refine V_iload (i := 5) 1 dL_law_1434 rfl ?_
    refine V_if_ne 1451 dL_law_1436 (by decide) (fun c19 => ?_) (fun c19 => ?_)
    · replace h := it_f c19 h
      refine V_sub [2, 3, 4, 5, 6] rfl ?_
      exact v_L_law_1451 hst hm hsc hk23 h
    · replace h := it_t c19 h
      refine V_aload_n (i := 3) 3 dL_law_1439 rfl rfl ?_
      refine V_iconst (v := 0) dL_law_1440 (by decide) ?_
      obtain ⟨y20, e21, h⟩ := bd_s h
      refine V_elL3 e21 dL_law_1441 ?_
      refine V_iload (i := 6) 0 dL_law_1442 rfl ?_
      refine V_i2l dL_law_1444 ?_
      refine V_lcmp dL_law_1445 ?_
      refine V_if_eq 1451 dL_law_1446 (by decide) (fun c22 => ?_) (fun c22 => ?_)
      · replace h := it_t c22 h
        refine V_sub [2, 3, 4, 5, 6] rfl ?_
        exact v_L_law_1451 hst hm hsc hk23 h
      · replace h := it_f c22 h
        refine V_iconst (v := 0) dL_law_1449 (by decide) ?_
        obtain ⟨e23, e24, h⟩ := bd_s h
        cases h
        exact V_retZ e24 rfl dL_law_1450
  · replace h := it_f c18 h
    refine V_iconst (v := 0) dL_law_1432 (by decide) ?_
    obtain ⟨e25, e26, h⟩ := bd_s h
    cases h
    exact V_retZ e26 rfl dL_law_1433
def f_L_law_1519 (G : Gx) (k23 : Hp → Ms → Int32 → Nat → Nat → Option (Int32 × Hp × Ms)) (σ : Hp) (S : Ms) (x4 : Int32) (a3 : Nat) (a1 : Nat) : Option (Int32 × Hp × Ms) :=
  f_L_law_1811 G k23 σ S x4 a3 a1
set_option maxHeartbeats 4000000 in
theorem v_L_law_1519 {l : Launch} {G : Gx} (hst : l.stackTraces = false) (hm : gmo G ≠ 0) (hsc : gst G 4 ≠ 0) {σ0 σe : Hp} {Se : Ms} {r : Int32} {k23 : Hp → Ms → Int32 → Nat → Nat → Option (Int32 × Hp × Ms)} (hk23 : ∀ (σ : Hp) (S : Ms) (x4 : Int32) (a3 : Nat) (a1 : Nat), k23 σ S x4 a3 a1 = some (r, σe, Se) → VV_L_law l G σ0 (.inl (some (pI r))) σe Se 23 [(4, pI x4), (3, pR a3), (0, pR (gst G 4)), (1, pR a1), (2, pR (gmo G))] [] σ S) {σ : Hp} {S : Ms} {x4 : Int32} {a3 : Nat} {a1 : Nat} (h : f_L_law_1519 G k23 σ S x4 a3 a1 = some (r, σe, Se)) : VV_L_law l G σ0 (.inl (some (pI r))) σe Se 1519 [(4, pI x4), (3, pR a3), (0, pR (gst G 4)), (1, pR a1), (2, pR (gmo G))] [] σ S := by
  unfold f_L_law_1519 at h
  refine V_goto 1811 dL_law_1519 (by decide) ?_
  refine V_sub [0, 1, 2, 3, 4] rfl ?_
  exact v_L_law_1811 hst hm hsc hk23 h
def f_L_law_1454 (G : Gx) (k23 : Hp → Ms → Int32 → Nat → Nat → Option (Int32 × Hp × Ms)) (σ : Hp) (S : Ms) (x4 : Int32) (a3 : Nat) (a1 : Nat) : Option (Int32 × Hp × Ms) :=
  bd (scI G (x4 + (1 : Int32))) fun y1 => bd (scI G (x4 + (2 : Int32))) fun y3 => bp (f_X0_fewest σ a1 y1 y3 a3) fun y5 σ6 => bd (scI G (x4 + (1 : Int32))) fun y8 => bd (scI G (x4 + (2 : Int32))) fun y10 => bp (f_X3_fewest S y8 y10) fun y12 S13 => bp (f_X3_thrown S13 ) fun y15 S16 => if y15 = y5 then (if y5 = (0 : Int32) then (bd (elI σ6 103 a3 (0 : Int32)) fun y20 => if (lcm9 (y20.toInt64) (y12.toInt64)) = (0 : Int32) then (f_L_law_1519 G k23 σ6 S16 x4 a3 a1) else (bd (okZ (0 : Int32)) fun e23 => some ((0 : Int32), σ6, S16))) else (f_L_law_1519 G k23 σ6 S16 x4 a3 a1)) else (bd (okZ (0 : Int32)) fun e25 => some ((0 : Int32), σ6, S16))
set_option maxHeartbeats 4000000 in
theorem v_L_law_1454 {l : Launch} {G : Gx} (hst : l.stackTraces = false) (hm : gmo G ≠ 0) (hsc : gst G 4 ≠ 0) {σ0 σe : Hp} {Se : Ms} {r : Int32} {k23 : Hp → Ms → Int32 → Nat → Nat → Option (Int32 × Hp × Ms)} (hk23 : ∀ (σ : Hp) (S : Ms) (x4 : Int32) (a3 : Nat) (a1 : Nat), k23 σ S x4 a3 a1 = some (r, σe, Se) → VV_L_law l G σ0 (.inl (some (pI r))) σe Se 23 [(4, pI x4), (3, pR a3), (0, pR (gst G 4)), (1, pR a1), (2, pR (gmo G))] [] σ S) {σ : Hp} {S : Ms} {x4 : Int32} {a3 : Nat} {a1 : Nat} (h : f_L_law_1454 G k23 σ S x4 a3 a1 = some (r, σe, Se)) : VV_L_law l G σ0 (.inl (some (pI r))) σe Se 1454 [(4, pI x4), (3, pR a3), (0, pR (gst G 4)), (1, pR a1), (2, pR (gmo G))] [] σ S := by
  unfold f_L_law_1454 at h
  refine V_aload_n (i := 1) 3 dL_law_1454 rfl rfl ?_
  refine V_aload_n (i := 0) 2 dL_law_1455 rfl rfl ?_
  refine V_iload (i := 4) 0 dL_law_1456 rfl ?_
  refine V_iconst (v := 1) dL_law_1458 (by decide) ?_
  refine V_iadd dL_law_1459 ?_
  obtain ⟨y1, e2, h⟩ := bd_s h
  refine V_scI hsc e2 dL_law_1460 ?_
  refine V_aload_n (i := 0) 2 dL_law_1461 rfl rfl ?_
  refine V_iload (i := 4) 0 dL_law_1462 rfl ?_
  refine V_iconst (v := 2) dL_law_1464 (by decide) ?_
  refine V_iadd dL_law_1465 ?_
  obtain ⟨y3, e4, h⟩ := bd_s h
  refine V_scI hsc e4 dL_law_1466 ?_
  refine V_aload_n (i := 3) 1 dL_law_1467 rfl rfl ?_
  obtain ⟨y5, σ6, e7, h⟩ := bp_s h
  refine V_callSH_v (n9 := 4) [] (v_X0_fewest l G hst _ e7) rfl rfl (lw_SW q1933 q1934 q75 q1935) (by decide +kernel) (by decide) (Nat.le_of_ble_eq_true rfl) dL_law_1468 ?_
  refine V_istore (i := 5) (L' := [(5, pI y5), (4, pI x4), (3, pR a3), (0, pR (gst G 4)), (1, pR a1), (2, pR (gmo G))]) dL_law_1471 (by decide) rfl ?_
  refine V_aload_n (i := 2) 5 dL_law_1473 rfl rfl ?_
  refine V_aload_n (i := 0) 3 dL_law_1474 rfl rfl ?_
  refine V_iload (i := 4) 1 dL_law_1475 rfl ?_
  refine V_iconst (v := 1) dL_law_1477 (by decide) ?_
  refine V_iadd dL_law_1478 ?_
  obtain ⟨y8, e9, h⟩ := bd_s h
  refine V_scI hsc e9 dL_law_1479 ?_
  refine V_aload_n (i := 0) 3 dL_law_1480 rfl rfl ?_
  refine V_iload (i := 4) 1 dL_law_1481 rfl ?_
  refine V_iconst (v := 2) dL_law_1483 (by decide) ?_
  refine V_iadd dL_law_1484 ?_
  obtain ⟨y10, e11, h⟩ := bd_s h
  refine V_scI hsc e11 dL_law_1485 ?_
  obtain ⟨y12, S13, e14, h⟩ := bp_s h
  refine V_callM_v (n9 := 2) [] hm (v_X3_fewest l G hst hm _ e14) rfl rfl (lw_V q2345 q2346 q2347 q90 q2348) (by decide +kernel) (by decide) (Nat.le_of_ble_eq_true rfl) dL_law_1486 ?_
  refine V_istore (i := 6) (L' := [(6, pI y12), (5, pI y5), (4, pI x4), (3, pR a3), (0, pR (gst G 4)), (1, pR a1), (2, pR (gmo G))]) dL_law_1489 (by decide) rfl ?_
  refine V_aload_n (i := 2) 6 dL_law_1491 rfl rfl ?_
  obtain ⟨y15, S16, e17, h⟩ := bp_s h
  refine V_callM_v (n9 := 0) [] hm (v_X3_thrown l G hst hm _ e17) rfl rfl (lw_V q2054 q2055 q2056 q90 q2057) (by decide +kernel) (by decide) (Nat.le_of_ble_eq_true rfl) dL_law_1492 ?_
  refine V_iload (i := 5) 1 dL_law_1495 rfl ?_
  refine V_icmp_eq 1502 dL_law_1497 (by decide) (fun c18 => ?_) (fun c18 => ?_)
  · replace h := it_t c18 h
    refine V_iload (i := 5) 1 dL_law_1502 rfl ?_
    refine V_if_ne 1519 dL_law_1504 (by decide) (fun c19 => ?_) (fun c19 => ?_)
    · replace h := it_f c19 h
      refine V_sub [2, 3, 4, 5, 6] rfl ?_
      exact v_L_law_1519 hst hm hsc hk23 h
    · replace h := it_t c19 h
      refine V_aload_n (i := 3) 3 dL_law_1507 rfl rfl ?_
      refine V_iconst (v := 0) dL_law_1508 (by decide) ?_
      obtain ⟨y20, e21, h⟩ := bd_s h
      refine V_elL3 e21 dL_law_1509 ?_
      refine V_iload (i := 6) 0 dL_law_1510 rfl ?_
      refine V_i2l dL_law_1512 ?_
      refine V_lcmp dL_law_1513 ?_
      refine V_if_eq 1519 dL_law_1514 (by decide) (fun c22 => ?_) (fun c22 => ?_)
      · replace h := it_t c22 h
        refine V_sub [2, 3, 4, 5, 6] rfl ?_
        exact v_L_law_1519 hst hm hsc hk23 h
      · replace h := it_f c22 h
        refine V_iconst (v := 0) dL_law_1517 (by decide) ?_
        obtain ⟨e23, e24, h⟩ := bd_s h
        cases h
        exact V_retZ e24 rfl dL_law_1518
  · replace h := it_f c18 h
    refine V_iconst (v := 0) dL_law_1500 (by decide) ?_
    obtain ⟨e25, e26, h⟩ := bd_s h
    cases h
    exact V_retZ e26 rfl dL_law_1501
def f_L_law_1587 (G : Gx) (k23 : Hp → Ms → Int32 → Nat → Nat → Option (Int32 × Hp × Ms)) (σ : Hp) (S : Ms) (x4 : Int32) (a3 : Nat) (a1 : Nat) : Option (Int32 × Hp × Ms) :=
  f_L_law_1811 G k23 σ S x4 a3 a1
set_option maxHeartbeats 4000000 in
theorem v_L_law_1587 {l : Launch} {G : Gx} (hst : l.stackTraces = false) (hm : gmo G ≠ 0) (hsc : gst G 4 ≠ 0) {σ0 σe : Hp} {Se : Ms} {r : Int32} {k23 : Hp → Ms → Int32 → Nat → Nat → Option (Int32 × Hp × Ms)} (hk23 : ∀ (σ : Hp) (S : Ms) (x4 : Int32) (a3 : Nat) (a1 : Nat), k23 σ S x4 a3 a1 = some (r, σe, Se) → VV_L_law l G σ0 (.inl (some (pI r))) σe Se 23 [(4, pI x4), (3, pR a3), (0, pR (gst G 4)), (1, pR a1), (2, pR (gmo G))] [] σ S) {σ : Hp} {S : Ms} {x4 : Int32} {a3 : Nat} {a1 : Nat} (h : f_L_law_1587 G k23 σ S x4 a3 a1 = some (r, σe, Se)) : VV_L_law l G σ0 (.inl (some (pI r))) σe Se 1587 [(4, pI x4), (3, pR a3), (0, pR (gst G 4)), (1, pR a1), (2, pR (gmo G))] [] σ S := by
  unfold f_L_law_1587 at h
  refine V_goto 1811 dL_law_1587 (by decide) ?_
  refine V_sub [0, 1, 2, 3, 4] rfl ?_
  exact v_L_law_1811 hst hm hsc hk23 h
def f_L_law_1522 (G : Gx) (k23 : Hp → Ms → Int32 → Nat → Nat → Option (Int32 × Hp × Ms)) (σ : Hp) (S : Ms) (x4 : Int32) (a3 : Nat) (a1 : Nat) : Option (Int32 × Hp × Ms) :=
  bd (scI G (x4 + (1 : Int32))) fun y1 => bd (scI G (x4 + (2 : Int32))) fun y3 => bp (f_X0_oldWay σ a1 y1 y3 a3) fun y5 σ6 => bd (scI G (x4 + (1 : Int32))) fun y8 => bd (scI G (x4 + (2 : Int32))) fun y10 => bp (f_X3_oldWay S y8 y10) fun y12 S13 => bp (f_X3_thrown S13 ) fun y15 S16 => if y15 = y5 then (if y5 = (0 : Int32) then (bd (elI σ6 103 a3 (0 : Int32)) fun y20 => if (lcm9 (y20.toInt64) (y12.toInt64)) = (0 : Int32) then (f_L_law_1587 G k23 σ6 S16 x4 a3 a1) else (bd (okZ (0 : Int32)) fun e23 => some ((0 : Int32), σ6, S16))) else (f_L_law_1587 G k23 σ6 S16 x4 a3 a1)) else (bd (okZ (0 : Int32)) fun e25 => some ((0 : Int32), σ6, S16))
set_option maxHeartbeats 4000000 in
theorem v_L_law_1522 {l : Launch} {G : Gx} (hst : l.stackTraces = false) (hm : gmo G ≠ 0) (hsc : gst G 4 ≠ 0) {σ0 σe : Hp} {Se : Ms} {r : Int32} {k23 : Hp → Ms → Int32 → Nat → Nat → Option (Int32 × Hp × Ms)} (hk23 : ∀ (σ : Hp) (S : Ms) (x4 : Int32) (a3 : Nat) (a1 : Nat), k23 σ S x4 a3 a1 = some (r, σe, Se) → VV_L_law l G σ0 (.inl (some (pI r))) σe Se 23 [(4, pI x4), (3, pR a3), (0, pR (gst G 4)), (1, pR a1), (2, pR (gmo G))] [] σ S) {σ : Hp} {S : Ms} {x4 : Int32} {a3 : Nat} {a1 : Nat} (h : f_L_law_1522 G k23 σ S x4 a3 a1 = some (r, σe, Se)) : VV_L_law l G σ0 (.inl (some (pI r))) σe Se 1522 [(4, pI x4), (3, pR a3), (0, pR (gst G 4)), (1, pR a1), (2, pR (gmo G))] [] σ S := by
  unfold f_L_law_1522 at h
  refine V_aload_n (i := 1) 3 dL_law_1522 rfl rfl ?_
  refine V_aload_n (i := 0) 2 dL_law_1523 rfl rfl ?_
  refine V_iload (i := 4) 0 dL_law_1524 rfl ?_
  refine V_iconst (v := 1) dL_law_1526 (by decide) ?_
  refine V_iadd dL_law_1527 ?_
  obtain ⟨y1, e2, h⟩ := bd_s h
  refine V_scI hsc e2 dL_law_1528 ?_
  refine V_aload_n (i := 0) 2 dL_law_1529 rfl rfl ?_
  refine V_iload (i := 4) 0 dL_law_1530 rfl ?_
  refine V_iconst (v := 2) dL_law_1532 (by decide) ?_
  refine V_iadd dL_law_1533 ?_
  obtain ⟨y3, e4, h⟩ := bd_s h
  refine V_scI hsc e4 dL_law_1534 ?_
  refine V_aload_n (i := 3) 1 dL_law_1535 rfl rfl ?_
  obtain ⟨y5, σ6, e7, h⟩ := bp_s h
  refine V_callSH_v (n9 := 4) [] (v_X0_oldWay l G hst _ e7) rfl rfl (lw_SW q1949 q1950 q75 q1951) (by decide +kernel) (by decide) (Nat.le_of_ble_eq_true rfl) dL_law_1536 ?_
  refine V_istore (i := 5) (L' := [(5, pI y5), (4, pI x4), (3, pR a3), (0, pR (gst G 4)), (1, pR a1), (2, pR (gmo G))]) dL_law_1539 (by decide) rfl ?_
  refine V_aload_n (i := 2) 5 dL_law_1541 rfl rfl ?_
  refine V_aload_n (i := 0) 3 dL_law_1542 rfl rfl ?_
  refine V_iload (i := 4) 1 dL_law_1543 rfl ?_
  refine V_iconst (v := 1) dL_law_1545 (by decide) ?_
  refine V_iadd dL_law_1546 ?_
  obtain ⟨y8, e9, h⟩ := bd_s h
  refine V_scI hsc e9 dL_law_1547 ?_
  refine V_aload_n (i := 0) 3 dL_law_1548 rfl rfl ?_
  refine V_iload (i := 4) 1 dL_law_1549 rfl ?_
  refine V_iconst (v := 2) dL_law_1551 (by decide) ?_
  refine V_iadd dL_law_1552 ?_
  obtain ⟨y10, e11, h⟩ := bd_s h
  refine V_scI hsc e11 dL_law_1553 ?_
  obtain ⟨y12, S13, e14, h⟩ := bp_s h
  refine V_callM_v (n9 := 2) [] hm (v_X3_oldWay l G hst hm _ e14) rfl rfl (lw_V q2356 q2357 q2358 q90 q2359) (by decide +kernel) (by decide) (Nat.le_of_ble_eq_true rfl) dL_law_1554 ?_
  refine V_istore (i := 6) (L' := [(6, pI y12), (5, pI y5), (4, pI x4), (3, pR a3), (0, pR (gst G 4)), (1, pR a1), (2, pR (gmo G))]) dL_law_1557 (by decide) rfl ?_
  refine V_aload_n (i := 2) 6 dL_law_1559 rfl rfl ?_
  obtain ⟨y15, S16, e17, h⟩ := bp_s h
  refine V_callM_v (n9 := 0) [] hm (v_X3_thrown l G hst hm _ e17) rfl rfl (lw_V q2054 q2055 q2056 q90 q2057) (by decide +kernel) (by decide) (Nat.le_of_ble_eq_true rfl) dL_law_1560 ?_
  refine V_iload (i := 5) 1 dL_law_1563 rfl ?_
  refine V_icmp_eq 1570 dL_law_1565 (by decide) (fun c18 => ?_) (fun c18 => ?_)
  · replace h := it_t c18 h
    refine V_iload (i := 5) 1 dL_law_1570 rfl ?_
    refine V_if_ne 1587 dL_law_1572 (by decide) (fun c19 => ?_) (fun c19 => ?_)
    · replace h := it_f c19 h
      refine V_sub [2, 3, 4, 5, 6] rfl ?_
      exact v_L_law_1587 hst hm hsc hk23 h
    · replace h := it_t c19 h
      refine V_aload_n (i := 3) 3 dL_law_1575 rfl rfl ?_
      refine V_iconst (v := 0) dL_law_1576 (by decide) ?_
      obtain ⟨y20, e21, h⟩ := bd_s h
      refine V_elL3 e21 dL_law_1577 ?_
      refine V_iload (i := 6) 0 dL_law_1578 rfl ?_
      refine V_i2l dL_law_1580 ?_
      refine V_lcmp dL_law_1581 ?_
      refine V_if_eq 1587 dL_law_1582 (by decide) (fun c22 => ?_) (fun c22 => ?_)
      · replace h := it_t c22 h
        refine V_sub [2, 3, 4, 5, 6] rfl ?_
        exact v_L_law_1587 hst hm hsc hk23 h
      · replace h := it_f c22 h
        refine V_iconst (v := 0) dL_law_1585 (by decide) ?_
        obtain ⟨e23, e24, h⟩ := bd_s h
        cases h
        exact V_retZ e24 rfl dL_law_1586
  · replace h := it_f c18 h
    refine V_iconst (v := 0) dL_law_1568 (by decide) ?_
    obtain ⟨e25, e26, h⟩ := bd_s h
    cases h
    exact V_retZ e26 rfl dL_law_1569
def f_L_law_1643 (G : Gx) (k23 : Hp → Ms → Int32 → Nat → Nat → Option (Int32 × Hp × Ms)) (σ : Hp) (S : Ms) (x4 : Int32) (a3 : Nat) (a1 : Nat) : Option (Int32 × Hp × Ms) :=
  f_L_law_1811 G k23 σ S x4 a3 a1
set_option maxHeartbeats 4000000 in
theorem v_L_law_1643 {l : Launch} {G : Gx} (hst : l.stackTraces = false) (hm : gmo G ≠ 0) (hsc : gst G 4 ≠ 0) {σ0 σe : Hp} {Se : Ms} {r : Int32} {k23 : Hp → Ms → Int32 → Nat → Nat → Option (Int32 × Hp × Ms)} (hk23 : ∀ (σ : Hp) (S : Ms) (x4 : Int32) (a3 : Nat) (a1 : Nat), k23 σ S x4 a3 a1 = some (r, σe, Se) → VV_L_law l G σ0 (.inl (some (pI r))) σe Se 23 [(4, pI x4), (3, pR a3), (0, pR (gst G 4)), (1, pR a1), (2, pR (gmo G))] [] σ S) {σ : Hp} {S : Ms} {x4 : Int32} {a3 : Nat} {a1 : Nat} (h : f_L_law_1643 G k23 σ S x4 a3 a1 = some (r, σe, Se)) : VV_L_law l G σ0 (.inl (some (pI r))) σe Se 1643 [(4, pI x4), (3, pR a3), (0, pR (gst G 4)), (1, pR a1), (2, pR (gmo G))] [] σ S := by
  unfold f_L_law_1643 at h
  refine V_goto 1811 dL_law_1643 (by decide) ?_
  refine V_sub [0, 1, 2, 3, 4] rfl ?_
  exact v_L_law_1811 hst hm hsc hk23 h
def f_L_law_1590 (G : Gx) (k23 : Hp → Ms → Int32 → Nat → Nat → Option (Int32 × Hp × Ms)) (σ : Hp) (S : Ms) (x4 : Int32) (a3 : Nat) (a1 : Nat) : Option (Int32 × Hp × Ms) :=
  bd (scI G (x4 + (1 : Int32))) fun y1 => bp (f_X0_nearest σ a1 y1 a3) fun y3 σ4 => bd (scI G (x4 + (1 : Int32))) fun y6 => bp (f_X3_nearest S y6) fun y8 S9 => bp (f_X3_thrown S9 ) fun y11 S12 => if y11 = y3 then (if y3 = (0 : Int32) then (bd (elI σ4 103 a3 (0 : Int32)) fun y16 => if (lcm9 (y16.toInt64) (y8.toInt64)) = (0 : Int32) then (f_L_law_1643 G k23 σ4 S12 x4 a3 a1) else (bd (okZ (0 : Int32)) fun e19 => some ((0 : Int32), σ4, S12))) else (f_L_law_1643 G k23 σ4 S12 x4 a3 a1)) else (bd (okZ (0 : Int32)) fun e21 => some ((0 : Int32), σ4, S12))
set_option maxHeartbeats 4000000 in
theorem v_L_law_1590 {l : Launch} {G : Gx} (hst : l.stackTraces = false) (hm : gmo G ≠ 0) (hsc : gst G 4 ≠ 0) {σ0 σe : Hp} {Se : Ms} {r : Int32} {k23 : Hp → Ms → Int32 → Nat → Nat → Option (Int32 × Hp × Ms)} (hk23 : ∀ (σ : Hp) (S : Ms) (x4 : Int32) (a3 : Nat) (a1 : Nat), k23 σ S x4 a3 a1 = some (r, σe, Se) → VV_L_law l G σ0 (.inl (some (pI r))) σe Se 23 [(4, pI x4), (3, pR a3), (0, pR (gst G 4)), (1, pR a1), (2, pR (gmo G))] [] σ S) {σ : Hp} {S : Ms} {x4 : Int32} {a3 : Nat} {a1 : Nat} (h : f_L_law_1590 G k23 σ S x4 a3 a1 = some (r, σe, Se)) : VV_L_law l G σ0 (.inl (some (pI r))) σe Se 1590 [(4, pI x4), (3, pR a3), (0, pR (gst G 4)), (1, pR a1), (2, pR (gmo G))] [] σ S := by
  unfold f_L_law_1590 at h
  refine V_aload_n (i := 1) 3 dL_law_1590 rfl rfl ?_
  refine V_aload_n (i := 0) 2 dL_law_1591 rfl rfl ?_
  refine V_iload (i := 4) 0 dL_law_1592 rfl ?_
  refine V_iconst (v := 1) dL_law_1594 (by decide) ?_
  refine V_iadd dL_law_1595 ?_
  obtain ⟨y1, e2, h⟩ := bd_s h
  refine V_scI hsc e2 dL_law_1596 ?_
  refine V_aload_n (i := 3) 1 dL_law_1597 rfl rfl ?_
  obtain ⟨y3, σ4, e5, h⟩ := bp_s h
  refine V_callSH_v (n9 := 3) [] (v_X0_nearest l G hst _ e5) rfl rfl (lw_SW q1965 q1966 q75 q1967) (by decide +kernel) (by decide) (Nat.le_of_ble_eq_true rfl) dL_law_1598 ?_
  refine V_istore (i := 5) (L' := [(5, pI y3), (4, pI x4), (3, pR a3), (0, pR (gst G 4)), (1, pR a1), (2, pR (gmo G))]) dL_law_1601 (by decide) rfl ?_
  refine V_aload_n (i := 2) 5 dL_law_1603 rfl rfl ?_
  refine V_aload_n (i := 0) 3 dL_law_1604 rfl rfl ?_
  refine V_iload (i := 4) 1 dL_law_1605 rfl ?_
  refine V_iconst (v := 1) dL_law_1607 (by decide) ?_
  refine V_iadd dL_law_1608 ?_
  obtain ⟨y6, e7, h⟩ := bd_s h
  refine V_scI hsc e7 dL_law_1609 ?_
  obtain ⟨y8, S9, e10, h⟩ := bp_s h
  refine V_callM_v (n9 := 1) [] hm (v_X3_nearest l G hst hm _ e10) rfl rfl (lw_V q2368 q2369 q2370 q90 q2371) (by decide +kernel) (by decide) (Nat.le_of_ble_eq_true rfl) dL_law_1610 ?_
  refine V_istore (i := 6) (L' := [(6, pI y8), (5, pI y3), (4, pI x4), (3, pR a3), (0, pR (gst G 4)), (1, pR a1), (2, pR (gmo G))]) dL_law_1613 (by decide) rfl ?_
  refine V_aload_n (i := 2) 6 dL_law_1615 rfl rfl ?_
  obtain ⟨y11, S12, e13, h⟩ := bp_s h
  refine V_callM_v (n9 := 0) [] hm (v_X3_thrown l G hst hm _ e13) rfl rfl (lw_V q2054 q2055 q2056 q90 q2057) (by decide +kernel) (by decide) (Nat.le_of_ble_eq_true rfl) dL_law_1616 ?_
  refine V_iload (i := 5) 1 dL_law_1619 rfl ?_
  refine V_icmp_eq 1626 dL_law_1621 (by decide) (fun c14 => ?_) (fun c14 => ?_)
  · replace h := it_t c14 h
    refine V_iload (i := 5) 1 dL_law_1626 rfl ?_
    refine V_if_ne 1643 dL_law_1628 (by decide) (fun c15 => ?_) (fun c15 => ?_)
    · replace h := it_f c15 h
      refine V_sub [2, 3, 4, 5, 6] rfl ?_
      exact v_L_law_1643 hst hm hsc hk23 h
    · replace h := it_t c15 h
      refine V_aload_n (i := 3) 3 dL_law_1631 rfl rfl ?_
      refine V_iconst (v := 0) dL_law_1632 (by decide) ?_
      obtain ⟨y16, e17, h⟩ := bd_s h
      refine V_elL3 e17 dL_law_1633 ?_
      refine V_iload (i := 6) 0 dL_law_1634 rfl ?_
      refine V_i2l dL_law_1636 ?_
      refine V_lcmp dL_law_1637 ?_
      refine V_if_eq 1643 dL_law_1638 (by decide) (fun c18 => ?_) (fun c18 => ?_)
      · replace h := it_t c18 h
        refine V_sub [2, 3, 4, 5, 6] rfl ?_
        exact v_L_law_1643 hst hm hsc hk23 h
      · replace h := it_f c18 h
        refine V_iconst (v := 0) dL_law_1641 (by decide) ?_
        obtain ⟨e19, e20, h⟩ := bd_s h
        cases h
        exact V_retZ e20 rfl dL_law_1642
  · replace h := it_f c14 h
    refine V_iconst (v := 0) dL_law_1624 (by decide) ?_
    obtain ⟨e21, e22, h⟩ := bd_s h
    cases h
    exact V_retZ e22 rfl dL_law_1625
def f_L_law_1699 (G : Gx) (k23 : Hp → Ms → Int32 → Nat → Nat → Option (Int32 × Hp × Ms)) (σ : Hp) (S : Ms) (x4 : Int32) (a3 : Nat) (a1 : Nat) : Option (Int32 × Hp × Ms) :=
  f_L_law_1811 G k23 σ S x4 a3 a1
set_option maxHeartbeats 4000000 in
theorem v_L_law_1699 {l : Launch} {G : Gx} (hst : l.stackTraces = false) (hm : gmo G ≠ 0) (hsc : gst G 4 ≠ 0) {σ0 σe : Hp} {Se : Ms} {r : Int32} {k23 : Hp → Ms → Int32 → Nat → Nat → Option (Int32 × Hp × Ms)} (hk23 : ∀ (σ : Hp) (S : Ms) (x4 : Int32) (a3 : Nat) (a1 : Nat), k23 σ S x4 a3 a1 = some (r, σe, Se) → VV_L_law l G σ0 (.inl (some (pI r))) σe Se 23 [(4, pI x4), (3, pR a3), (0, pR (gst G 4)), (1, pR a1), (2, pR (gmo G))] [] σ S) {σ : Hp} {S : Ms} {x4 : Int32} {a3 : Nat} {a1 : Nat} (h : f_L_law_1699 G k23 σ S x4 a3 a1 = some (r, σe, Se)) : VV_L_law l G σ0 (.inl (some (pI r))) σe Se 1699 [(4, pI x4), (3, pR a3), (0, pR (gst G 4)), (1, pR a1), (2, pR (gmo G))] [] σ S := by
  unfold f_L_law_1699 at h
  refine V_goto 1811 dL_law_1699 (by decide) ?_
  refine V_sub [0, 1, 2, 3, 4] rfl ?_
  exact v_L_law_1811 hst hm hsc hk23 h
def f_L_law_1646 (G : Gx) (k23 : Hp → Ms → Int32 → Nat → Nat → Option (Int32 × Hp × Ms)) (σ : Hp) (S : Ms) (x4 : Int32) (a3 : Nat) (a1 : Nat) : Option (Int32 × Hp × Ms) :=
  bd (scI G (x4 + (1 : Int32))) fun y1 => bp (f_X0_coolIn σ a1 y1 a3) fun y3 σ4 => bd (scI G (x4 + (1 : Int32))) fun y6 => bp (f_X3_coolIn S y6) fun y8 S9 => bp (f_X3_thrown S9 ) fun y11 S12 => if y11 = y3 then (if y3 = (0 : Int32) then (bd (elI σ4 103 a3 (0 : Int32)) fun y16 => if (lcm9 (y16.toInt64) (y8.toInt64)) = (0 : Int32) then (f_L_law_1699 G k23 σ4 S12 x4 a3 a1) else (bd (okZ (0 : Int32)) fun e19 => some ((0 : Int32), σ4, S12))) else (f_L_law_1699 G k23 σ4 S12 x4 a3 a1)) else (bd (okZ (0 : Int32)) fun e21 => some ((0 : Int32), σ4, S12))
set_option maxHeartbeats 4000000 in
theorem v_L_law_1646 {l : Launch} {G : Gx} (hst : l.stackTraces = false) (hm : gmo G ≠ 0) (hsc : gst G 4 ≠ 0) {σ0 σe : Hp} {Se : Ms} {r : Int32} {k23 : Hp → Ms → Int32 → Nat → Nat → Option (Int32 × Hp × Ms)} (hk23 : ∀ (σ : Hp) (S : Ms) (x4 : Int32) (a3 : Nat) (a1 : Nat), k23 σ S x4 a3 a1 = some (r, σe, Se) → VV_L_law l G σ0 (.inl (some (pI r))) σe Se 23 [(4, pI x4), (3, pR a3), (0, pR (gst G 4)), (1, pR a1), (2, pR (gmo G))] [] σ S) {σ : Hp} {S : Ms} {x4 : Int32} {a3 : Nat} {a1 : Nat} (h : f_L_law_1646 G k23 σ S x4 a3 a1 = some (r, σe, Se)) : VV_L_law l G σ0 (.inl (some (pI r))) σe Se 1646 [(4, pI x4), (3, pR a3), (0, pR (gst G 4)), (1, pR a1), (2, pR (gmo G))] [] σ S := by
  unfold f_L_law_1646 at h
  refine V_aload_n (i := 1) 3 dL_law_1646 rfl rfl ?_
  refine V_aload_n (i := 0) 2 dL_law_1647 rfl rfl ?_
  refine V_iload (i := 4) 0 dL_law_1648 rfl ?_
  refine V_iconst (v := 1) dL_law_1650 (by decide) ?_
  refine V_iadd dL_law_1651 ?_
  obtain ⟨y1, e2, h⟩ := bd_s h
  refine V_scI hsc e2 dL_law_1652 ?_
  refine V_aload_n (i := 3) 1 dL_law_1653 rfl rfl ?_
  obtain ⟨y3, σ4, e5, h⟩ := bp_s h
  refine V_callSH_v (n9 := 3) [] (v_X0_coolIn l G hst _ e5) rfl rfl (lw_SW q1977 q1978 q75 q1979) (by decide +kernel) (by decide) (Nat.le_of_ble_eq_true rfl) dL_law_1654 ?_
  refine V_istore (i := 5) (L' := [(5, pI y3), (4, pI x4), (3, pR a3), (0, pR (gst G 4)), (1, pR a1), (2, pR (gmo G))]) dL_law_1657 (by decide) rfl ?_
  refine V_aload_n (i := 2) 5 dL_law_1659 rfl rfl ?_
  refine V_aload_n (i := 0) 3 dL_law_1660 rfl rfl ?_
  refine V_iload (i := 4) 1 dL_law_1661 rfl ?_
  refine V_iconst (v := 1) dL_law_1663 (by decide) ?_
  refine V_iadd dL_law_1664 ?_
  obtain ⟨y6, e7, h⟩ := bd_s h
  refine V_scI hsc e7 dL_law_1665 ?_
  obtain ⟨y8, S9, e10, h⟩ := bp_s h
  refine V_callM_v (n9 := 1) [] hm (v_X3_coolIn l G hst hm _ e10) rfl rfl (lw_V q2379 q2380 q2381 q90 q2382) (by decide +kernel) (by decide) (Nat.le_of_ble_eq_true rfl) dL_law_1666 ?_
  refine V_istore (i := 6) (L' := [(6, pI y8), (5, pI y3), (4, pI x4), (3, pR a3), (0, pR (gst G 4)), (1, pR a1), (2, pR (gmo G))]) dL_law_1669 (by decide) rfl ?_
  refine V_aload_n (i := 2) 6 dL_law_1671 rfl rfl ?_
  obtain ⟨y11, S12, e13, h⟩ := bp_s h
  refine V_callM_v (n9 := 0) [] hm (v_X3_thrown l G hst hm _ e13) rfl rfl (lw_V q2054 q2055 q2056 q90 q2057) (by decide +kernel) (by decide) (Nat.le_of_ble_eq_true rfl) dL_law_1672 ?_
  refine V_iload (i := 5) 1 dL_law_1675 rfl ?_
  refine V_icmp_eq 1682 dL_law_1677 (by decide) (fun c14 => ?_) (fun c14 => ?_)
  · replace h := it_t c14 h
    refine V_iload (i := 5) 1 dL_law_1682 rfl ?_
    refine V_if_ne 1699 dL_law_1684 (by decide) (fun c15 => ?_) (fun c15 => ?_)
    · replace h := it_f c15 h
      refine V_sub [2, 3, 4, 5, 6] rfl ?_
      exact v_L_law_1699 hst hm hsc hk23 h
    · replace h := it_t c15 h
      refine V_aload_n (i := 3) 3 dL_law_1687 rfl rfl ?_
      refine V_iconst (v := 0) dL_law_1688 (by decide) ?_
      obtain ⟨y16, e17, h⟩ := bd_s h
      refine V_elL3 e17 dL_law_1689 ?_
      refine V_iload (i := 6) 0 dL_law_1690 rfl ?_
      refine V_i2l dL_law_1692 ?_
      refine V_lcmp dL_law_1693 ?_
      refine V_if_eq 1699 dL_law_1694 (by decide) (fun c18 => ?_) (fun c18 => ?_)
      · replace h := it_t c18 h
        refine V_sub [2, 3, 4, 5, 6] rfl ?_
        exact v_L_law_1699 hst hm hsc hk23 h
      · replace h := it_f c18 h
        refine V_iconst (v := 0) dL_law_1697 (by decide) ?_
        obtain ⟨e19, e20, h⟩ := bd_s h
        cases h
        exact V_retZ e20 rfl dL_law_1698
  · replace h := it_f c14 h
    refine V_iconst (v := 0) dL_law_1680 (by decide) ?_
    obtain ⟨e21, e22, h⟩ := bd_s h
    cases h
    exact V_retZ e22 rfl dL_law_1681
def f_L_law_1767 (G : Gx) (k23 : Hp → Ms → Int32 → Nat → Nat → Option (Int32 × Hp × Ms)) (σ : Hp) (S : Ms) (x4 : Int32) (a3 : Nat) (a1 : Nat) : Option (Int32 × Hp × Ms) :=
  f_L_law_1811 G k23 σ S x4 a3 a1
set_option maxHeartbeats 4000000 in
theorem v_L_law_1767 {l : Launch} {G : Gx} (hst : l.stackTraces = false) (hm : gmo G ≠ 0) (hsc : gst G 4 ≠ 0) {σ0 σe : Hp} {Se : Ms} {r : Int32} {k23 : Hp → Ms → Int32 → Nat → Nat → Option (Int32 × Hp × Ms)} (hk23 : ∀ (σ : Hp) (S : Ms) (x4 : Int32) (a3 : Nat) (a1 : Nat), k23 σ S x4 a3 a1 = some (r, σe, Se) → VV_L_law l G σ0 (.inl (some (pI r))) σe Se 23 [(4, pI x4), (3, pR a3), (0, pR (gst G 4)), (1, pR a1), (2, pR (gmo G))] [] σ S) {σ : Hp} {S : Ms} {x4 : Int32} {a3 : Nat} {a1 : Nat} (h : f_L_law_1767 G k23 σ S x4 a3 a1 = some (r, σe, Se)) : VV_L_law l G σ0 (.inl (some (pI r))) σe Se 1767 [(4, pI x4), (3, pR a3), (0, pR (gst G 4)), (1, pR a1), (2, pR (gmo G))] [] σ S := by
  unfold f_L_law_1767 at h
  refine V_goto 1811 dL_law_1767 (by decide) ?_
  refine V_sub [0, 1, 2, 3, 4] rfl ?_
  exact v_L_law_1811 hst hm hsc hk23 h
def f_L_law_1702 (G : Gx) (k23 : Hp → Ms → Int32 → Nat → Nat → Option (Int32 × Hp × Ms)) (σ : Hp) (S : Ms) (x4 : Int32) (a3 : Nat) (a1 : Nat) : Option (Int32 × Hp × Ms) :=
  bd (scI G (x4 + (1 : Int32))) fun y1 => bd (scI G (x4 + (2 : Int32))) fun y3 => bp (f_X0_lengthIn σ a1 y1 y3 a3) fun y5 σ6 => bd (scI G (x4 + (1 : Int32))) fun y8 => bd (scI G (x4 + (2 : Int32))) fun y10 => bp (f_X3_lengthIn S y8 y10) fun y12 S13 => bp (f_X3_thrown S13 ) fun y15 S16 => if y15 = y5 then (if y5 = (0 : Int32) then (bd (elI σ6 103 a3 (0 : Int32)) fun y20 => if (lcm9 (y20.toInt64) (y12.toInt64)) = (0 : Int32) then (f_L_law_1767 G k23 σ6 S16 x4 a3 a1) else (bd (okZ (0 : Int32)) fun e23 => some ((0 : Int32), σ6, S16))) else (f_L_law_1767 G k23 σ6 S16 x4 a3 a1)) else (bd (okZ (0 : Int32)) fun e25 => some ((0 : Int32), σ6, S16))
set_option maxHeartbeats 4000000 in
theorem v_L_law_1702 {l : Launch} {G : Gx} (hst : l.stackTraces = false) (hm : gmo G ≠ 0) (hsc : gst G 4 ≠ 0) {σ0 σe : Hp} {Se : Ms} {r : Int32} {k23 : Hp → Ms → Int32 → Nat → Nat → Option (Int32 × Hp × Ms)} (hk23 : ∀ (σ : Hp) (S : Ms) (x4 : Int32) (a3 : Nat) (a1 : Nat), k23 σ S x4 a3 a1 = some (r, σe, Se) → VV_L_law l G σ0 (.inl (some (pI r))) σe Se 23 [(4, pI x4), (3, pR a3), (0, pR (gst G 4)), (1, pR a1), (2, pR (gmo G))] [] σ S) {σ : Hp} {S : Ms} {x4 : Int32} {a3 : Nat} {a1 : Nat} (h : f_L_law_1702 G k23 σ S x4 a3 a1 = some (r, σe, Se)) : VV_L_law l G σ0 (.inl (some (pI r))) σe Se 1702 [(4, pI x4), (3, pR a3), (0, pR (gst G 4)), (1, pR a1), (2, pR (gmo G))] [] σ S := by
  unfold f_L_law_1702 at h
  refine V_aload_n (i := 1) 3 dL_law_1702 rfl rfl ?_
  refine V_aload_n (i := 0) 2 dL_law_1703 rfl rfl ?_
  refine V_iload (i := 4) 0 dL_law_1704 rfl ?_
  refine V_iconst (v := 1) dL_law_1706 (by decide) ?_
  refine V_iadd dL_law_1707 ?_
  obtain ⟨y1, e2, h⟩ := bd_s h
  refine V_scI hsc e2 dL_law_1708 ?_
  refine V_aload_n (i := 0) 2 dL_law_1709 rfl rfl ?_
  refine V_iload (i := 4) 0 dL_law_1710 rfl ?_
  refine V_iconst (v := 2) dL_law_1712 (by decide) ?_
  refine V_iadd dL_law_1713 ?_
  obtain ⟨y3, e4, h⟩ := bd_s h
  refine V_scI hsc e4 dL_law_1714 ?_
  refine V_aload_n (i := 3) 1 dL_law_1715 rfl rfl ?_
  obtain ⟨y5, σ6, e7, h⟩ := bp_s h
  refine V_callSH_v (n9 := 4) [] (v_X0_lengthIn l G hst _ e7) rfl rfl (lw_SW q1985 q1986 q75 q1987) (by decide +kernel) (by decide) (Nat.le_of_ble_eq_true rfl) dL_law_1716 ?_
  refine V_istore (i := 5) (L' := [(5, pI y5), (4, pI x4), (3, pR a3), (0, pR (gst G 4)), (1, pR a1), (2, pR (gmo G))]) dL_law_1719 (by decide) rfl ?_
  refine V_aload_n (i := 2) 5 dL_law_1721 rfl rfl ?_
  refine V_aload_n (i := 0) 3 dL_law_1722 rfl rfl ?_
  refine V_iload (i := 4) 1 dL_law_1723 rfl ?_
  refine V_iconst (v := 1) dL_law_1725 (by decide) ?_
  refine V_iadd dL_law_1726 ?_
  obtain ⟨y8, e9, h⟩ := bd_s h
  refine V_scI hsc e9 dL_law_1727 ?_
  refine V_aload_n (i := 0) 3 dL_law_1728 rfl rfl ?_
  refine V_iload (i := 4) 1 dL_law_1729 rfl ?_
  refine V_iconst (v := 2) dL_law_1731 (by decide) ?_
  refine V_iadd dL_law_1732 ?_
  obtain ⟨y10, e11, h⟩ := bd_s h
  refine V_scI hsc e11 dL_law_1733 ?_
  obtain ⟨y12, S13, e14, h⟩ := bp_s h
  refine V_callM_v (n9 := 2) [] hm (v_X3_lengthIn l G hst hm _ e14) rfl rfl (lw_V q2383 q2384 q2385 q90 q2386) (by decide +kernel) (by decide) (Nat.le_of_ble_eq_true rfl) dL_law_1734 ?_
  refine V_istore (i := 6) (L' := [(6, pI y12), (5, pI y5), (4, pI x4), (3, pR a3), (0, pR (gst G 4)), (1, pR a1), (2, pR (gmo G))]) dL_law_1737 (by decide) rfl ?_
  refine V_aload_n (i := 2) 6 dL_law_1739 rfl rfl ?_
  obtain ⟨y15, S16, e17, h⟩ := bp_s h
  refine V_callM_v (n9 := 0) [] hm (v_X3_thrown l G hst hm _ e17) rfl rfl (lw_V q2054 q2055 q2056 q90 q2057) (by decide +kernel) (by decide) (Nat.le_of_ble_eq_true rfl) dL_law_1740 ?_
  refine V_iload (i := 5) 1 dL_law_1743 rfl ?_
  refine V_icmp_eq 1750 dL_law_1745 (by decide) (fun c18 => ?_) (fun c18 => ?_)
  · replace h := it_t c18 h
    refine V_iload (i := 5) 1 dL_law_1750 rfl ?_
    refine V_if_ne 1767 dL_law_1752 (by decide) (fun c19 => ?_) (fun c19 => ?_)
    · replace h := it_f c19 h
      refine V_sub [2, 3, 4, 5, 6] rfl ?_
      exact v_L_law_1767 hst hm hsc hk23 h
    · replace h := it_t c19 h
      refine V_aload_n (i := 3) 3 dL_law_1755 rfl rfl ?_
      refine V_iconst (v := 0) dL_law_1756 (by decide) ?_
      obtain ⟨y20, e21, h⟩ := bd_s h
      refine V_elL3 e21 dL_law_1757 ?_
      refine V_iload (i := 6) 0 dL_law_1758 rfl ?_
      refine V_i2l dL_law_1760 ?_
      refine V_lcmp dL_law_1761 ?_
      refine V_if_eq 1767 dL_law_1762 (by decide) (fun c22 => ?_) (fun c22 => ?_)
      · replace h := it_t c22 h
        refine V_sub [2, 3, 4, 5, 6] rfl ?_
        exact v_L_law_1767 hst hm hsc hk23 h
      · replace h := it_f c22 h
        refine V_iconst (v := 0) dL_law_1765 (by decide) ?_
        obtain ⟨e23, e24, h⟩ := bd_s h
        cases h
        exact V_retZ e24 rfl dL_law_1766
  · replace h := it_f c18 h
    refine V_iconst (v := 0) dL_law_1748 (by decide) ?_
    obtain ⟨e25, e26, h⟩ := bd_s h
    cases h
    exact V_retZ e26 rfl dL_law_1749
def f_L_law_1808 (G : Gx) (k23 : Hp → Ms → Int32 → Nat → Nat → Option (Int32 × Hp × Ms)) (σ : Hp) (S : Ms) (x4 : Int32) (a3 : Nat) (a1 : Nat) : Option (Int32 × Hp × Ms) :=
  f_L_law_1811 G k23 σ S x4 a3 a1
set_option maxHeartbeats 4000000 in
theorem v_L_law_1808 {l : Launch} {G : Gx} (hst : l.stackTraces = false) (hm : gmo G ≠ 0) (hsc : gst G 4 ≠ 0) {σ0 σe : Hp} {Se : Ms} {r : Int32} {k23 : Hp → Ms → Int32 → Nat → Nat → Option (Int32 × Hp × Ms)} (hk23 : ∀ (σ : Hp) (S : Ms) (x4 : Int32) (a3 : Nat) (a1 : Nat), k23 σ S x4 a3 a1 = some (r, σe, Se) → VV_L_law l G σ0 (.inl (some (pI r))) σe Se 23 [(4, pI x4), (3, pR a3), (0, pR (gst G 4)), (1, pR a1), (2, pR (gmo G))] [] σ S) {σ : Hp} {S : Ms} {x4 : Int32} {a3 : Nat} {a1 : Nat} (h : f_L_law_1808 G k23 σ S x4 a3 a1 = some (r, σe, Se)) : VV_L_law l G σ0 (.inl (some (pI r))) σe Se 1808 [(4, pI x4), (3, pR a3), (0, pR (gst G 4)), (1, pR a1), (2, pR (gmo G))] [] σ S := by
  unfold f_L_law_1808 at h
  refine V_goto 1811 dL_law_1808 (by decide) ?_
  refine V_sub [0, 1, 2, 3, 4] rfl ?_
  exact v_L_law_1811 hst hm hsc hk23 h
def f_L_law_1806 (G : Gx) (σ : Hp) (S : Ms) : Option (Int32 × Hp × Ms) :=
  bd (okZ (0 : Int32)) fun e1 => some ((0 : Int32), σ, S)
set_option maxHeartbeats 4000000 in
theorem v_L_law_1806 {l : Launch} {G : Gx} (hst : l.stackTraces = false) (hm : gmo G ≠ 0) (hsc : gst G 4 ≠ 0) {σ0 σe : Hp} {Se : Ms} {r : Int32} {σ : Hp} {S : Ms} (h : f_L_law_1806 G σ S  = some (r, σe, Se)) : VV_L_law l G σ0 (.inl (some (pI r))) σe Se 1806 [] [] σ S := by
  unfold f_L_law_1806 at h
  refine V_iconst (v := 0) dL_law_1806 (by decide) ?_
  obtain ⟨e1, e2, h⟩ := bd_s h
  cases h
  exact V_retZ e2 rfl dL_law_1807
def f_L_law_1770 (G : Gx) (k23 : Hp → Ms → Int32 → Nat → Nat → Option (Int32 × Hp × Ms)) (σ : Hp) (S : Ms) (x4 : Int32) (a3 : Nat) (a1 : Nat) : Option (Int32 × Hp × Ms) :=
  bd (gk σ 1 a1) fun e1 => bp (f_X1_meanError σ a1) fun d3 σ4 => bp (f_X3_meanError S ) fun d6 S7 => if (dcm9 d3 d6) = (0 : Int32) then (f_L_law_1808 G k23 σ4 S7 x4 a3 a1) else (if (dcm9 d3 d3) = (0 : Int32) then (f_L_law_1806 G σ4 S7 ) else (if (dcm9 d6 d6) = (0 : Int32) then (f_L_law_1806 G σ4 S7 ) else (f_L_law_1808 G k23 σ4 S7 x4 a3 a1)))
set_option maxHeartbeats 4000000 in
theorem v_L_law_1770 {l : Launch} {G : Gx} (hst : l.stackTraces = false) (hm : gmo G ≠ 0) (hsc : gst G 4 ≠ 0) {σ0 σe : Hp} {Se : Ms} {r : Int32} {k23 : Hp → Ms → Int32 → Nat → Nat → Option (Int32 × Hp × Ms)} (hk23 : ∀ (σ : Hp) (S : Ms) (x4 : Int32) (a3 : Nat) (a1 : Nat), k23 σ S x4 a3 a1 = some (r, σe, Se) → VV_L_law l G σ0 (.inl (some (pI r))) σe Se 23 [(4, pI x4), (3, pR a3), (0, pR (gst G 4)), (1, pR a1), (2, pR (gmo G))] [] σ S) {σ : Hp} {S : Ms} {x4 : Int32} {a3 : Nat} {a1 : Nat} (h : f_L_law_1770 G k23 σ S x4 a3 a1 = some (r, σe, Se)) : VV_L_law l G σ0 (.inl (some (pI r))) σe Se 1770 [(4, pI x4), (3, pR a3), (0, pR (gst G 4)), (1, pR a1), (2, pR (gmo G))] [] σ S := by
  unfold f_L_law_1770 at h
  refine V_aload_n (i := 1) 3 dL_law_1770 rfl rfl ?_
  obtain ⟨e1, e2, h⟩ := bd_s h
  obtain ⟨d3, σ4, e5, h⟩ := bp_s h
  refine V_callV_v (n9 := 0) (c := 0) (r := (RX1, TX1, 4)) [] (v_X1_meanError l G hst _ e5) rfl rfl (lw_V q778 q779 q780 q76 q781) (by decide +kernel) (by decide) (Nat.le_of_ble_eq_true rfl) (gk_k e2 rfl) rfl dL_law_1771 ?_
  refine V_dstore (i := 5) (L' := [(5, pD d3), (4, pI x4), (3, pR a3), (0, pR (gst G 4)), (1, pR a1), (2, pR (gmo G))]) dL_law_1774 (by decide) rfl ?_
  refine V_aload_n (i := 2) 5 dL_law_1776 rfl rfl ?_
  obtain ⟨d6, S7, e8, h⟩ := bp_s h
  refine V_callM_v (n9 := 0) [] hm (v_X3_meanError l G hst hm _ e8) rfl rfl (lw_V q2387 q2388 q2389 q90 q2390) (by decide +kernel) (by decide) (Nat.le_of_ble_eq_true rfl) dL_law_1777 ?_
  refine V_dstore (i := 7) (L' := [(7, pD d6), (5, pD d3), (4, pI x4), (3, pR a3), (0, pR (gst G 4)), (1, pR a1), (2, pR (gmo G))]) dL_law_1780 (by decide) rfl ?_
  refine V_dload (i := 5) 1 dL_law_1782 rfl ?_
  refine V_dload (i := 7) 0 dL_law_1784 rfl ?_
  refine V_dcmp dL_law_1786 ?_
  refine V_if_eq 1808 dL_law_1787 (by decide) (fun c9 => ?_) (fun c9 => ?_)
  · replace h := it_t c9 h
    refine V_sub [2, 3, 4, 5, 6] rfl ?_
    exact v_L_law_1808 hst hm hsc hk23 h
  · replace h := it_f c9 h
    refine V_dload (i := 5) 1 dL_law_1790 rfl ?_
    refine V_dload (i := 5) 1 dL_law_1792 rfl ?_
    refine V_dcmp dL_law_1794 ?_
    refine V_if_eq 1806 dL_law_1795 (by decide) (fun c10 => ?_) (fun c10 => ?_)
    · replace h := it_t c10 h
      refine V_sub [] rfl ?_
      exact v_L_law_1806 hst hm hsc h
    · replace h := it_f c10 h
      refine V_dload (i := 7) 0 dL_law_1798 rfl ?_
      refine V_dload (i := 7) 0 dL_law_1800 rfl ?_
      refine V_dcmp dL_law_1802 ?_
      refine V_if_ne 1808 dL_law_1803 (by decide) (fun c11 => ?_) (fun c11 => ?_)
      · replace h := it_f c11 h
        refine V_sub [2, 3, 4, 5, 6] rfl ?_
        exact v_L_law_1808 hst hm hsc hk23 h
      · replace h := it_t c11 h
        refine V_sub [] rfl ?_
        exact v_L_law_1806 hst hm hsc h
def f_L_law_23_b (G : Gx) (k23 : Hp → Ms → Int32 → Nat → Nat → Option (Int32 × Hp × Ms)) (σ : Hp) (S : Ms) (x4 : Int32) (a3 : Nat) (a1 : Nat) : Option (Int32 × Hp × Ms) :=
  if ((Int32.ofNat (gst G 5)) - (3 : Int32)) < x4 then (bd (okZ (1 : Int32)) fun e2 => some ((1 : Int32), σ, S)) else (bd (scI G x4) fun y4 => if (y4 &&& (31 : Int32)) = (0 : Int32) then (f_L_law_168 G k23 σ S x4 a3 a1) else (if (y4 &&& (31 : Int32)) = (1 : Int32) then (f_L_law_236 G k23 σ S x4 a3 a1) else (if (y4 &&& (31 : Int32)) = (2 : Int32) then (f_L_law_292 G k23 σ S x4 a3 a1) else (if (y4 &&& (31 : Int32)) = (3 : Int32) then (f_L_law_348 G k23 σ S x4 a3 a1) else (if (y4 &&& (31 : Int32)) = (4 : Int32) then (f_L_law_416 G k23 σ S x4 a3 a1) else (if (y4 &&& (31 : Int32)) = (5 : Int32) then (f_L_law_472 G k23 σ S x4 a3 a1) else (if (y4 &&& (31 : Int32)) = (6 : Int32) then (f_L_law_540 G k23 σ S x4 a3 a1) else (if (y4 &&& (31 : Int32)) = (7 : Int32) then (f_L_law_608 G k23 σ S x4 a3 a1) else (if (y4 &&& (31 : Int32)) = (8 : Int32) then (f_L_law_664 G k23 σ S x4 a3 a1) else (if (y4 &&& (31 : Int32)) = (9 : Int32) then (f_L_law_732 G k23 σ S x4 a3 a1) else (if (y4 &&& (31 : Int32)) = (10 : Int32) then (f_L_law_788 G k23 σ S x4 a3 a1) else (if (y4 &&& (31 : Int32)) = (11 : Int32) then (f_L_law_801 G k23 σ S x4 a3 a1) else (if (y4 &&& (31 : Int32)) = (12 : Int32) then (f_L_law_814 G k23 σ S x4 a3 a1) else (if (y4 &&& (31 : Int32)) = (13 : Int32) then (f_L_law_858 G k23 σ S x4 a3 a1) else (if (y4 &&& (31 : Int32)) = (14 : Int32) then (f_L_law_902 G k23 σ S x4 a3 a1) else (if (y4 &&& (31 : Int32)) = (15 : Int32) then (f_L_law_958 G k23 σ S x4 a3 a1) else (if (y4 &&& (31 : Int32)) = (16 : Int32) then (f_L_law_1014 G k23 σ S x4 a3 a1) else (if (y4 &&& (31 : Int32)) = (17 : Int32) then (f_L_law_1082 G k23 σ S x4 a3 a1) else (if (y4 &&& (31 : Int32)) = (18 : Int32) then (f_L_law_1150 G k23 σ S x4 a3 a1) else (if (y4 &&& (31 : Int32)) = (19 : Int32) then (f_L_law_1218 G k23 σ S x4 a3 a1) else (if (y4 &&& (31 : Int32)) = (20 : Int32) then (f_L_law_1274 G k23 σ S x4 a3 a1) else (if (y4 &&& (31 : Int32)) = (21 : Int32) then (f_L_law_1330 G k23 σ S x4 a3 a1) else (if (y4 &&& (31 : Int32)) = (22 : Int32) then (f_L_law_1386 G k23 σ S x4 a3 a1) else (if (y4 &&& (31 : Int32)) = (23 : Int32) then (f_L_law_1454 G k23 σ S x4 a3 a1) else (if (y4 &&& (31 : Int32)) = (24 : Int32) then (f_L_law_1522 G k23 σ S x4 a3 a1) else (if (y4 &&& (31 : Int32)) = (25 : Int32) then (f_L_law_1590 G k23 σ S x4 a3 a1) else (if (y4 &&& (31 : Int32)) = (26 : Int32) then (f_L_law_1646 G k23 σ S x4 a3 a1) else (if (y4 &&& (31 : Int32)) = (27 : Int32) then (f_L_law_1702 G k23 σ S x4 a3 a1) else (if (y4 &&& (31 : Int32)) = (28 : Int32) then (f_L_law_1770 G k23 σ S x4 a3 a1) else (f_L_law_1811 G k23 σ S x4 a3 a1))))))))))))))))))))))))))))))
set_option maxHeartbeats 4000000 in
theorem v_L_law_23_b {l : Launch} {G : Gx} (hst : l.stackTraces = false) (hm : gmo G ≠ 0) (hsc : gst G 4 ≠ 0) {σ0 σe : Hp} {Se : Ms} {r : Int32} {k23 : Hp → Ms → Int32 → Nat → Nat → Option (Int32 × Hp × Ms)} (hk23 : ∀ (σ : Hp) (S : Ms) (x4 : Int32) (a3 : Nat) (a1 : Nat), k23 σ S x4 a3 a1 = some (r, σe, Se) → VV_L_law l G σ0 (.inl (some (pI r))) σe Se 23 [(4, pI x4), (3, pR a3), (0, pR (gst G 4)), (1, pR a1), (2, pR (gmo G))] [] σ S) {σ : Hp} {S : Ms} {x4 : Int32} {a3 : Nat} {a1 : Nat} (h : f_L_law_23_b G k23 σ S x4 a3 a1 = some (r, σe, Se)) : VV_L_law l G σ0 (.inl (some (pI r))) σe Se 23 [(4, pI x4), (3, pR a3), (0, pR (gst G 4)), (1, pR a1), (2, pR (gmo G))] [] σ S := by
  unfold f_L_law_23_b at h
  refine V_iload (i := 4) 0 dL_law_23 rfl ?_
  refine V_aload_n (i := 0) 2 dL_law_25 rfl rfl ?_
  refine V_scN hsc dL_law_26 ?_
  refine V_iconst (v := 3) dL_law_27 (by decide) ?_
  refine V_isub dL_law_28 ?_
  refine V_icmp_gt 1817 dL_law_29 (by decide) (fun c1 => ?_) (fun c1 => ?_)
  · replace h := it_t c1 h
    refine V_iconst (v := 1) dL_law_1817 (by decide) ?_
    obtain ⟨e2, e3, h⟩ := bd_s h
    cases h
    exact V_retZ e3 rfl dL_law_1818
  · replace h := it_f c1 h
    refine V_aload_n (i := 0) 2 dL_law_32 rfl rfl ?_
    refine V_iload (i := 4) 0 dL_law_33 rfl ?_
    obtain ⟨y4, e5, h⟩ := bd_s h
    refine V_scI hsc e5 dL_law_35 ?_
    refine V_bipush (v := 31) dL_law_36 (by decide) ?_
    refine V_iand dL_law_38 ?_
    by_cases c6 : (y4 &&& (31 : Int32)) = (0 : Int32)
    · replace h := it_t c6 h
      refine V_tableIn 168 dL_law_39 (by rw [c6]; decide) (by rw [c6]; decide) (by rw [c6]; first | done | rfl) (by decide) ?_
      refine V_sub [0, 1, 2, 3, 4] rfl ?_
      exact v_L_law_168 hst hm hsc hk23 h
    · replace h := it_f c6 h
      by_cases c7 : (y4 &&& (31 : Int32)) = (1 : Int32)
      · replace h := it_t c7 h
        refine V_tableIn 236 dL_law_39 (by rw [c7]; decide) (by rw [c7]; decide) (by rw [c7]; first | done | rfl) (by decide) ?_
        refine V_sub [0, 1, 2, 3, 4] rfl ?_
        exact v_L_law_236 hst hm hsc hk23 h
      · replace h := it_f c7 h
        by_cases c8 : (y4 &&& (31 : Int32)) = (2 : Int32)
        · replace h := it_t c8 h
          refine V_tableIn 292 dL_law_39 (by rw [c8]; decide) (by rw [c8]; decide) (by rw [c8]; first | done | rfl) (by decide) ?_
          refine V_sub [0, 1, 2, 3, 4] rfl ?_
          exact v_L_law_292 hst hm hsc hk23 h
        · replace h := it_f c8 h
          by_cases c9 : (y4 &&& (31 : Int32)) = (3 : Int32)
          · replace h := it_t c9 h
            refine V_tableIn 348 dL_law_39 (by rw [c9]; decide) (by rw [c9]; decide) (by rw [c9]; first | done | rfl) (by decide) ?_
            refine V_sub [0, 1, 2, 3, 4] rfl ?_
            exact v_L_law_348 hst hm hsc hk23 h
          · replace h := it_f c9 h
            by_cases c10 : (y4 &&& (31 : Int32)) = (4 : Int32)
            · replace h := it_t c10 h
              refine V_tableIn 416 dL_law_39 (by rw [c10]; decide) (by rw [c10]; decide) (by rw [c10]; first | done | rfl) (by decide) ?_
              refine V_sub [0, 1, 2, 3, 4] rfl ?_
              exact v_L_law_416 hst hm hsc hk23 h
            · replace h := it_f c10 h
              by_cases c11 : (y4 &&& (31 : Int32)) = (5 : Int32)
              · replace h := it_t c11 h
                refine V_tableIn 472 dL_law_39 (by rw [c11]; decide) (by rw [c11]; decide) (by rw [c11]; first | done | rfl) (by decide) ?_
                refine V_sub [0, 1, 2, 3, 4] rfl ?_
                exact v_L_law_472 hst hm hsc hk23 h
              · replace h := it_f c11 h
                by_cases c12 : (y4 &&& (31 : Int32)) = (6 : Int32)
                · replace h := it_t c12 h
                  refine V_tableIn 540 dL_law_39 (by rw [c12]; decide) (by rw [c12]; decide) (by rw [c12]; first | done | rfl) (by decide) ?_
                  refine V_sub [0, 1, 2, 3, 4] rfl ?_
                  exact v_L_law_540 hst hm hsc hk23 h
                · replace h := it_f c12 h
                  by_cases c13 : (y4 &&& (31 : Int32)) = (7 : Int32)
                  · replace h := it_t c13 h
                    refine V_tableIn 608 dL_law_39 (by rw [c13]; decide) (by rw [c13]; decide) (by rw [c13]; first | done | rfl) (by decide) ?_
                    refine V_sub [0, 1, 2, 3, 4] rfl ?_
                    exact v_L_law_608 hst hm hsc hk23 h
                  · replace h := it_f c13 h
                    by_cases c14 : (y4 &&& (31 : Int32)) = (8 : Int32)
                    · replace h := it_t c14 h
                      refine V_tableIn 664 dL_law_39 (by rw [c14]; decide) (by rw [c14]; decide) (by rw [c14]; first | done | rfl) (by decide) ?_
                      refine V_sub [0, 1, 2, 3, 4] rfl ?_
                      exact v_L_law_664 hst hm hsc hk23 h
                    · replace h := it_f c14 h
                      by_cases c15 : (y4 &&& (31 : Int32)) = (9 : Int32)
                      · replace h := it_t c15 h
                        refine V_tableIn 732 dL_law_39 (by rw [c15]; decide) (by rw [c15]; decide) (by rw [c15]; first | done | rfl) (by decide) ?_
                        refine V_sub [0, 1, 2, 3, 4] rfl ?_
                        exact v_L_law_732 hst hm hsc hk23 h
                      · replace h := it_f c15 h
                        by_cases c16 : (y4 &&& (31 : Int32)) = (10 : Int32)
                        · replace h := it_t c16 h
                          refine V_tableIn 788 dL_law_39 (by rw [c16]; decide) (by rw [c16]; decide) (by rw [c16]; first | done | rfl) (by decide) ?_
                          refine V_sub [0, 1, 2, 3, 4] rfl ?_
                          exact v_L_law_788 hst hm hsc hk23 h
                        · replace h := it_f c16 h
                          by_cases c17 : (y4 &&& (31 : Int32)) = (11 : Int32)
                          · replace h := it_t c17 h
                            refine V_tableIn 801 dL_law_39 (by rw [c17]; decide) (by rw [c17]; decide) (by rw [c17]; first | done | rfl) (by decide) ?_
                            refine V_sub [0, 1, 2, 3, 4] rfl ?_
                            exact v_L_law_801 hst hm hsc hk23 h
                          · replace h := it_f c17 h
                            by_cases c18 : (y4 &&& (31 : Int32)) = (12 : Int32)
                            · replace h := it_t c18 h
                              refine V_tableIn 814 dL_law_39 (by rw [c18]; decide) (by rw [c18]; decide) (by rw [c18]; first | done | rfl) (by decide) ?_
                              refine V_sub [0, 1, 2, 3, 4] rfl ?_
                              exact v_L_law_814 hst hm hsc hk23 h
                            · replace h := it_f c18 h
                              by_cases c19 : (y4 &&& (31 : Int32)) = (13 : Int32)
                              · replace h := it_t c19 h
                                refine V_tableIn 858 dL_law_39 (by rw [c19]; decide) (by rw [c19]; decide) (by rw [c19]; first | done | rfl) (by decide) ?_
                                refine V_sub [0, 1, 2, 3, 4] rfl ?_
                                exact v_L_law_858 hst hm hsc hk23 h
                              · replace h := it_f c19 h
                                by_cases c20 : (y4 &&& (31 : Int32)) = (14 : Int32)
                                · replace h := it_t c20 h
                                  refine V_tableIn 902 dL_law_39 (by rw [c20]; decide) (by rw [c20]; decide) (by rw [c20]; first | done | rfl) (by decide) ?_
                                  refine V_sub [0, 1, 2, 3, 4] rfl ?_
                                  exact v_L_law_902 hst hm hsc hk23 h
                                · replace h := it_f c20 h
                                  by_cases c21 : (y4 &&& (31 : Int32)) = (15 : Int32)
                                  · replace h := it_t c21 h
                                    refine V_tableIn 958 dL_law_39 (by rw [c21]; decide) (by rw [c21]; decide) (by rw [c21]; first | done | rfl) (by decide) ?_
                                    refine V_sub [0, 1, 2, 3, 4] rfl ?_
                                    exact v_L_law_958 hst hm hsc hk23 h
                                  · replace h := it_f c21 h
                                    by_cases c22 : (y4 &&& (31 : Int32)) = (16 : Int32)
                                    · replace h := it_t c22 h
                                      refine V_tableIn 1014 dL_law_39 (by rw [c22]; decide) (by rw [c22]; decide) (by rw [c22]; first | done | rfl) (by decide) ?_
                                      refine V_sub [0, 1, 2, 3, 4] rfl ?_
                                      exact v_L_law_1014 hst hm hsc hk23 h
                                    · replace h := it_f c22 h
                                      by_cases c23 : (y4 &&& (31 : Int32)) = (17 : Int32)
                                      · replace h := it_t c23 h
                                        refine V_tableIn 1082 dL_law_39 (by rw [c23]; decide) (by rw [c23]; decide) (by rw [c23]; first | done | rfl) (by decide) ?_
                                        refine V_sub [0, 1, 2, 3, 4] rfl ?_
                                        exact v_L_law_1082 hst hm hsc hk23 h
                                      · replace h := it_f c23 h
                                        by_cases c24 : (y4 &&& (31 : Int32)) = (18 : Int32)
                                        · replace h := it_t c24 h
                                          refine V_tableIn 1150 dL_law_39 (by rw [c24]; decide) (by rw [c24]; decide) (by rw [c24]; first | done | rfl) (by decide) ?_
                                          refine V_sub [0, 1, 2, 3, 4] rfl ?_
                                          exact v_L_law_1150 hst hm hsc hk23 h
                                        · replace h := it_f c24 h
                                          by_cases c25 : (y4 &&& (31 : Int32)) = (19 : Int32)
                                          · replace h := it_t c25 h
                                            refine V_tableIn 1218 dL_law_39 (by rw [c25]; decide) (by rw [c25]; decide) (by rw [c25]; first | done | rfl) (by decide) ?_
                                            refine V_sub [0, 1, 2, 3, 4] rfl ?_
                                            exact v_L_law_1218 hst hm hsc hk23 h
                                          · replace h := it_f c25 h
                                            by_cases c26 : (y4 &&& (31 : Int32)) = (20 : Int32)
                                            · replace h := it_t c26 h
                                              refine V_tableIn 1274 dL_law_39 (by rw [c26]; decide) (by rw [c26]; decide) (by rw [c26]; first | done | rfl) (by decide) ?_
                                              refine V_sub [0, 1, 2, 3, 4] rfl ?_
                                              exact v_L_law_1274 hst hm hsc hk23 h
                                            · replace h := it_f c26 h
                                              by_cases c27 : (y4 &&& (31 : Int32)) = (21 : Int32)
                                              · replace h := it_t c27 h
                                                refine V_tableIn 1330 dL_law_39 (by rw [c27]; decide) (by rw [c27]; decide) (by rw [c27]; first | done | rfl) (by decide) ?_
                                                refine V_sub [0, 1, 2, 3, 4] rfl ?_
                                                exact v_L_law_1330 hst hm hsc hk23 h
                                              · replace h := it_f c27 h
                                                by_cases c28 : (y4 &&& (31 : Int32)) = (22 : Int32)
                                                · replace h := it_t c28 h
                                                  refine V_tableIn 1386 dL_law_39 (by rw [c28]; decide) (by rw [c28]; decide) (by rw [c28]; first | done | rfl) (by decide) ?_
                                                  refine V_sub [0, 1, 2, 3, 4] rfl ?_
                                                  exact v_L_law_1386 hst hm hsc hk23 h
                                                · replace h := it_f c28 h
                                                  by_cases c29 : (y4 &&& (31 : Int32)) = (23 : Int32)
                                                  · replace h := it_t c29 h
                                                    refine V_tableIn 1454 dL_law_39 (by rw [c29]; decide) (by rw [c29]; decide) (by rw [c29]; first | done | rfl) (by decide) ?_
                                                    refine V_sub [0, 1, 2, 3, 4] rfl ?_
                                                    exact v_L_law_1454 hst hm hsc hk23 h
                                                  · replace h := it_f c29 h
                                                    by_cases c30 : (y4 &&& (31 : Int32)) = (24 : Int32)
                                                    · replace h := it_t c30 h
                                                      refine V_tableIn 1522 dL_law_39 (by rw [c30]; decide) (by rw [c30]; decide) (by rw [c30]; first | done | rfl) (by decide) ?_
                                                      refine V_sub [0, 1, 2, 3, 4] rfl ?_
                                                      exact v_L_law_1522 hst hm hsc hk23 h
                                                    · replace h := it_f c30 h
                                                      by_cases c31 : (y4 &&& (31 : Int32)) = (25 : Int32)
                                                      · replace h := it_t c31 h
                                                        refine V_tableIn 1590 dL_law_39 (by rw [c31]; decide) (by rw [c31]; decide) (by rw [c31]; first | done | rfl) (by decide) ?_
                                                        refine V_sub [0, 1, 2, 3, 4] rfl ?_
                                                        exact v_L_law_1590 hst hm hsc hk23 h
                                                      · replace h := it_f c31 h
                                                        by_cases c32 : (y4 &&& (31 : Int32)) = (26 : Int32)
                                                        · replace h := it_t c32 h
                                                          refine V_tableIn 1646 dL_law_39 (by rw [c32]; decide) (by rw [c32]; decide) (by rw [c32]; first | done | rfl) (by decide) ?_
                                                          refine V_sub [0, 1, 2, 3, 4] rfl ?_
                                                          exact v_L_law_1646 hst hm hsc hk23 h
                                                        · replace h := it_f c32 h
                                                          by_cases c33 : (y4 &&& (31 : Int32)) = (27 : Int32)
                                                          · replace h := it_t c33 h
                                                            refine V_tableIn 1702 dL_law_39 (by rw [c33]; decide) (by rw [c33]; decide) (by rw [c33]; first | done | rfl) (by decide) ?_
                                                            refine V_sub [0, 1, 2, 3, 4] rfl ?_
                                                            exact v_L_law_1702 hst hm hsc hk23 h
                                                          · replace h := it_f c33 h
                                                            by_cases c34 : (y4 &&& (31 : Int32)) = (28 : Int32)
                                                            · replace h := it_t c34 h
                                                              refine V_tableIn 1770 dL_law_39 (by rw [c34]; decide) (by rw [c34]; decide) (by rw [c34]; first | done | rfl) (by decide) ?_
                                                              refine V_sub [0, 1, 2, 3, 4] rfl ?_
                                                              exact v_L_law_1770 hst hm hsc hk23 h
                                                            · replace h := it_f c34 h
                                                              refine V_tableOut 1811 dL_law_39 (by have z0 := ne_int (a := 0) c6 (by decide); have z1 := ne_int (a := 1) c7 (by decide); have z2 := ne_int (a := 2) c8 (by decide); have z3 := ne_int (a := 3) c9 (by decide); have z4 := ne_int (a := 4) c10 (by decide); have z5 := ne_int (a := 5) c11 (by decide); have z6 := ne_int (a := 6) c12 (by decide); have z7 := ne_int (a := 7) c13 (by decide); have z8 := ne_int (a := 8) c14 (by decide); have z9 := ne_int (a := 9) c15 (by decide); have z10 := ne_int (a := 10) c16 (by decide); have z11 := ne_int (a := 11) c17 (by decide); have z12 := ne_int (a := 12) c18 (by decide); have z13 := ne_int (a := 13) c19 (by decide); have z14 := ne_int (a := 14) c20 (by decide); have z15 := ne_int (a := 15) c21 (by decide); have z16 := ne_int (a := 16) c22 (by decide); have z17 := ne_int (a := 17) c23 (by decide); have z18 := ne_int (a := 18) c24 (by decide); have z19 := ne_int (a := 19) c25 (by decide); have z20 := ne_int (a := 20) c26 (by decide); have z21 := ne_int (a := 21) c27 (by decide); have z22 := ne_int (a := 22) c28 (by decide); have z23 := ne_int (a := 23) c29 (by decide); have z24 := ne_int (a := 24) c30 (by decide); have z25 := ne_int (a := 25) c31 (by decide); have z26 := ne_int (a := 26) c32 (by decide); have z27 := ne_int (a := 27) c33 (by decide); have z28 := ne_int (a := 28) c34 (by decide); omega) (by decide) ?_
                                                              refine V_sub [0, 1, 2, 3, 4] rfl ?_
                                                              exact v_L_law_1811 hst hm hsc hk23 h
def f_L_law_23 (G : Gx) : Nat → Hp → Ms → Int32 → Nat → Nat → Option (Int32 × Hp × Ms)
  | 0, _, _, _, _, _ => none
  | n + 1, σ, S, x4, a3, a1 => f_L_law_23_b G (f_L_law_23 G n) σ S x4 a3 a1
theorem v_L_law_23 {l : Launch} {G : Gx} (hst : l.stackTraces = false) (hm : gmo G ≠ 0) (hsc : gst G 4 ≠ 0) {σ0 σe : Hp} {Se : Ms} {r : Int32} : ∀ (n : Nat) (σ : Hp) (S : Ms) (x4 : Int32) (a3 : Nat) (a1 : Nat), f_L_law_23 G n σ S x4 a3 a1 = some (r, σe, Se) → VV_L_law l G σ0 (.inl (some (pI r))) σe Se 23 [(4, pI x4), (3, pR a3), (0, pR (gst G 4)), (1, pR a1), (2, pR (gmo G))] [] σ S
  | 0, _, _, _, _, _, h => by cases h
  | n + 1, _, _, _, _, _, h => v_L_law_23_b hst hm hsc (v_L_law_23 hst hm hsc n) h
def f_L_law_16 (G : Gx) (σ : Hp) (S : Ms) (a1 : Nat) : Option (Int32 × Hp × Ms) :=
  bd (nwA σ 103 (1 : Int32)) fun σ1 => f_L_law_23 G FU σ1 S (0 : Int32) (hN σ) a1
set_option maxHeartbeats 4000000 in
theorem v_L_law_16 {l : Launch} {G : Gx} (hst : l.stackTraces = false) (hm : gmo G ≠ 0) (hsc : gst G 4 ≠ 0) {σ0 σe : Hp} {Se : Ms} {r : Int32} {σ : Hp} {S : Ms} {a1 : Nat} (h : f_L_law_16 G σ S a1 = some (r, σe, Se)) : VV_L_law l G σ0 (.inl (some (pI r))) σe Se 16 [(0, pR (gst G 4)), (1, pR a1), (2, pR (gmo G))] [] σ S := by
  unfold f_L_law_16 at h
  refine V_iconst (v := 1) dL_law_16 (by decide) ?_
  obtain ⟨σ1, e2, h⟩ := bd_s h
  refine V_nwA (t := 3) e2 rfl (by decide) q2391 dL_law_17 ?_
  refine V_astore_n (i := 3) (L' := [(3, pR (hN σ)), (0, pR (gst G 4)), (1, pR a1), (2, pR (gmo G))]) dL_law_19 rfl (by decide) rfl ?_
  refine V_iconst (v := 0) dL_law_20 (by decide) ?_
  refine V_istore (i := 4) (L' := [(4, pI (0 : Int32)), (3, pR (hN σ)), (0, pR (gst G 4)), (1, pR a1), (2, pR (gmo G))]) dL_law_21 (by decide) rfl ?_
  refine V_sub [0, 1, 2, 3, 4] rfl ?_
  exact v_L_law_23 hst hm hsc FU _ _ _ _ _ h
