/-! GaugeBlocksModel, decompiled: written by gen/dec.py -/
set_option maxRecDepth 100000
theorem gf_X3_38 : GFR RX3 38 19 5 := ⟨RX3, TX3, 18, "GaugeBlocksModel", ci_19, by decide, q2003, Or.inl rfl⟩
theorem gw_X3_38 : GF RX3 38 19 5 false := ⟨RX3, TX3, 18, "GaugeBlocksModel", ci_19, by decide, q2003, Or.inl rfl, rfl, (fun h => by cases h)⟩
theorem gf_X3_47 : GFR RX3 47 19 2 := ⟨RX3, TX3, 18, "GaugeBlocksModel", ci_19, by decide, q2000, Or.inl rfl⟩
theorem gw_X3_47 : GF RX3 47 19 2 false := ⟨RX3, TX3, 18, "GaugeBlocksModel", ci_19, by decide, q2000, Or.inl rfl, rfl, (fun h => by cases h)⟩
theorem gf_X3_7 : GFR RX3 7 19 0 := ⟨RX3, TX3, 18, "GaugeBlocksModel", ci_19, by decide, q1998, Or.inl rfl⟩
theorem gf_X3_13 : GFR RX3 13 19 1 := ⟨RX3, TX3, 18, "GaugeBlocksModel", ci_19, by decide, q1999, Or.inl rfl⟩
theorem gf_X3_19 : GFR RX3 19 19 4 := ⟨RX3, TX3, 18, "GaugeBlocksModel", ci_19, by decide, q2002, Or.inl rfl⟩
theorem gf_X3_16 : GFR RX3 16 19 3 := ⟨RX3, TX3, 18, "GaugeBlocksModel", ci_19, by decide, q2001, Or.inl rfl⟩
theorem gw_X3_97 : GF RX3 97 19 7 false := ⟨RX3, TX3, 18, "GaugeBlocksModel", ci_19, by decide, q2005, Or.inl rfl, rfl, (fun h => by cases h)⟩
theorem gf_X3_23 : GFR RX3 23 19 6 := ⟨RX3, TX3, 18, "GaugeBlocksModel", ci_19, by decide, q2004, Or.inl rfl⟩
theorem gf_X3_97 : GFR RX3 97 19 7 := ⟨RX3, TX3, 18, "GaugeBlocksModel", ci_19, by decide, q2005, Or.inl rfl⟩
theorem gf_X3_147 : GFR RX3 147 19 9 := ⟨RX3, TX3, 18, "GaugeBlocksModel", ci_19, by decide, q2007, Or.inl rfl⟩
theorem gf_X3_26 : GFR RX3 26 19 8 := ⟨RX3, TX3, 18, "GaugeBlocksModel", ci_19, by decide, q2006, Or.inl rfl⟩
theorem gw_X3_147 : GF RX3 147 19 9 false := ⟨RX3, TX3, 18, "GaugeBlocksModel", ci_19, by decide, q2007, Or.inl rfl, rfl, (fun h => by cases h)⟩
theorem gf_X3_150 : GFR RX3 150 19 10 := ⟨RX3, TX3, 18, "GaugeBlocksModel", ci_19, by decide, q2008, Or.inl rfl⟩
theorem gw_X3_150 : GF RX3 150 19 10 false := ⟨RX3, TX3, 18, "GaugeBlocksModel", ci_19, by decide, q2008, Or.inl rfl, rfl, (fun h => by cases h)⟩
theorem gw_X3_156 : GF RX3 156 19 11 false := ⟨RX3, TX3, 18, "GaugeBlocksModel", ci_19, by decide, q2009, Or.inl rfl, rfl, (fun h => by cases h)⟩
theorem gf_X3_156 : GFR RX3 156 19 11 := ⟨RX3, TX3, 18, "GaugeBlocksModel", ci_19, by decide, q2009, Or.inl rfl⟩
theorem gf_X3_32 : GFR RX3 32 19 14 := ⟨RX3, TX3, 18, "GaugeBlocksModel", ci_19, by decide, q2012, Or.inl rfl⟩
theorem gf_X3_162 : GFR RX3 162 19 12 := ⟨RX3, TX3, 18, "GaugeBlocksModel", ci_19, by decide, q2010, Or.inl rfl⟩
theorem gf_X3_29 : GFR RX3 29 19 13 := ⟨RX3, TX3, 18, "GaugeBlocksModel", ci_19, by decide, q2011, Or.inl rfl⟩
theorem gf_X3_35 : GFR RX3 35 19 15 := ⟨RX3, TX3, 18, "GaugeBlocksModel", ci_19, by decide, q2013, Or.inl rfl⟩
theorem gw_X3_162 : GF RX3 162 19 12 false := ⟨RX3, TX3, 18, "GaugeBlocksModel", ci_19, by decide, q2010, Or.inl rfl, rfl, (fun h => by cases h)⟩
theorem gf_X3_227 : GFR RX3 227 19 17 := ⟨RX3, TX3, 18, "GaugeBlocksModel", ci_19, by decide, q2015, Or.inl rfl⟩
theorem gf_X3_230 : GFR RX3 230 19 16 := ⟨RX3, TX3, 18, "GaugeBlocksModel", ci_19, by decide, q2014, Or.inl rfl⟩
theorem gw_X3_230 : GF RX3 230 19 16 false := ⟨RX3, TX3, 18, "GaugeBlocksModel", ci_19, by decide, q2014, Or.inl rfl, rfl, (fun h => by cases h)⟩
theorem gw_X3_227 : GF RX3 227 19 17 false := ⟨RX3, TX3, 18, "GaugeBlocksModel", ci_19, by decide, q2015, Or.inl rfl, rfl, (fun h => by cases h)⟩
abbrev VV_X3_thrown (l : Launch) (G : Gx) (σ0 : Hp) (o : Oc) (σe : Hp) (Se : Ms) := V l G RX3 cX3_thrown 1 (some .int) [] false 1 30 σ0 o σe Se
def f_X3_thrown (S : Ms) : Option (Int32 × Ms) :=
  some ((S.1 5), S)
set_option maxHeartbeats 4000000 in
theorem v_X3_thrown (l : Launch) (G : Gx) (hst : l.stackTraces = false) (hm : gmo G ≠ 0) (σ : Hp) {S Se : Ms} {r : Int32} (h : f_X3_thrown S  = some (r, Se)) : MT l G yX3_thrown (ws_ yX3_thrown cX3_thrown 1 (some .int)) 1 30 [pR (gmo G)] σ S (.inl (some (pI r))) σ Se := by
  refine MT_of (own := RX3) (nL := 1) (ini := false) (by decide +kernel) rfl (Nat.le_of_ble_eq_true rfl) (fun h => by cases h) hst ?_
  show VV_X3_thrown l G σ (.inl (some (pI r))) σ Se 0 [(0, pR (gmo G))] [] σ S
  unfold f_X3_thrown at h
  refine V_aload_n (i := 0) 0 dX3_thrown_0 rfl rfl ?_
  refine V_mrdI hm gf_X3_38 (by decide) rfl dX3_thrown_1 ?_
  cases h
  exact V_iret rfl dX3_thrown_4

abbrev VV_X3_fails (l : Launch) (G : Gx) (σ0 : Hp) (o : Oc) (σe : Hp) (Se : Ms) := V l G RX3 cX3_fails 2 (some .int) [] false 1 30 σ0 o σe Se
def f_X3_fails (S : Ms) (x1 : Int32) : Option (Int32 × Ms) :=
  some ((0 : Int32), (sM S 5 x1))
set_option maxHeartbeats 4000000 in
theorem v_X3_fails (l : Launch) (G : Gx) (hst : l.stackTraces = false) (hm : gmo G ≠ 0) (σ : Hp) {S Se : Ms} {x1 : Int32} {r : Int32} (h : f_X3_fails S x1 = some (r, Se)) : MT l G yX3_fails (ws_ yX3_fails cX3_fails 2 (some .int)) 1 30 [pR (gmo G), pI x1] σ S (.inl (some (pI r))) σ Se := by
  refine MT_of (own := RX3) (nL := 2) (ini := false) (by decide +kernel) rfl (Nat.le_of_ble_eq_true rfl) (fun h => by cases h) hst ?_
  show VV_X3_fails l G σ (.inl (some (pI r))) σ Se 0 [(0, pR (gmo G)), (1, pI x1)] [] σ S
  unfold f_X3_fails at h
  refine V_aload_n (i := 0) 0 dX3_fails_0 rfl rfl ?_
  refine V_iload_n (i := 1) 1 dX3_fails_1 rfl rfl ?_
  refine V_mput hm gw_X3_38 (by decide) rfl dX3_fails_2 ?_
  refine V_iconst (v := 0) dX3_fails_5 (by decide) ?_
  cases h
  exact V_iret rfl dX3_fails_6

abbrev VV_X3_undo (l : Launch) (G : Gx) (σ0 : Hp) (o : Oc) (σe : Hp) (Se : Ms) := V l G RX3 cX3_undo 2 (some .int) [] false 2 51 σ0 o σe Se
def f_X3_undo_30_b (k30 : Ms → Int32 → Option (Int32 × Ms)) (S : Ms) (x1 : Int32) : Option (Int32 × Ms) :=
  if (149 : Int32) ≤ x1 then (some ((S.1 2), S)) else (bd (mrd S 1 894 (((149 : Int32) * (S.1 2)) + x1)) fun y2 => bd (mwr S 0 149 x1 y2) fun S4 => k30 S4 (x1 + (1 : Int32)))
set_option maxHeartbeats 4000000 in
theorem v_X3_undo_30_b {l : Launch} {G : Gx} (hst : l.stackTraces = false) (hm : gmo G ≠ 0) {σ0 σe : Hp} {Se : Ms} {r : Int32} {k30 : Ms → Int32 → Option (Int32 × Ms)} (hk30 : ∀ (S : Ms) (x1 : Int32), k30 S x1 = some (r, Se) → VV_X3_undo l G σ0 (.inl (some (pI r))) σe Se 30 [(1, pI x1), (0, pR (gmo G))] [] σe S) {S : Ms} {x1 : Int32} (h : f_X3_undo_30_b k30 S x1 = some (r, Se)) : VV_X3_undo l G σ0 (.inl (some (pI r))) σe Se 30 [(1, pI x1), (0, pR (gmo G))] [] σe S := by
  unfold f_X3_undo_30_b at h
  refine V_iload_n (i := 1) 0 dX3_undo_30 rfl rfl ?_
  refine V_sipush (v := 149) dX3_undo_31 (by decide) ?_
  refine V_icmp_ge 64 dX3_undo_34 (by decide) (fun c1 => ?_) (fun c1 => ?_)
  · replace h := it_t c1 h
    refine V_aload_n (i := 0) 1 dX3_undo_64 rfl rfl ?_
    refine V_mrdI hm gf_X3_47 (by decide) rfl dX3_undo_65 ?_
    cases h
    exact V_iret rfl dX3_undo_68
  · replace h := it_f c1 h
    refine V_aload_n (i := 0) 1 dX3_undo_37 rfl rfl ?_
    refine V_mrdA hm gf_X3_7 (by decide) rfl dX3_undo_38 ?_
    refine V_iload_n (i := 1) 0 dX3_undo_41 rfl rfl ?_
    refine V_aload_n (i := 0) 1 dX3_undo_42 rfl rfl ?_
    refine V_mrdA hm gf_X3_13 (by decide) rfl dX3_undo_43 ?_
    refine V_sipush (v := 149) dX3_undo_46 (by decide) ?_
    refine V_aload_n (i := 0) 1 dX3_undo_49 rfl rfl ?_
    refine V_mrdI hm gf_X3_47 (by decide) rfl dX3_undo_50 ?_
    refine V_imul dX3_undo_53 ?_
    refine V_iload_n (i := 1) 0 dX3_undo_54 rfl rfl ?_
    refine V_iadd dX3_undo_55 ?_
    obtain ⟨y2, e3, h⟩ := bd_s h
    refine V_mel hm e3 (by decide) rfl (by decide) dX3_undo_56 ?_
    obtain ⟨S4, e5, h⟩ := bd_s h
    refine V_mst hm e5 (by decide) rfl (by decide) dX3_undo_57 ?_
    refine V_iinc (v := (x1 + (1 : Int32))) (L' := [(1, pI (x1 + (1 : Int32))), (0, pR (gmo G))]) 0 dX3_undo_58 rfl rfl (by decide) rfl ?_
    refine V_goto 30 dX3_undo_61 (by decide) ?_
    refine V_sub [0, 1] rfl ?_
    exact hk30 _ _ h
def f_X3_undo_30 : Nat → Ms → Int32 → Option (Int32 × Ms)
  | 0, _, _ => none
  | n + 1, S, x1 => f_X3_undo_30_b (f_X3_undo_30 n) S x1
theorem v_X3_undo_30 {l : Launch} {G : Gx} (hst : l.stackTraces = false) (hm : gmo G ≠ 0) {σ0 σe : Hp} {Se : Ms} {r : Int32} : ∀ (n : Nat) (S : Ms) (x1 : Int32), f_X3_undo_30 n S x1 = some (r, Se) → VV_X3_undo l G σ0 (.inl (some (pI r))) σe Se 30 [(1, pI x1), (0, pR (gmo G))] [] σe S
  | 0, _, _, h => by cases h
  | n + 1, _, _, h => v_X3_undo_30_b hst hm (v_X3_undo_30 hst hm n) h
def f_X3_undo (S : Ms) : Option (Int32 × Ms) :=
  if ((sM S 5 (0 : Int32)).1 2) = (0 : Int32) then (bp (f_X3_fails (sM S 5 (0 : Int32)) (1 : Int32)) fun y2 S3 => some (y2, S3)) else (f_X3_undo_30 FU (sM (sM S 5 (0 : Int32)) 2 (((sM S 5 (0 : Int32)).1 2) - (1 : Int32))) (0 : Int32))
set_option maxHeartbeats 4000000 in
theorem v_X3_undo (l : Launch) (G : Gx) (hst : l.stackTraces = false) (hm : gmo G ≠ 0) (σ : Hp) {S Se : Ms} {r : Int32} (h : f_X3_undo S  = some (r, Se)) : MT l G yX3_undo (ws_ yX3_undo cX3_undo 2 (some .int)) 2 51 [pR (gmo G)] σ S (.inl (some (pI r))) σ Se := by
  refine MT_of (own := RX3) (nL := 2) (ini := false) (by decide +kernel) rfl (Nat.le_of_ble_eq_true rfl) (fun h => by cases h) hst ?_
  show VV_X3_undo l G σ (.inl (some (pI r))) σ Se 0 [(0, pR (gmo G))] [] σ S
  unfold f_X3_undo at h
  refine V_aload_n (i := 0) 0 dX3_undo_0 rfl rfl ?_
  refine V_iconst (v := 0) dX3_undo_1 (by decide) ?_
  refine V_mput hm gw_X3_38 (by decide) rfl dX3_undo_2 ?_
  refine V_aload_n (i := 0) 0 dX3_undo_5 rfl rfl ?_
  refine V_mrdI hm gf_X3_47 (by decide) rfl dX3_undo_6 ?_
  refine V_if_ne 18 dX3_undo_9 (by decide) (fun c1 => ?_) (fun c1 => ?_)
  · replace h := it_f c1 h
    refine V_aload_n (i := 0) 0 dX3_undo_18 rfl rfl ?_
    refine V_dup dX3_undo_19 rfl ?_
    refine V_mrdI hm gf_X3_47 (by decide) rfl dX3_undo_20 ?_
    refine V_iconst (v := 1) dX3_undo_23 (by decide) ?_
    refine V_isub dX3_undo_24 ?_
    refine V_mput hm gw_X3_47 (by decide) rfl dX3_undo_25 ?_
    refine V_iconst (v := 0) dX3_undo_28 (by decide) ?_
    refine V_istore_n (i := 1) (L' := [(1, pI (0 : Int32)), (0, pR (gmo G))]) dX3_undo_29 rfl (by decide) rfl ?_
    refine V_sub [0, 1] rfl ?_
    exact v_X3_undo_30 hst hm FU _ _ h
  · replace h := it_t c1 h
    refine V_aload_n (i := 0) 0 dX3_undo_12 rfl rfl ?_
    refine V_iconst (v := 1) dX3_undo_13 (by decide) ?_
    obtain ⟨y2, S3, e4, h⟩ := bp_s h
    refine V_callM_v (n9 := 1) [] hm (v_X3_fails l G hst hm _ e4) rfl rfl (lw_V q2062 q2064 qs28 q90 q2065) (by decide +kernel) (by decide) (Nat.le_of_ble_eq_true rfl) dX3_undo_14 ?_
    cases h
    exact V_iret rfl dX3_undo_17

abbrev VV_X3_in (l : Launch) (G : Gx) (σ0 : Hp) (o : Oc) (σe : Hp) (Se : Ms) := V l G RX3 cX3_in 3 (some .boolean) [] false 1 30 σ0 o σe Se
def f_X3_in_15 (s0 : Int32) : Option Int32 :=
  bd (okZ s0) fun e1 => some s0
set_option maxHeartbeats 4000000 in
theorem v_X3_in_15 {l : Launch} {G : Gx} (hst : l.stackTraces = false) {σ0 σe : Hp} {Se : Ms} {r : Int32} {s0 : Int32} (h : f_X3_in_15 s0 = some r) : VV_X3_in l G σ0 (.inl (some (pI r))) σe Se 15 [] [pI s0] σe Se := by
  unfold f_X3_in_15 at h
  obtain ⟨e1, e2, h⟩ := bd_s h
  cases h
  exact V_retZ e2 rfl dX3_in_15
def f_X3_in_14 : Option Int32 :=
  f_X3_in_15 (0 : Int32)
set_option maxHeartbeats 4000000 in
theorem v_X3_in_14 {l : Launch} {G : Gx} (hst : l.stackTraces = false) {σ0 σe : Hp} {Se : Ms} {r : Int32} (h : f_X3_in_14  = some r) : VV_X3_in l G σ0 (.inl (some (pI r))) σe Se 14 [] [] σe Se := by
  unfold f_X3_in_14 at h
  refine V_iconst (v := 0) dX3_in_14 (by decide) ?_
  refine V_sub [] rfl ?_
  exact v_X3_in_15 hst h
def f_X3_in (x0 : Int32) (x1 : Int32) (x2 : Int32) : Option Int32 :=
  if x0 < x1 then (f_X3_in_14 ) else (if x2 < x0 then (f_X3_in_14 ) else (f_X3_in_15 (1 : Int32)))
set_option maxHeartbeats 4000000 in
theorem v_X3_in (l : Launch) (G : Gx) (hst : l.stackTraces = false) (σ : Hp) (S : Ms) {x0 : Int32} {x1 : Int32} {x2 : Int32} {r : Int32} (h : f_X3_in x0 x1 x2 = some r) : MT l G yX3_in (ws_ yX3_in cX3_in 3 (some .boolean)) 1 30 [pI x0, pI x1, pI x2] σ S (.inl (some (pI r))) σ S := by
  refine MT_of (own := RX3) (nL := 3) (ini := false) (by decide +kernel) rfl (Nat.le_of_ble_eq_true rfl) (fun h => by cases h) hst ?_
  show VV_X3_in l G σ (.inl (some (pI r))) σ S 0 [(0, pI x0), (1, pI x1), (2, pI x2)] [] σ S
  unfold f_X3_in at h
  refine V_iload_n (i := 0) 0 dX3_in_0 rfl rfl ?_
  refine V_iload_n (i := 1) 1 dX3_in_1 rfl rfl ?_
  refine V_icmp_lt 14 dX3_in_2 (by decide) (fun c1 => ?_) (fun c1 => ?_)
  · replace h := it_t c1 h
    refine V_sub [] rfl ?_
    exact v_X3_in_14 hst h
  · replace h := it_f c1 h
    refine V_iload_n (i := 0) 0 dX3_in_5 rfl rfl ?_
    refine V_iload_n (i := 2) 2 dX3_in_6 rfl rfl ?_
    refine V_icmp_gt 14 dX3_in_7 (by decide) (fun c2 => ?_) (fun c2 => ?_)
    · replace h := it_t c2 h
      refine V_sub [] rfl ?_
      exact v_X3_in_14 hst h
    · replace h := it_f c2 h
      refine V_iconst (v := 1) dX3_in_10 (by decide) ?_
      refine V_goto 15 dX3_in_11 (by decide) ?_
      refine V_sub [] rfl ?_
      exact v_X3_in_15 hst h

abbrev VV_X3_keep (l : Launch) (G : Gx) (σ0 : Hp) (o : Oc) (σe : Hp) (Se : Ms) := V l G RX3 cX3_keep 3 (some .int) [] false 2 52 σ0 o σe Se
def f_X3_keep_22_b (k22 : Ms → Int32 → Int32 → Option (Int32 × Ms)) (S : Ms) (x2 : Int32) (x1 : Int32) : Option (Int32 × Ms) :=
  if (149 : Int32) ≤ x2 then (bd (mwz S 4 2 x1 (1 : Int32)) fun S2 => bd (mrd S2 0 149 (8 : Int32)) fun y4 => some (y4, S2)) else (bd (mrd S 0 149 x2) fun y6 => bd (mwr S 3 298 (((149 : Int32) * x1) + x2) y6) fun S8 => k22 S8 (x2 + (1 : Int32)) x1)
set_option maxHeartbeats 4000000 in
theorem v_X3_keep_22_b {l : Launch} {G : Gx} (hst : l.stackTraces = false) (hm : gmo G ≠ 0) {σ0 σe : Hp} {Se : Ms} {r : Int32} {k22 : Ms → Int32 → Int32 → Option (Int32 × Ms)} (hk22 : ∀ (S : Ms) (x2 : Int32) (x1 : Int32), k22 S x2 x1 = some (r, Se) → VV_X3_keep l G σ0 (.inl (some (pI r))) σe Se 22 [(2, pI x2), (0, pR (gmo G)), (1, pI x1)] [] σe S) {S : Ms} {x2 : Int32} {x1 : Int32} (h : f_X3_keep_22_b k22 S x2 x1 = some (r, Se)) : VV_X3_keep l G σ0 (.inl (some (pI r))) σe Se 22 [(2, pI x2), (0, pR (gmo G)), (1, pI x1)] [] σe S := by
  unfold f_X3_keep_22_b at h
  refine V_iload_n (i := 2) 0 dX3_keep_22 rfl rfl ?_
  refine V_sipush (v := 149) dX3_keep_23 (by decide) ?_
  refine V_icmp_ge 53 dX3_keep_26 (by decide) (fun c1 => ?_) (fun c1 => ?_)
  · replace h := it_t c1 h
    refine V_aload_n (i := 0) 1 dX3_keep_53 rfl rfl ?_
    refine V_mrdA hm gf_X3_19 (by decide) rfl dX3_keep_54 ?_
    refine V_iload_n (i := 1) 2 dX3_keep_57 rfl rfl ?_
    refine V_iconst (v := 1) dX3_keep_58 (by decide) ?_
    obtain ⟨S2, e3, h⟩ := bd_s h
    refine V_mstz hm e3 (by decide) rfl (by decide) dX3_keep_59 ?_
    refine V_aload_n (i := 0) 1 dX3_keep_60 rfl rfl ?_
    refine V_mrdA hm gf_X3_7 (by decide) rfl dX3_keep_61 ?_
    refine V_bipush (v := 8) dX3_keep_64 (by decide) ?_
    obtain ⟨y4, e5, h⟩ := bd_s h
    refine V_mel hm e5 (by decide) rfl (by decide) dX3_keep_66 ?_
    cases h
    exact V_iret rfl dX3_keep_67
  · replace h := it_f c1 h
    refine V_aload_n (i := 0) 1 dX3_keep_29 rfl rfl ?_
    refine V_mrdA hm gf_X3_16 (by decide) rfl dX3_keep_30 ?_
    refine V_sipush (v := 149) dX3_keep_33 (by decide) ?_
    refine V_iload_n (i := 1) 2 dX3_keep_36 rfl rfl ?_
    refine V_imul dX3_keep_37 ?_
    refine V_iload_n (i := 2) 0 dX3_keep_38 rfl rfl ?_
    refine V_iadd dX3_keep_39 ?_
    refine V_aload_n (i := 0) 1 dX3_keep_40 rfl rfl ?_
    refine V_mrdA hm gf_X3_7 (by decide) rfl dX3_keep_41 ?_
    refine V_iload_n (i := 2) 0 dX3_keep_44 rfl rfl ?_
    obtain ⟨y6, e7, h⟩ := bd_s h
    refine V_mel hm e7 (by decide) rfl (by decide) dX3_keep_45 ?_
    obtain ⟨S8, e9, h⟩ := bd_s h
    refine V_mst hm e9 (by decide) rfl (by decide) dX3_keep_46 ?_
    refine V_iinc (v := (x2 + (1 : Int32))) (L' := [(2, pI (x2 + (1 : Int32))), (0, pR (gmo G)), (1, pI x1)]) 0 dX3_keep_47 rfl rfl (by decide) rfl ?_
    refine V_goto 22 dX3_keep_50 (by decide) ?_
    refine V_sub [0, 1, 2] rfl ?_
    exact hk22 _ _ _ h
def f_X3_keep_22 : Nat → Ms → Int32 → Int32 → Option (Int32 × Ms)
  | 0, _, _, _ => none
  | n + 1, S, x2, x1 => f_X3_keep_22_b (f_X3_keep_22 n) S x2 x1
theorem v_X3_keep_22 {l : Launch} {G : Gx} (hst : l.stackTraces = false) (hm : gmo G ≠ 0) {σ0 σe : Hp} {Se : Ms} {r : Int32} : ∀ (n : Nat) (S : Ms) (x2 : Int32) (x1 : Int32), f_X3_keep_22 n S x2 x1 = some (r, Se) → VV_X3_keep l G σ0 (.inl (some (pI r))) σe Se 22 [(2, pI x2), (0, pR (gmo G)), (1, pI x1)] [] σe S
  | 0, _, _, _, h => by cases h
  | n + 1, _, _, _, h => v_X3_keep_22_b hst hm (v_X3_keep_22 hst hm n) h
def f_X3_keep (S : Ms) (x1 : Int32) : Option (Int32 × Ms) :=
  bd (f_X3_in x1 (0 : Int32) (1 : Int32)) fun y1 => if y1 = (0 : Int32) then (bp (f_X3_fails (sM S 5 (0 : Int32)) (1 : Int32)) fun y4 S5 => some (y4, S5)) else (f_X3_keep_22 FU (sM S 5 (0 : Int32)) (0 : Int32) x1)
set_option maxHeartbeats 4000000 in
theorem v_X3_keep (l : Launch) (G : Gx) (hst : l.stackTraces = false) (hm : gmo G ≠ 0) (σ : Hp) {S Se : Ms} {x1 : Int32} {r : Int32} (h : f_X3_keep S x1 = some (r, Se)) : MT l G yX3_keep (ws_ yX3_keep cX3_keep 3 (some .int)) 2 52 [pR (gmo G), pI x1] σ S (.inl (some (pI r))) σ Se := by
  refine MT_of (own := RX3) (nL := 3) (ini := false) (by decide +kernel) rfl (Nat.le_of_ble_eq_true rfl) (fun h => by cases h) hst ?_
  show VV_X3_keep l G σ (.inl (some (pI r))) σ Se 0 [(0, pR (gmo G)), (1, pI x1)] [] σ S
  unfold f_X3_keep at h
  refine V_aload_n (i := 0) 0 dX3_keep_0 rfl rfl ?_
  refine V_iconst (v := 0) dX3_keep_1 (by decide) ?_
  refine V_mput hm gw_X3_38 (by decide) rfl dX3_keep_2 ?_
  refine V_iload_n (i := 1) 1 dX3_keep_5 rfl rfl ?_
  refine V_iconst (v := 0) dX3_keep_6 (by decide) ?_
  refine V_iconst (v := 1) dX3_keep_7 (by decide) ?_
  obtain ⟨y1, e2, h⟩ := bd_s h
  refine V_callS_v (n9 := 3) [] (v_X3_in l G hst _ _ e2) rfl rfl (lw_S q2070 q2071 q90 q2072) (by decide +kernel) (by decide) (Nat.le_of_ble_eq_true rfl) dX3_keep_8 ?_
  refine V_if_ne 20 dX3_keep_11 (by decide) (fun c3 => ?_) (fun c3 => ?_)
  · replace h := it_f c3 h
    refine V_iconst (v := 0) dX3_keep_20 (by decide) ?_
    refine V_istore_n (i := 2) (L' := [(2, pI (0 : Int32)), (0, pR (gmo G)), (1, pI x1)]) dX3_keep_21 rfl (by decide) rfl ?_
    refine V_sub [0, 1, 2] rfl ?_
    exact v_X3_keep_22 hst hm FU _ _ _ h
  · replace h := it_t c3 h
    refine V_aload_n (i := 0) 0 dX3_keep_14 rfl rfl ?_
    refine V_iconst (v := 1) dX3_keep_15 (by decide) ?_
    obtain ⟨y4, S5, e6, h⟩ := bp_s h
    refine V_callM_v (n9 := 1) [] hm (v_X3_fails l G hst hm _ e6) rfl rfl (lw_V q2062 q2064 qs28 q90 q2065) (by decide +kernel) (by decide) (Nat.le_of_ble_eq_true rfl) dX3_keep_16 ?_
    cases h
    exact V_iret rfl dX3_keep_19

abbrev VV_X3_save (l : Launch) (G : Gx) (σ0 : Hp) (o : Oc) (σe : Hp) (Se : Ms) := V l G RX3 cX3_save 2 none [] false 1 30 σ0 o σe Se
def f_X3_save_52_b (k52 : Ms → Int32 → Option (Unit × Ms)) (S : Ms) (x1 : Int32) : Option (Unit × Ms) :=
  if (149 : Int32) ≤ x1 then (some ((), (sM S 2 ((S.1 2) + (1 : Int32))))) else (bd (mrd S 0 149 x1) fun y2 => bd (mwr S 1 894 (((149 : Int32) * (S.1 2)) + x1) y2) fun S4 => k52 S4 (x1 + (1 : Int32)))
set_option maxHeartbeats 4000000 in
theorem v_X3_save_52_b {l : Launch} {G : Gx} (hst : l.stackTraces = false) (hm : gmo G ≠ 0) {σ0 σe : Hp} {Se : Ms} {r : Unit} {k52 : Ms → Int32 → Option (Unit × Ms)} (hk52 : ∀ (S : Ms) (x1 : Int32), k52 S x1 = some (r, Se) → VV_X3_save l G σ0 (.inl none) σe Se 52 [(1, pI x1), (0, pR (gmo G))] [] σe S) {S : Ms} {x1 : Int32} (h : f_X3_save_52_b k52 S x1 = some (r, Se)) : VV_X3_save l G σ0 (.inl none) σe Se 52 [(1, pI x1), (0, pR (gmo G))] [] σe S := by
  unfold f_X3_save_52_b at h
  refine V_iload_n (i := 1) 0 dX3_save_52 rfl rfl ?_
  refine V_sipush (v := 149) dX3_save_53 (by decide) ?_
  refine V_icmp_ge 86 dX3_save_56 (by decide) (fun c1 => ?_) (fun c1 => ?_)
  · replace h := it_t c1 h
    refine V_aload_n (i := 0) 1 dX3_save_86 rfl rfl ?_
    refine V_dup dX3_save_87 rfl ?_
    refine V_mrdI hm gf_X3_47 (by decide) rfl dX3_save_88 ?_
    refine V_iconst (v := 1) dX3_save_91 (by decide) ?_
    refine V_iadd dX3_save_92 ?_
    refine V_mput hm gw_X3_47 (by decide) rfl dX3_save_93 ?_
    cases h
    exact V_vret rfl dX3_save_96
  · replace h := it_f c1 h
    refine V_aload_n (i := 0) 1 dX3_save_59 rfl rfl ?_
    refine V_mrdA hm gf_X3_13 (by decide) rfl dX3_save_60 ?_
    refine V_sipush (v := 149) dX3_save_63 (by decide) ?_
    refine V_aload_n (i := 0) 1 dX3_save_66 rfl rfl ?_
    refine V_mrdI hm gf_X3_47 (by decide) rfl dX3_save_67 ?_
    refine V_imul dX3_save_70 ?_
    refine V_iload_n (i := 1) 0 dX3_save_71 rfl rfl ?_
    refine V_iadd dX3_save_72 ?_
    refine V_aload_n (i := 0) 1 dX3_save_73 rfl rfl ?_
    refine V_mrdA hm gf_X3_7 (by decide) rfl dX3_save_74 ?_
    refine V_iload_n (i := 1) 0 dX3_save_77 rfl rfl ?_
    obtain ⟨y2, e3, h⟩ := bd_s h
    refine V_mel hm e3 (by decide) rfl (by decide) dX3_save_78 ?_
    obtain ⟨S4, e5, h⟩ := bd_s h
    refine V_mst hm e5 (by decide) rfl (by decide) dX3_save_79 ?_
    refine V_iinc (v := (x1 + (1 : Int32))) (L' := [(1, pI (x1 + (1 : Int32))), (0, pR (gmo G))]) 0 dX3_save_80 rfl rfl (by decide) rfl ?_
    refine V_goto 52 dX3_save_83 (by decide) ?_
    refine V_sub [0, 1] rfl ?_
    exact hk52 _ _ h
def f_X3_save_52 : Nat → Ms → Int32 → Option (Unit × Ms)
  | 0, _, _ => none
  | n + 1, S, x1 => f_X3_save_52_b (f_X3_save_52 n) S x1
theorem v_X3_save_52 {l : Launch} {G : Gx} (hst : l.stackTraces = false) (hm : gmo G ≠ 0) {σ0 σe : Hp} {Se : Ms} {r : Unit} : ∀ (n : Nat) (S : Ms) (x1 : Int32), f_X3_save_52 n S x1 = some (r, Se) → VV_X3_save l G σ0 (.inl none) σe Se 52 [(1, pI x1), (0, pR (gmo G))] [] σe S
  | 0, _, _, h => by cases h
  | n + 1, _, _, h => v_X3_save_52_b hst hm (v_X3_save_52 hst hm n) h
def f_X3_save_50 (S : Ms) : Option (Unit × Ms) :=
  f_X3_save_52 FU S (0 : Int32)
set_option maxHeartbeats 4000000 in
theorem v_X3_save_50 {l : Launch} {G : Gx} (hst : l.stackTraces = false) (hm : gmo G ≠ 0) {σ0 σe : Hp} {Se : Ms} {r : Unit} {S : Ms} (h : f_X3_save_50 S  = some (r, Se)) : VV_X3_save l G σ0 (.inl none) σe Se 50 [(0, pR (gmo G))] [] σe S := by
  unfold f_X3_save_50 at h
  refine V_iconst (v := 0) dX3_save_50 (by decide) ?_
  refine V_istore_n (i := 1) (L' := [(1, pI (0 : Int32)), (0, pR (gmo G))]) dX3_save_51 rfl (by decide) rfl ?_
  refine V_sub [0, 1] rfl ?_
  exact v_X3_save_52 hst hm FU _ _ h
def f_X3_save_11_b (k11 : Ms → Int32 → Option (Unit × Ms)) (S : Ms) (x1 : Int32) : Option (Unit × Ms) :=
  if (745 : Int32) ≤ x1 then (f_X3_save_50 (sM S 2 ((S.1 2) - (1 : Int32))) ) else (bd (mrd S 1 894 (x1 + (149 : Int32))) fun y2 => bd (mwr S 1 894 x1 y2) fun S4 => k11 S4 (x1 + (1 : Int32)))
set_option maxHeartbeats 4000000 in
theorem v_X3_save_11_b {l : Launch} {G : Gx} (hst : l.stackTraces = false) (hm : gmo G ≠ 0) {σ0 σe : Hp} {Se : Ms} {r : Unit} {k11 : Ms → Int32 → Option (Unit × Ms)} (hk11 : ∀ (S : Ms) (x1 : Int32), k11 S x1 = some (r, Se) → VV_X3_save l G σ0 (.inl none) σe Se 11 [(1, pI x1), (0, pR (gmo G))] [] σe S) {S : Ms} {x1 : Int32} (h : f_X3_save_11_b k11 S x1 = some (r, Se)) : VV_X3_save l G σ0 (.inl none) σe Se 11 [(1, pI x1), (0, pR (gmo G))] [] σe S := by
  unfold f_X3_save_11_b at h
  refine V_iload_n (i := 1) 0 dX3_save_11 rfl rfl ?_
  refine V_sipush (v := 745) dX3_save_12 (by decide) ?_
  refine V_icmp_ge 40 dX3_save_15 (by decide) (fun c1 => ?_) (fun c1 => ?_)
  · replace h := it_t c1 h
    refine V_aload_n (i := 0) 1 dX3_save_40 rfl rfl ?_
    refine V_dup dX3_save_41 rfl ?_
    refine V_mrdI hm gf_X3_47 (by decide) rfl dX3_save_42 ?_
    refine V_iconst (v := 1) dX3_save_45 (by decide) ?_
    refine V_isub dX3_save_46 ?_
    refine V_mput hm gw_X3_47 (by decide) rfl dX3_save_47 ?_
    refine V_sub [1] rfl ?_
    exact v_X3_save_50 hst hm h
  · replace h := it_f c1 h
    refine V_aload_n (i := 0) 1 dX3_save_18 rfl rfl ?_
    refine V_mrdA hm gf_X3_13 (by decide) rfl dX3_save_19 ?_
    refine V_iload_n (i := 1) 0 dX3_save_22 rfl rfl ?_
    refine V_aload_n (i := 0) 1 dX3_save_23 rfl rfl ?_
    refine V_mrdA hm gf_X3_13 (by decide) rfl dX3_save_24 ?_
    refine V_iload_n (i := 1) 0 dX3_save_27 rfl rfl ?_
    refine V_sipush (v := 149) dX3_save_28 (by decide) ?_
    refine V_iadd dX3_save_31 ?_
    obtain ⟨y2, e3, h⟩ := bd_s h
    refine V_mel hm e3 (by decide) rfl (by decide) dX3_save_32 ?_
    obtain ⟨S4, e5, h⟩ := bd_s h
    refine V_mst hm e5 (by decide) rfl (by decide) dX3_save_33 ?_
    refine V_iinc (v := (x1 + (1 : Int32))) (L' := [(1, pI (x1 + (1 : Int32))), (0, pR (gmo G))]) 0 dX3_save_34 rfl rfl (by decide) rfl ?_
    refine V_goto 11 dX3_save_37 (by decide) ?_
    refine V_sub [0, 1] rfl ?_
    exact hk11 _ _ h
def f_X3_save_11 : Nat → Ms → Int32 → Option (Unit × Ms)
  | 0, _, _ => none
  | n + 1, S, x1 => f_X3_save_11_b (f_X3_save_11 n) S x1
theorem v_X3_save_11 {l : Launch} {G : Gx} (hst : l.stackTraces = false) (hm : gmo G ≠ 0) {σ0 σe : Hp} {Se : Ms} {r : Unit} : ∀ (n : Nat) (S : Ms) (x1 : Int32), f_X3_save_11 n S x1 = some (r, Se) → VV_X3_save l G σ0 (.inl none) σe Se 11 [(1, pI x1), (0, pR (gmo G))] [] σe S
  | 0, _, _, h => by cases h
  | n + 1, _, _, h => v_X3_save_11_b hst hm (v_X3_save_11 hst hm n) h
def f_X3_save (S : Ms) : Option (Unit × Ms) :=
  if (S.1 2) = (6 : Int32) then (f_X3_save_11 FU S (0 : Int32)) else (f_X3_save_50 S )
set_option maxHeartbeats 4000000 in
theorem v_X3_save (l : Launch) (G : Gx) (hst : l.stackTraces = false) (hm : gmo G ≠ 0) (σ : Hp) {S Se : Ms} {r : Unit} (h : f_X3_save S  = some (r, Se)) : MT l G yX3_save (ws_ yX3_save cX3_save 2 none) 1 30 [pR (gmo G)] σ S (.inl none) σ Se := by
  refine MT_of (own := RX3) (nL := 2) (ini := false) (by decide +kernel) rfl (Nat.le_of_ble_eq_true rfl) (fun h => by cases h) hst ?_
  show VV_X3_save l G σ (.inl none) σ Se 0 [(0, pR (gmo G))] [] σ S
  unfold f_X3_save at h
  refine V_aload_n (i := 0) 0 dX3_save_0 rfl rfl ?_
  refine V_mrdI hm gf_X3_47 (by decide) rfl dX3_save_1 ?_
  refine V_bipush (v := 6) dX3_save_4 (by decide) ?_
  refine V_icmp_ne 50 dX3_save_6 (by decide) (fun c1 => ?_) (fun c1 => ?_)
  · replace h := it_f c1 h
    refine V_sub [0] rfl ?_
    exact v_X3_save_50 hst hm h
  · replace h := it_t c1 h
    refine V_iconst (v := 0) dX3_save_9 (by decide) ?_
    refine V_istore_n (i := 1) (L' := [(1, pI (0 : Int32)), (0, pR (gmo G))]) dX3_save_10 rfl (by decide) rfl ?_
    refine V_sub [0, 1] rfl ?_
    exact v_X3_save_11 hst hm FU _ _ h

abbrev VV_X3_goBack (l : Launch) (G : Gx) (σ0 : Hp) (o : Oc) (σe : Hp) (Se : Ms) := V l G RX3 cX3_goBack 3 (some .int) [] false 2 52 σ0 o σe Se
def f_X3_goBack_41_b (k41 : Ms → Int32 → Int32 → Option (Int32 × Ms)) (S : Ms) (x2 : Int32) (x1 : Int32) : Option (Int32 × Ms) :=
  if (149 : Int32) ≤ x2 then (bd (mrd S 0 149 (8 : Int32)) fun y2 => some (y2, S)) else (bd (mrd S 3 298 (((149 : Int32) * x1) + x2)) fun y4 => bd (mwr S 0 149 x2 y4) fun S6 => k41 S6 (x2 + (1 : Int32)) x1)
set_option maxHeartbeats 4000000 in
theorem v_X3_goBack_41_b {l : Launch} {G : Gx} (hst : l.stackTraces = false) (hm : gmo G ≠ 0) {σ0 σe : Hp} {Se : Ms} {r : Int32} {k41 : Ms → Int32 → Int32 → Option (Int32 × Ms)} (hk41 : ∀ (S : Ms) (x2 : Int32) (x1 : Int32), k41 S x2 x1 = some (r, Se) → VV_X3_goBack l G σ0 (.inl (some (pI r))) σe Se 41 [(2, pI x2), (0, pR (gmo G)), (1, pI x1)] [] σe S) {S : Ms} {x2 : Int32} {x1 : Int32} (h : f_X3_goBack_41_b k41 S x2 x1 = some (r, Se)) : VV_X3_goBack l G σ0 (.inl (some (pI r))) σe Se 41 [(2, pI x2), (0, pR (gmo G)), (1, pI x1)] [] σe S := by
  unfold f_X3_goBack_41_b at h
  refine V_iload_n (i := 2) 0 dX3_goBack_41 rfl rfl ?_
  refine V_sipush (v := 149) dX3_goBack_42 (by decide) ?_
  refine V_icmp_ge 72 dX3_goBack_45 (by decide) (fun c1 => ?_) (fun c1 => ?_)
  · replace h := it_t c1 h
    refine V_aload_n (i := 0) 1 dX3_goBack_72 rfl rfl ?_
    refine V_mrdA hm gf_X3_7 (by decide) rfl dX3_goBack_73 ?_
    refine V_bipush (v := 8) dX3_goBack_76 (by decide) ?_
    obtain ⟨y2, e3, h⟩ := bd_s h
    refine V_mel hm e3 (by decide) rfl (by decide) dX3_goBack_78 ?_
    cases h
    exact V_iret rfl dX3_goBack_79
  · replace h := it_f c1 h
    refine V_aload_n (i := 0) 1 dX3_goBack_48 rfl rfl ?_
    refine V_mrdA hm gf_X3_7 (by decide) rfl dX3_goBack_49 ?_
    refine V_iload_n (i := 2) 0 dX3_goBack_52 rfl rfl ?_
    refine V_aload_n (i := 0) 1 dX3_goBack_53 rfl rfl ?_
    refine V_mrdA hm gf_X3_16 (by decide) rfl dX3_goBack_54 ?_
    refine V_sipush (v := 149) dX3_goBack_57 (by decide) ?_
    refine V_iload_n (i := 1) 2 dX3_goBack_60 rfl rfl ?_
    refine V_imul dX3_goBack_61 ?_
    refine V_iload_n (i := 2) 0 dX3_goBack_62 rfl rfl ?_
    refine V_iadd dX3_goBack_63 ?_
    obtain ⟨y4, e5, h⟩ := bd_s h
    refine V_mel hm e5 (by decide) rfl (by decide) dX3_goBack_64 ?_
    obtain ⟨S6, e7, h⟩ := bd_s h
    refine V_mst hm e7 (by decide) rfl (by decide) dX3_goBack_65 ?_
    refine V_iinc (v := (x2 + (1 : Int32))) (L' := [(2, pI (x2 + (1 : Int32))), (0, pR (gmo G)), (1, pI x1)]) 0 dX3_goBack_66 rfl rfl (by decide) rfl ?_
    refine V_goto 41 dX3_goBack_69 (by decide) ?_
    refine V_sub [0, 1, 2] rfl ?_
    exact hk41 _ _ _ h
def f_X3_goBack_41 : Nat → Ms → Int32 → Int32 → Option (Int32 × Ms)
  | 0, _, _, _ => none
  | n + 1, S, x2, x1 => f_X3_goBack_41_b (f_X3_goBack_41 n) S x2 x1
theorem v_X3_goBack_41 {l : Launch} {G : Gx} (hst : l.stackTraces = false) (hm : gmo G ≠ 0) {σ0 σe : Hp} {Se : Ms} {r : Int32} : ∀ (n : Nat) (S : Ms) (x2 : Int32) (x1 : Int32), f_X3_goBack_41 n S x2 x1 = some (r, Se) → VV_X3_goBack l G σ0 (.inl (some (pI r))) σe Se 41 [(2, pI x2), (0, pR (gmo G)), (1, pI x1)] [] σe S
  | 0, _, _, _, h => by cases h
  | n + 1, _, _, _, h => v_X3_goBack_41_b hst hm (v_X3_goBack_41 hst hm n) h
def f_X3_goBack (S : Ms) (x1 : Int32) : Option (Int32 × Ms) :=
  bd (f_X3_in x1 (0 : Int32) (1 : Int32)) fun y1 => if y1 = (0 : Int32) then (bp (f_X3_fails (sM S 5 (0 : Int32)) (1 : Int32)) fun y13 S14 => some (y13, S14)) else (bd (mrd (sM S 5 (0 : Int32)) 4 2 x1) fun y4 => if y4 = (0 : Int32) then (bp (f_X3_fails (sM S 5 (0 : Int32)) (2 : Int32)) fun y10 S11 => some (y10, S11)) else (bp (f_X3_save (sM S 5 (0 : Int32)) ) fun e7 S8 => f_X3_goBack_41 FU S8 (0 : Int32) x1))
set_option maxHeartbeats 4000000 in
theorem v_X3_goBack (l : Launch) (G : Gx) (hst : l.stackTraces = false) (hm : gmo G ≠ 0) (σ : Hp) {S Se : Ms} {x1 : Int32} {r : Int32} (h : f_X3_goBack S x1 = some (r, Se)) : MT l G yX3_goBack (ws_ yX3_goBack cX3_goBack 3 (some .int)) 2 52 [pR (gmo G), pI x1] σ S (.inl (some (pI r))) σ Se := by
  refine MT_of (own := RX3) (nL := 3) (ini := false) (by decide +kernel) rfl (Nat.le_of_ble_eq_true rfl) (fun h => by cases h) hst ?_
  show VV_X3_goBack l G σ (.inl (some (pI r))) σ Se 0 [(0, pR (gmo G)), (1, pI x1)] [] σ S
  unfold f_X3_goBack at h
  refine V_aload_n (i := 0) 0 dX3_goBack_0 rfl rfl ?_
  refine V_iconst (v := 0) dX3_goBack_1 (by decide) ?_
  refine V_mput hm gw_X3_38 (by decide) rfl dX3_goBack_2 ?_
  refine V_iload_n (i := 1) 1 dX3_goBack_5 rfl rfl ?_
  refine V_iconst (v := 0) dX3_goBack_6 (by decide) ?_
  refine V_iconst (v := 1) dX3_goBack_7 (by decide) ?_
  obtain ⟨y1, e2, h⟩ := bd_s h
  refine V_callS_v (n9 := 3) [] (v_X3_in l G hst _ _ e2) rfl rfl (lw_S q2070 q2071 q90 q2072) (by decide +kernel) (by decide) (Nat.le_of_ble_eq_true rfl) dX3_goBack_8 ?_
  refine V_if_ne 20 dX3_goBack_11 (by decide) (fun c3 => ?_) (fun c3 => ?_)
  · replace h := it_f c3 h
    refine V_aload_n (i := 0) 0 dX3_goBack_20 rfl rfl ?_
    refine V_mrdA hm gf_X3_19 (by decide) rfl dX3_goBack_21 ?_
    refine V_iload_n (i := 1) 1 dX3_goBack_24 rfl rfl ?_
    obtain ⟨y4, e5, h⟩ := bd_s h
    refine V_melz hm e5 (by decide) rfl (by decide) dX3_goBack_25 ?_
    refine V_if_ne 35 dX3_goBack_26 (by decide) (fun c6 => ?_) (fun c6 => ?_)
    · replace h := it_f c6 h
      refine V_aload_n (i := 0) 0 dX3_goBack_35 rfl rfl ?_
      obtain ⟨e7, S8, e9, h⟩ := bp_s h
      refine V_callM_0 (n9 := 0) [] hm (v_X3_save l G hst hm _ e9) rfl rfl (lw_V q2077 q2079 qs29 q90 q2080) (by decide +kernel) (by decide) (Nat.le_of_ble_eq_true rfl) dX3_goBack_36 ?_
      refine V_iconst (v := 0) dX3_goBack_39 (by decide) ?_
      refine V_istore_n (i := 2) (L' := [(2, pI (0 : Int32)), (0, pR (gmo G)), (1, pI x1)]) dX3_goBack_40 rfl (by decide) rfl ?_
      refine V_sub [0, 1, 2] rfl ?_
      exact v_X3_goBack_41 hst hm FU _ _ _ h
    · replace h := it_t c6 h
      refine V_aload_n (i := 0) 0 dX3_goBack_29 rfl rfl ?_
      refine V_iconst (v := 2) dX3_goBack_30 (by decide) ?_
      obtain ⟨y10, S11, e12, h⟩ := bp_s h
      refine V_callM_v (n9 := 1) [] hm (v_X3_fails l G hst hm _ e12) rfl rfl (lw_V q2062 q2064 qs28 q90 q2065) (by decide +kernel) (by decide) (Nat.le_of_ble_eq_true rfl) dX3_goBack_31 ?_
      cases h
      exact V_iret rfl dX3_goBack_34
  · replace h := it_t c3 h
    refine V_aload_n (i := 0) 0 dX3_goBack_14 rfl rfl ?_
    refine V_iconst (v := 1) dX3_goBack_15 (by decide) ?_
    obtain ⟨y13, S14, e15, h⟩ := bp_s h
    refine V_callM_v (n9 := 1) [] hm (v_X3_fails l G hst hm _ e15) rfl rfl (lw_V q2062 q2064 qs28 q90 q2065) (by decide +kernel) (by decide) (Nat.le_of_ble_eq_true rfl) dX3_goBack_16 ?_
    cases h
    exact V_iret rfl dX3_goBack_19

abbrev VV_X3_put (l : Launch) (G : Gx) (σ0 : Hp) (o : Oc) (σe : Hp) (Se : Ms) := V l G RX3 cX3_put 4 none [] false 1 30 σ0 o σe Se
def f_X3_put (S : Ms) (x1 : Int32) (x2 : Int32) (x3 : Int32) : Option (Unit × Ms) :=
  bd (mwr S 0 149 (((9 : Int32) + ((7 : Int32) * x1)) + x2) x3) fun S1 => some ((), S1)
set_option maxHeartbeats 4000000 in
theorem v_X3_put (l : Launch) (G : Gx) (hst : l.stackTraces = false) (hm : gmo G ≠ 0) (σ : Hp) {S Se : Ms} {x1 : Int32} {x2 : Int32} {x3 : Int32} {r : Unit} (h : f_X3_put S x1 x2 x3 = some (r, Se)) : MT l G yX3_put (ws_ yX3_put cX3_put 4 none) 1 30 [pR (gmo G), pI x1, pI x2, pI x3] σ S (.inl none) σ Se := by
  refine MT_of (own := RX3) (nL := 4) (ini := false) (by decide +kernel) rfl (Nat.le_of_ble_eq_true rfl) (fun h => by cases h) hst ?_
  show VV_X3_put l G σ (.inl none) σ Se 0 [(0, pR (gmo G)), (1, pI x1), (2, pI x2), (3, pI x3)] [] σ S
  unfold f_X3_put at h
  refine V_aload_n (i := 0) 0 dX3_put_0 rfl rfl ?_
  refine V_mrdA hm gf_X3_7 (by decide) rfl dX3_put_1 ?_
  refine V_bipush (v := 9) dX3_put_4 (by decide) ?_
  refine V_bipush (v := 7) dX3_put_6 (by decide) ?_
  refine V_iload_n (i := 1) 1 dX3_put_8 rfl rfl ?_
  refine V_imul dX3_put_9 ?_
  refine V_iadd dX3_put_10 ?_
  refine V_iload_n (i := 2) 2 dX3_put_11 rfl rfl ?_
  refine V_iadd dX3_put_12 ?_
  refine V_iload_n (i := 3) 3 dX3_put_13 rfl rfl ?_
  obtain ⟨S1, e2, h⟩ := bd_s h
  refine V_mst hm e2 (by decide) rfl (by decide) dX3_put_14 ?_
  cases h
  exact V_vret rfl dX3_put_15

abbrev VV_X3_addBlock (l : Launch) (G : Gx) (σ0 : Hp) (o : Oc) (σe : Hp) (Se : Ms) := V l G RX3 cX3_addBlock 5 (some .int) [] false 2 53 σ0 o σe Se
def f_X3_addBlock_11_b (k11 : Ms → Int32 → Int32 → Int32 → Int32 → Option (Int32 × Ms)) (S : Ms) (x4 : Int32) (x3 : Int32) (x1 : Int32) (x2 : Int32) : Option (Int32 × Ms) :=
  if (7 : Int32) ≤ x4 then (bp (f_X3_put S x3 (0 : Int32) x1) fun e2 S3 => bp (f_X3_put S3 x3 (1 : Int32) x2) fun e5 S6 => bp (f_X3_put S6 x3 (4 : Int32) (-1 : Int32)) fun e8 S9 => bp (f_X3_put S9 x3 (5 : Int32) (-1 : Int32)) fun e11 S12 => bd (mrd S12 0 149 (8 : Int32)) fun y14 => bd (mwr S12 0 149 (8 : Int32) (y14 + (1 : Int32))) fun S16 => some (x3, S16)) else (bp (f_X3_put S x3 x4 (0 : Int32)) fun e18 S19 => k11 S19 (x4 + (1 : Int32)) x3 x1 x2)
set_option maxHeartbeats 4000000 in
theorem v_X3_addBlock_11_b {l : Launch} {G : Gx} (hst : l.stackTraces = false) (hm : gmo G ≠ 0) {σ0 σe : Hp} {Se : Ms} {r : Int32} {k11 : Ms → Int32 → Int32 → Int32 → Int32 → Option (Int32 × Ms)} (hk11 : ∀ (S : Ms) (x4 : Int32) (x3 : Int32) (x1 : Int32) (x2 : Int32), k11 S x4 x3 x1 x2 = some (r, Se) → VV_X3_addBlock l G σ0 (.inl (some (pI r))) σe Se 11 [(4, pI x4), (3, pI x3), (0, pR (gmo G)), (1, pI x1), (2, pI x2)] [] σe S) {S : Ms} {x4 : Int32} {x3 : Int32} {x1 : Int32} {x2 : Int32} (h : f_X3_addBlock_11_b k11 S x4 x3 x1 x2 = some (r, Se)) : VV_X3_addBlock l G σ0 (.inl (some (pI r))) σe Se 11 [(4, pI x4), (3, pI x3), (0, pR (gmo G)), (1, pI x1), (2, pI x2)] [] σe S := by
  unfold f_X3_addBlock_11_b at h
  refine V_iload (i := 4) 0 dX3_addBlock_11 rfl ?_
  refine V_bipush (v := 7) dX3_addBlock_13 (by decide) ?_
  refine V_icmp_ge 32 dX3_addBlock_15 (by decide) (fun c1 => ?_) (fun c1 => ?_)
  · replace h := it_t c1 h
    refine V_aload_n (i := 0) 2 dX3_addBlock_32 rfl rfl ?_
    refine V_iload_n (i := 3) 1 dX3_addBlock_33 rfl rfl ?_
    refine V_iconst (v := 0) dX3_addBlock_34 (by decide) ?_
    refine V_iload_n (i := 1) 3 dX3_addBlock_35 rfl rfl ?_
    obtain ⟨e2, S3, e4, h⟩ := bp_s h
    refine V_callM_0 (n9 := 3) [] hm (v_X3_put l G hst hm _ e4) rfl rfl (lw_V q2090 q2092 qs31 q90 q2093) (by decide +kernel) (by decide) (Nat.le_of_ble_eq_true rfl) dX3_addBlock_36 ?_
    refine V_aload_n (i := 0) 2 dX3_addBlock_39 rfl rfl ?_
    refine V_iload_n (i := 3) 1 dX3_addBlock_40 rfl rfl ?_
    refine V_iconst (v := 1) dX3_addBlock_41 (by decide) ?_
    refine V_iload_n (i := 2) 4 dX3_addBlock_42 rfl rfl ?_
    obtain ⟨e5, S6, e7, h⟩ := bp_s h
    refine V_callM_0 (n9 := 3) [] hm (v_X3_put l G hst hm _ e7) rfl rfl (lw_V q2090 q2092 qs31 q90 q2093) (by decide +kernel) (by decide) (Nat.le_of_ble_eq_true rfl) dX3_addBlock_43 ?_
    refine V_aload_n (i := 0) 2 dX3_addBlock_46 rfl rfl ?_
    refine V_iload_n (i := 3) 1 dX3_addBlock_47 rfl rfl ?_
    refine V_iconst (v := 4) dX3_addBlock_48 (by decide) ?_
    refine V_iconst (v := (-1)) dX3_addBlock_49 (by decide) ?_
    obtain ⟨e8, S9, e10, h⟩ := bp_s h
    refine V_callM_0 (n9 := 3) [] hm (v_X3_put l G hst hm _ e10) rfl rfl (lw_V q2090 q2092 qs31 q90 q2093) (by decide +kernel) (by decide) (Nat.le_of_ble_eq_true rfl) dX3_addBlock_50 ?_
    refine V_aload_n (i := 0) 2 dX3_addBlock_53 rfl rfl ?_
    refine V_iload_n (i := 3) 1 dX3_addBlock_54 rfl rfl ?_
    refine V_iconst (v := 5) dX3_addBlock_55 (by decide) ?_
    refine V_iconst (v := (-1)) dX3_addBlock_56 (by decide) ?_
    obtain ⟨e11, S12, e13, h⟩ := bp_s h
    refine V_callM_0 (n9 := 3) [] hm (v_X3_put l G hst hm _ e13) rfl rfl (lw_V q2090 q2092 qs31 q90 q2093) (by decide +kernel) (by decide) (Nat.le_of_ble_eq_true rfl) dX3_addBlock_57 ?_
    refine V_aload_n (i := 0) 2 dX3_addBlock_60 rfl rfl ?_
    refine V_mrdA hm gf_X3_7 (by decide) rfl dX3_addBlock_61 ?_
    refine V_bipush (v := 8) dX3_addBlock_64 (by decide) ?_
    refine V_dup2 dX3_addBlock_66 rfl rfl ?_
    obtain ⟨y14, e15, h⟩ := bd_s h
    refine V_mel hm e15 (by decide) rfl (by decide) dX3_addBlock_67 ?_
    refine V_iconst (v := 1) dX3_addBlock_68 (by decide) ?_
    refine V_iadd dX3_addBlock_69 ?_
    obtain ⟨S16, e17, h⟩ := bd_s h
    refine V_mst hm e17 (by decide) rfl (by decide) dX3_addBlock_70 ?_
    refine V_iload_n (i := 3) 1 dX3_addBlock_71 rfl rfl ?_
    cases h
    exact V_iret rfl dX3_addBlock_72
  · replace h := it_f c1 h
    refine V_aload_n (i := 0) 2 dX3_addBlock_18 rfl rfl ?_
    refine V_iload_n (i := 3) 1 dX3_addBlock_19 rfl rfl ?_
    refine V_iload (i := 4) 0 dX3_addBlock_20 rfl ?_
    refine V_iconst (v := 0) dX3_addBlock_22 (by decide) ?_
    obtain ⟨e18, S19, e20, h⟩ := bp_s h
    refine V_callM_0 (n9 := 3) [] hm (v_X3_put l G hst hm _ e20) rfl rfl (lw_V q2090 q2092 qs31 q90 q2093) (by decide +kernel) (by decide) (Nat.le_of_ble_eq_true rfl) dX3_addBlock_23 ?_
    refine V_iinc (v := (x4 + (1 : Int32))) (L' := [(4, pI (x4 + (1 : Int32))), (3, pI x3), (0, pR (gmo G)), (1, pI x1), (2, pI x2)]) 0 dX3_addBlock_26 rfl rfl (by decide) rfl ?_
    refine V_goto 11 dX3_addBlock_29 (by decide) ?_
    refine V_sub [0, 1, 2, 3, 4] rfl ?_
    exact hk11 _ _ _ _ _ h
def f_X3_addBlock_11 : Nat → Ms → Int32 → Int32 → Int32 → Int32 → Option (Int32 × Ms)
  | 0, _, _, _, _, _ => none
  | n + 1, S, x4, x3, x1, x2 => f_X3_addBlock_11_b (f_X3_addBlock_11 n) S x4 x3 x1 x2
theorem v_X3_addBlock_11 {l : Launch} {G : Gx} (hst : l.stackTraces = false) (hm : gmo G ≠ 0) {σ0 σe : Hp} {Se : Ms} {r : Int32} : ∀ (n : Nat) (S : Ms) (x4 : Int32) (x3 : Int32) (x1 : Int32) (x2 : Int32), f_X3_addBlock_11 n S x4 x3 x1 x2 = some (r, Se) → VV_X3_addBlock l G σ0 (.inl (some (pI r))) σe Se 11 [(4, pI x4), (3, pI x3), (0, pR (gmo G)), (1, pI x1), (2, pI x2)] [] σe S
  | 0, _, _, _, _, _, h => by cases h
  | n + 1, _, _, _, _, _, h => v_X3_addBlock_11_b hst hm (v_X3_addBlock_11 hst hm n) h
def f_X3_addBlock (S : Ms) (x1 : Int32) (x2 : Int32) : Option (Int32 × Ms) :=
  bd (mrd S 0 149 (8 : Int32)) fun y1 => f_X3_addBlock_11 FU S (0 : Int32) y1 x1 x2
set_option maxHeartbeats 4000000 in
theorem v_X3_addBlock (l : Launch) (G : Gx) (hst : l.stackTraces = false) (hm : gmo G ≠ 0) (σ : Hp) {S Se : Ms} {x1 : Int32} {x2 : Int32} {r : Int32} (h : f_X3_addBlock S x1 x2 = some (r, Se)) : MT l G yX3_addBlock (ws_ yX3_addBlock cX3_addBlock 5 (some .int)) 2 53 [pR (gmo G), pI x1, pI x2] σ S (.inl (some (pI r))) σ Se := by
  refine MT_of (own := RX3) (nL := 5) (ini := false) (by decide +kernel) rfl (Nat.le_of_ble_eq_true rfl) (fun h => by cases h) hst ?_
  show VV_X3_addBlock l G σ (.inl (some (pI r))) σ Se 0 [(0, pR (gmo G)), (1, pI x1), (2, pI x2)] [] σ S
  unfold f_X3_addBlock at h
  refine V_aload_n (i := 0) 0 dX3_addBlock_0 rfl rfl ?_
  refine V_mrdA hm gf_X3_7 (by decide) rfl dX3_addBlock_1 ?_
  refine V_bipush (v := 8) dX3_addBlock_4 (by decide) ?_
  obtain ⟨y1, e2, h⟩ := bd_s h
  refine V_mel hm e2 (by decide) rfl (by decide) dX3_addBlock_6 ?_
  refine V_istore_n (i := 3) (L' := [(3, pI y1), (0, pR (gmo G)), (1, pI x1), (2, pI x2)]) dX3_addBlock_7 rfl (by decide) rfl ?_
  refine V_iconst (v := 0) dX3_addBlock_8 (by decide) ?_
  refine V_istore (i := 4) (L' := [(4, pI (0 : Int32)), (3, pI y1), (0, pR (gmo G)), (1, pI x1), (2, pI x2)]) dX3_addBlock_9 (by decide) rfl ?_
  refine V_sub [0, 1, 2, 3, 4] rfl ?_
  exact v_X3_addBlock_11 hst hm FU _ _ _ _ _ h

abbrev VV_X3_block (l : Launch) (G : Gx) (σ0 : Hp) (o : Oc) (σe : Hp) (Se : Ms) := V l G RX3 cX3_block 3 (some .int) [] false 3 77 σ0 o σe Se
def f_X3_block_30 (S : Ms) : Option (Int32 × Ms) :=
  bp (f_X3_fails S (1 : Int32)) fun y1 S2 => some (y1, S2)
set_option maxHeartbeats 4000000 in
theorem v_X3_block_30 {l : Launch} {G : Gx} (hst : l.stackTraces = false) (hm : gmo G ≠ 0) {σ0 σe : Hp} {Se : Ms} {r : Int32} {S : Ms} (h : f_X3_block_30 S  = some (r, Se)) : VV_X3_block l G σ0 (.inl (some (pI r))) σe Se 30 [(0, pR (gmo G))] [] σe S := by
  unfold f_X3_block_30 at h
  refine V_aload_n (i := 0) 0 dX3_block_30 rfl rfl ?_
  refine V_iconst (v := 1) dX3_block_31 (by decide) ?_
  obtain ⟨y1, S2, e3, h⟩ := bp_s h
  refine V_callM_v (n9 := 1) [] hm (v_X3_fails l G hst hm _ e3) rfl rfl (lw_V q2062 q2064 qs28 q90 q2065) (by decide +kernel) (by decide) (Nat.le_of_ble_eq_true rfl) dX3_block_32 ?_
  cases h
  exact V_iret rfl dX3_block_35
def f_X3_block (S : Ms) (x1 : Int32) (x2 : Int32) : Option (Int32 × Ms) :=
  bd (f_X3_in x1 (500 : Int32) (100000 : Int32)) fun y1 => if y1 = (0 : Int32) then (f_X3_block_30 (sM S 5 (0 : Int32)) ) else (bd (f_X3_in x2 (-900 : Int32) (900 : Int32)) fun y4 => if y4 = (0 : Int32) then (f_X3_block_30 (sM S 5 (0 : Int32)) ) else (bd (mrd (sM S 5 (0 : Int32)) 0 149 (8 : Int32)) fun y7 => if y7 = (20 : Int32) then (bp (f_X3_fails (sM S 5 (0 : Int32)) (2 : Int32)) fun y16 S17 => some (y16, S17)) else (bp (f_X3_save (sM S 5 (0 : Int32)) ) fun e10 S11 => bp (f_X3_addBlock S11 x1 x2) fun y13 S14 => some (y13, S14))))
set_option maxHeartbeats 4000000 in
theorem v_X3_block (l : Launch) (G : Gx) (hst : l.stackTraces = false) (hm : gmo G ≠ 0) (σ : Hp) {S Se : Ms} {x1 : Int32} {x2 : Int32} {r : Int32} (h : f_X3_block S x1 x2 = some (r, Se)) : MT l G yX3_block (ws_ yX3_block cX3_block 3 (some .int)) 3 77 [pR (gmo G), pI x1, pI x2] σ S (.inl (some (pI r))) σ Se := by
  refine MT_of (own := RX3) (nL := 3) (ini := false) (by decide +kernel) rfl (Nat.le_of_ble_eq_true rfl) (fun h => by cases h) hst ?_
  show VV_X3_block l G σ (.inl (some (pI r))) σ Se 0 [(0, pR (gmo G)), (1, pI x1), (2, pI x2)] [] σ S
  unfold f_X3_block at h
  refine V_aload_n (i := 0) 0 dX3_block_0 rfl rfl ?_
  refine V_iconst (v := 0) dX3_block_1 (by decide) ?_
  refine V_mput hm gw_X3_38 (by decide) rfl dX3_block_2 ?_
  refine V_iload_n (i := 1) 1 dX3_block_5 rfl rfl ?_
  refine V_sipush (v := 500) dX3_block_6 (by decide) ?_
  refine V_ldc dX3_block_9 q2085 ?_
  obtain ⟨y1, e2, h⟩ := bd_s h
  refine V_callS_v (n9 := 3) [] (v_X3_in l G hst _ _ e2) rfl rfl (lw_S q2070 q2071 q90 q2072) (by decide +kernel) (by decide) (Nat.le_of_ble_eq_true rfl) dX3_block_11 ?_
  refine V_if_eq 30 dX3_block_14 (by decide) (fun c3 => ?_) (fun c3 => ?_)
  · replace h := it_t c3 h
    refine V_sub [0] rfl ?_
    exact v_X3_block_30 hst hm h
  · replace h := it_f c3 h
    refine V_iload_n (i := 2) 2 dX3_block_17 rfl rfl ?_
    refine V_sipush (v := (-900)) dX3_block_18 (by decide) ?_
    refine V_sipush (v := 900) dX3_block_21 (by decide) ?_
    obtain ⟨y4, e5, h⟩ := bd_s h
    refine V_callS_v (n9 := 3) [] (v_X3_in l G hst _ _ e5) rfl rfl (lw_S q2070 q2071 q90 q2072) (by decide +kernel) (by decide) (Nat.le_of_ble_eq_true rfl) dX3_block_24 ?_
    refine V_if_ne 36 dX3_block_27 (by decide) (fun c6 => ?_) (fun c6 => ?_)
    · replace h := it_f c6 h
      refine V_aload_n (i := 0) 0 dX3_block_36 rfl rfl ?_
      refine V_mrdA hm gf_X3_7 (by decide) rfl dX3_block_37 ?_
      refine V_bipush (v := 8) dX3_block_40 (by decide) ?_
      obtain ⟨y7, e8, h⟩ := bd_s h
      refine V_mel hm e8 (by decide) rfl (by decide) dX3_block_42 ?_
      refine V_bipush (v := 20) dX3_block_43 (by decide) ?_
      refine V_icmp_ne 54 dX3_block_45 (by decide) (fun c9 => ?_) (fun c9 => ?_)
      · replace h := it_f c9 h
        refine V_aload_n (i := 0) 0 dX3_block_54 rfl rfl ?_
        obtain ⟨e10, S11, e12, h⟩ := bp_s h
        refine V_callM_0 (n9 := 0) [] hm (v_X3_save l G hst hm _ e12) rfl rfl (lw_V q2077 q2079 qs29 q90 q2080) (by decide +kernel) (by decide) (Nat.le_of_ble_eq_true rfl) dX3_block_55 ?_
        refine V_aload_n (i := 0) 0 dX3_block_58 rfl rfl ?_
        refine V_iload_n (i := 1) 1 dX3_block_59 rfl rfl ?_
        refine V_iload_n (i := 2) 2 dX3_block_60 rfl rfl ?_
        obtain ⟨y13, S14, e15, h⟩ := bp_s h
        refine V_callM_v (n9 := 2) [] hm (v_X3_addBlock l G hst hm _ e15) rfl rfl (lw_V q2086 q2088 qs30 q90 q2089) (by decide +kernel) (by decide) (Nat.le_of_ble_eq_true rfl) dX3_block_61 ?_
        cases h
        exact V_iret rfl dX3_block_64
      · replace h := it_t c9 h
        refine V_aload_n (i := 0) 0 dX3_block_48 rfl rfl ?_
        refine V_iconst (v := 2) dX3_block_49 (by decide) ?_
        obtain ⟨y16, S17, e18, h⟩ := bp_s h
        refine V_callM_v (n9 := 1) [] hm (v_X3_fails l G hst hm _ e18) rfl rfl (lw_V q2062 q2064 qs28 q90 q2065) (by decide +kernel) (by decide) (Nat.le_of_ble_eq_true rfl) dX3_block_50 ?_
        cases h
        exact V_iret rfl dX3_block_53
    · replace h := it_t c6 h
      refine V_sub [0] rfl ?_
      exact v_X3_block_30 hst hm h

abbrev VV_X3_isBlock (l : Launch) (G : Gx) (σ0 : Hp) (o : Oc) (σe : Hp) (Se : Ms) := V l G RX3 cX3_isBlock 2 (some .boolean) [] false 2 52 σ0 o σe Se
def f_X3_isBlock (S : Ms) (x1 : Int32) : Option (Int32 × Ms) :=
  bd (mrd S 0 149 (8 : Int32)) fun y1 => bd (f_X3_in x1 (0 : Int32) (y1 - (1 : Int32))) fun y3 => bd (okZ y3) fun e5 => some (y3, S)
set_option maxHeartbeats 4000000 in
theorem v_X3_isBlock (l : Launch) (G : Gx) (hst : l.stackTraces = false) (hm : gmo G ≠ 0) (σ : Hp) {S Se : Ms} {x1 : Int32} {r : Int32} (h : f_X3_isBlock S x1 = some (r, Se)) : MT l G yX3_isBlock (ws_ yX3_isBlock cX3_isBlock 2 (some .boolean)) 2 52 [pR (gmo G), pI x1] σ S (.inl (some (pI r))) σ Se := by
  refine MT_of (own := RX3) (nL := 2) (ini := false) (by decide +kernel) rfl (Nat.le_of_ble_eq_true rfl) (fun h => by cases h) hst ?_
  show VV_X3_isBlock l G σ (.inl (some (pI r))) σ Se 0 [(0, pR (gmo G)), (1, pI x1)] [] σ S
  unfold f_X3_isBlock at h
  refine V_iload_n (i := 1) 1 dX3_isBlock_0 rfl rfl ?_
  refine V_iconst (v := 0) dX3_isBlock_1 (by decide) ?_
  refine V_aload_n (i := 0) 0 dX3_isBlock_2 rfl rfl ?_
  refine V_mrdA hm gf_X3_7 (by decide) rfl dX3_isBlock_3 ?_
  refine V_bipush (v := 8) dX3_isBlock_6 (by decide) ?_
  obtain ⟨y1, e2, h⟩ := bd_s h
  refine V_mel hm e2 (by decide) rfl (by decide) dX3_isBlock_8 ?_
  refine V_iconst (v := 1) dX3_isBlock_9 (by decide) ?_
  refine V_isub dX3_isBlock_10 ?_
  obtain ⟨y3, e4, h⟩ := bd_s h
  refine V_callS_v (n9 := 3) [] (v_X3_in l G hst _ _ e4) rfl rfl (lw_S q2070 q2071 q90 q2072) (by decide +kernel) (by decide) (Nat.le_of_ble_eq_true rfl) dX3_isBlock_11 ?_
  obtain ⟨e5, e6, h⟩ := bd_s h
  cases h
  exact V_retZ e6 rfl dX3_isBlock_14

abbrev VV_X3_of (l : Launch) (G : Gx) (σ0 : Hp) (o : Oc) (σe : Hp) (Se : Ms) := V l G RX3 cX3_of 3 (some .int) [] false 1 30 σ0 o σe Se
def f_X3_of (S : Ms) (x1 : Int32) (x2 : Int32) : Option (Int32 × Ms) :=
  bd (mrd S 0 149 (((9 : Int32) + ((7 : Int32) * x1)) + x2)) fun y1 => some (y1, S)
set_option maxHeartbeats 4000000 in
theorem v_X3_of (l : Launch) (G : Gx) (hst : l.stackTraces = false) (hm : gmo G ≠ 0) (σ : Hp) {S Se : Ms} {x1 : Int32} {x2 : Int32} {r : Int32} (h : f_X3_of S x1 x2 = some (r, Se)) : MT l G yX3_of (ws_ yX3_of cX3_of 3 (some .int)) 1 30 [pR (gmo G), pI x1, pI x2] σ S (.inl (some (pI r))) σ Se := by
  refine MT_of (own := RX3) (nL := 3) (ini := false) (by decide +kernel) rfl (Nat.le_of_ble_eq_true rfl) (fun h => by cases h) hst ?_
  show VV_X3_of l G σ (.inl (some (pI r))) σ Se 0 [(0, pR (gmo G)), (1, pI x1), (2, pI x2)] [] σ S
  unfold f_X3_of at h
  refine V_aload_n (i := 0) 0 dX3_of_0 rfl rfl ?_
  refine V_mrdA hm gf_X3_7 (by decide) rfl dX3_of_1 ?_
  refine V_bipush (v := 9) dX3_of_4 (by decide) ?_
  refine V_bipush (v := 7) dX3_of_6 (by decide) ?_
  refine V_iload_n (i := 1) 1 dX3_of_8 rfl rfl ?_
  refine V_imul dX3_of_9 ?_
  refine V_iadd dX3_of_10 ?_
  refine V_iload_n (i := 2) 2 dX3_of_11 rfl rfl ?_
  refine V_iadd dX3_of_12 ?_
  obtain ⟨y1, e2, h⟩ := bd_s h
  refine V_mel hm e2 (by decide) rfl (by decide) dX3_of_13 ?_
  cases h
  exact V_iret rfl dX3_of_14

abbrev VV_X3_isFree (l : Launch) (G : Gx) (σ0 : Hp) (o : Oc) (σe : Hp) (Se : Ms) := V l G RX3 cX3_isFree 2 (some .boolean) [] false 2 52 σ0 o σe Se
def f_X3_isFree_15 (S : Ms) (s0 : Int32) : Option (Int32 × Ms) :=
  bd (okZ s0) fun e1 => some (s0, S)
set_option maxHeartbeats 4000000 in
theorem v_X3_isFree_15 {l : Launch} {G : Gx} (hst : l.stackTraces = false) (hm : gmo G ≠ 0) {σ0 σe : Hp} {Se : Ms} {r : Int32} {S : Ms} {s0 : Int32} (h : f_X3_isFree_15 S s0 = some (r, Se)) : VV_X3_isFree l G σ0 (.inl (some (pI r))) σe Se 15 [] [pI s0] σe S := by
  unfold f_X3_isFree_15 at h
  obtain ⟨e1, e2, h⟩ := bd_s h
  cases h
  exact V_retZ e2 rfl dX3_isFree_15
def f_X3_isFree (S : Ms) (x1 : Int32) : Option (Int32 × Ms) :=
  bp (f_X3_of S x1 (4 : Int32)) fun y1 S2 => if y1 = (-1 : Int32) then (f_X3_isFree_15 S2 (1 : Int32)) else (f_X3_isFree_15 S2 (0 : Int32))
set_option maxHeartbeats 4000000 in
theorem v_X3_isFree (l : Launch) (G : Gx) (hst : l.stackTraces = false) (hm : gmo G ≠ 0) (σ : Hp) {S Se : Ms} {x1 : Int32} {r : Int32} (h : f_X3_isFree S x1 = some (r, Se)) : MT l G yX3_isFree (ws_ yX3_isFree cX3_isFree 2 (some .boolean)) 2 52 [pR (gmo G), pI x1] σ S (.inl (some (pI r))) σ Se := by
  refine MT_of (own := RX3) (nL := 2) (ini := false) (by decide +kernel) rfl (Nat.le_of_ble_eq_true rfl) (fun h => by cases h) hst ?_
  show VV_X3_isFree l G σ (.inl (some (pI r))) σ Se 0 [(0, pR (gmo G)), (1, pI x1)] [] σ S
  unfold f_X3_isFree at h
  refine V_aload_n (i := 0) 0 dX3_isFree_0 rfl rfl ?_
  refine V_iload_n (i := 1) 1 dX3_isFree_1 rfl rfl ?_
  refine V_iconst (v := 4) dX3_isFree_2 (by decide) ?_
  obtain ⟨y1, S2, e3, h⟩ := bp_s h
  refine V_callM_v (n9 := 2) [] hm (v_X3_of l G hst hm _ e3) rfl rfl (lw_V q2106 q2108 qs34 q90 q2109) (by decide +kernel) (by decide) (Nat.le_of_ble_eq_true rfl) dX3_isFree_3 ?_
  refine V_iconst (v := (-1)) dX3_isFree_6 (by decide) ?_
  refine V_icmp_ne 14 dX3_isFree_7 (by decide) (fun c4 => ?_) (fun c4 => ?_)
  · replace h := it_f c4 h
    refine V_iconst (v := 0) dX3_isFree_14 (by decide) ?_
    refine V_sub [] rfl ?_
    exact v_X3_isFree_15 hst hm h
  · replace h := it_t c4 h
    refine V_iconst (v := 1) dX3_isFree_10 (by decide) ?_
    refine V_goto 15 dX3_isFree_11 (by decide) ?_
    refine V_sub [] rfl ?_
    exact v_X3_isFree_15 hst hm h

abbrev VV_X3_discard (l : Launch) (G : Gx) (σ0 : Hp) (o : Oc) (σe : Hp) (Se : Ms) := V l G RX3 cX3_discard 4 (some .int) [] false 3 73 σ0 o σe Se
def f_X3_discard_98_b (k98 : Ms → Int32 → Int32 → Option (Int32 × Ms)) (S : Ms) (x3 : Int32) (x2 : Int32) : Option (Int32 × Ms) :=
  if (x2 + (7 : Int32)) ≤ x3 then (bd (mrd S 0 149 (8 : Int32)) fun y2 => some (y2, S)) else (bd (mwr S 0 149 x3 (0 : Int32)) fun S4 => k98 S4 (x3 + (1 : Int32)) x2)
set_option maxHeartbeats 4000000 in
theorem v_X3_discard_98_b {l : Launch} {G : Gx} (hst : l.stackTraces = false) (hm : gmo G ≠ 0) {σ0 σe : Hp} {Se : Ms} {r : Int32} {k98 : Ms → Int32 → Int32 → Option (Int32 × Ms)} (hk98 : ∀ (S : Ms) (x3 : Int32) (x2 : Int32), k98 S x3 x2 = some (r, Se) → VV_X3_discard l G σ0 (.inl (some (pI r))) σe Se 98 [(3, pI x3), (2, pI x2), (0, pR (gmo G))] [] σe S) {S : Ms} {x3 : Int32} {x2 : Int32} (h : f_X3_discard_98_b k98 S x3 x2 = some (r, Se)) : VV_X3_discard l G σ0 (.inl (some (pI r))) σe Se 98 [(3, pI x3), (2, pI x2), (0, pR (gmo G))] [] σe S := by
  unfold f_X3_discard_98_b at h
  refine V_iload_n (i := 3) 0 dX3_discard_98 rfl rfl ?_
  refine V_iload_n (i := 2) 1 dX3_discard_99 rfl rfl ?_
  refine V_bipush (v := 7) dX3_discard_100 (by decide) ?_
  refine V_iadd dX3_discard_102 ?_
  refine V_icmp_ge 119 dX3_discard_103 (by decide) (fun c1 => ?_) (fun c1 => ?_)
  · replace h := it_t c1 h
    refine V_aload_n (i := 0) 2 dX3_discard_119 rfl rfl ?_
    refine V_mrdA hm gf_X3_7 (by decide) rfl dX3_discard_120 ?_
    refine V_bipush (v := 8) dX3_discard_123 (by decide) ?_
    obtain ⟨y2, e3, h⟩ := bd_s h
    refine V_mel hm e3 (by decide) rfl (by decide) dX3_discard_125 ?_
    cases h
    exact V_iret rfl dX3_discard_126
  · replace h := it_f c1 h
    refine V_aload_n (i := 0) 2 dX3_discard_106 rfl rfl ?_
    refine V_mrdA hm gf_X3_7 (by decide) rfl dX3_discard_107 ?_
    refine V_iload_n (i := 3) 0 dX3_discard_110 rfl rfl ?_
    refine V_iconst (v := 0) dX3_discard_111 (by decide) ?_
    obtain ⟨S4, e5, h⟩ := bd_s h
    refine V_mst hm e5 (by decide) rfl (by decide) dX3_discard_112 ?_
    refine V_iinc (v := (x3 + (1 : Int32))) (L' := [(3, pI (x3 + (1 : Int32))), (2, pI x2), (0, pR (gmo G))]) 0 dX3_discard_113 rfl rfl (by decide) rfl ?_
    refine V_goto 98 dX3_discard_116 (by decide) ?_
    refine V_sub [0, 1, 2] rfl ?_
    exact hk98 _ _ _ h
def f_X3_discard_98 : Nat → Ms → Int32 → Int32 → Option (Int32 × Ms)
  | 0, _, _, _ => none
  | n + 1, S, x3, x2 => f_X3_discard_98_b (f_X3_discard_98 n) S x3 x2
theorem v_X3_discard_98 {l : Launch} {G : Gx} (hst : l.stackTraces = false) (hm : gmo G ≠ 0) {σ0 σe : Hp} {Se : Ms} {r : Int32} : ∀ (n : Nat) (S : Ms) (x3 : Int32) (x2 : Int32), f_X3_discard_98 n S x3 x2 = some (r, Se) → VV_X3_discard l G σ0 (.inl (some (pI r))) σe Se 98 [(3, pI x3), (2, pI x2), (0, pR (gmo G))] [] σe S
  | 0, _, _, _, h => by cases h
  | n + 1, _, _, _, h => v_X3_discard_98_b hst hm (v_X3_discard_98 hst hm n) h
def f_X3_discard_70_b (k70 : Ms → Int32 → Int32 → Option (Int32 × Ms)) (S : Ms) (x3 : Int32) (x2 : Int32) : Option (Int32 × Ms) :=
  if x2 ≤ x3 then (f_X3_discard_98 FU S x2 x2) else (bd (mrd S 0 149 (x3 + (7 : Int32))) fun y2 => bd (mwr S 0 149 x3 y2) fun S4 => k70 S4 (x3 + (1 : Int32)) x2)
set_option maxHeartbeats 4000000 in
theorem v_X3_discard_70_b {l : Launch} {G : Gx} (hst : l.stackTraces = false) (hm : gmo G ≠ 0) {σ0 σe : Hp} {Se : Ms} {r : Int32} {k70 : Ms → Int32 → Int32 → Option (Int32 × Ms)} (hk70 : ∀ (S : Ms) (x3 : Int32) (x2 : Int32), k70 S x3 x2 = some (r, Se) → VV_X3_discard l G σ0 (.inl (some (pI r))) σe Se 70 [(3, pI x3), (2, pI x2), (0, pR (gmo G))] [] σe S) {S : Ms} {x3 : Int32} {x2 : Int32} (h : f_X3_discard_70_b k70 S x3 x2 = some (r, Se)) : VV_X3_discard l G σ0 (.inl (some (pI r))) σe Se 70 [(3, pI x3), (2, pI x2), (0, pR (gmo G))] [] σe S := by
  unfold f_X3_discard_70_b at h
  refine V_iload_n (i := 3) 0 dX3_discard_70 rfl rfl ?_
  refine V_iload_n (i := 2) 1 dX3_discard_71 rfl rfl ?_
  refine V_icmp_ge 96 dX3_discard_72 (by decide) (fun c1 => ?_) (fun c1 => ?_)
  · replace h := it_t c1 h
    refine V_iload_n (i := 2) 1 dX3_discard_96 rfl rfl ?_
    refine V_istore_n (i := 3) (L' := [(3, pI x2), (2, pI x2), (0, pR (gmo G))]) dX3_discard_97 rfl (by decide) rfl ?_
    refine V_sub [0, 1, 2] rfl ?_
    exact v_X3_discard_98 hst hm FU _ _ _ h
  · replace h := it_f c1 h
    refine V_aload_n (i := 0) 2 dX3_discard_75 rfl rfl ?_
    refine V_mrdA hm gf_X3_7 (by decide) rfl dX3_discard_76 ?_
    refine V_iload_n (i := 3) 0 dX3_discard_79 rfl rfl ?_
    refine V_aload_n (i := 0) 2 dX3_discard_80 rfl rfl ?_
    refine V_mrdA hm gf_X3_7 (by decide) rfl dX3_discard_81 ?_
    refine V_iload_n (i := 3) 0 dX3_discard_84 rfl rfl ?_
    refine V_bipush (v := 7) dX3_discard_85 (by decide) ?_
    refine V_iadd dX3_discard_87 ?_
    obtain ⟨y2, e3, h⟩ := bd_s h
    refine V_mel hm e3 (by decide) rfl (by decide) dX3_discard_88 ?_
    obtain ⟨S4, e5, h⟩ := bd_s h
    refine V_mst hm e5 (by decide) rfl (by decide) dX3_discard_89 ?_
    refine V_iinc (v := (x3 + (1 : Int32))) (L' := [(3, pI (x3 + (1 : Int32))), (2, pI x2), (0, pR (gmo G))]) 0 dX3_discard_90 rfl rfl (by decide) rfl ?_
    refine V_goto 70 dX3_discard_93 (by decide) ?_
    refine V_sub [0, 1, 2] rfl ?_
    exact hk70 _ _ _ h
def f_X3_discard_70 : Nat → Ms → Int32 → Int32 → Option (Int32 × Ms)
  | 0, _, _, _ => none
  | n + 1, S, x3, x2 => f_X3_discard_70_b (f_X3_discard_70 n) S x3 x2
theorem v_X3_discard_70 {l : Launch} {G : Gx} (hst : l.stackTraces = false) (hm : gmo G ≠ 0) {σ0 σe : Hp} {Se : Ms} {r : Int32} : ∀ (n : Nat) (S : Ms) (x3 : Int32) (x2 : Int32), f_X3_discard_70 n S x3 x2 = some (r, Se) → VV_X3_discard l G σ0 (.inl (some (pI r))) σe Se 70 [(3, pI x3), (2, pI x2), (0, pR (gmo G))] [] σe S
  | 0, _, _, _, h => by cases h
  | n + 1, _, _, _, h => v_X3_discard_70_b hst hm (v_X3_discard_70 hst hm n) h
def f_X3_discard (S : Ms) (x1 : Int32) : Option (Int32 × Ms) :=
  bp (f_X3_isBlock (sM S 5 (0 : Int32)) x1) fun y1 S2 => if y1 = (0 : Int32) then (bp (f_X3_fails S2 (1 : Int32)) fun y21 S22 => some (y21, S22)) else (bp (f_X3_isFree S2 x1) fun y5 S6 => if y5 = (0 : Int32) then (bp (f_X3_fails S6 (2 : Int32)) fun y18 S19 => some (y18, S19)) else (bp (f_X3_save S6 ) fun e9 S10 => bd (mrd S10 0 149 (8 : Int32)) fun y12 => bd (mwr S10 0 149 (8 : Int32) (y12 - (1 : Int32))) fun S14 => bd (mrd S14 0 149 (8 : Int32)) fun y16 => f_X3_discard_70 FU S14 ((9 : Int32) + ((7 : Int32) * x1)) ((9 : Int32) + ((7 : Int32) * y16))))
set_option maxHeartbeats 4000000 in
theorem v_X3_discard (l : Launch) (G : Gx) (hst : l.stackTraces = false) (hm : gmo G ≠ 0) (σ : Hp) {S Se : Ms} {x1 : Int32} {r : Int32} (h : f_X3_discard S x1 = some (r, Se)) : MT l G yX3_discard (ws_ yX3_discard cX3_discard 4 (some .int)) 3 73 [pR (gmo G), pI x1] σ S (.inl (some (pI r))) σ Se := by
  refine MT_of (own := RX3) (nL := 4) (ini := false) (by decide +kernel) rfl (Nat.le_of_ble_eq_true rfl) (fun h => by cases h) hst ?_
  show VV_X3_discard l G σ (.inl (some (pI r))) σ Se 0 [(0, pR (gmo G)), (1, pI x1)] [] σ S
  unfold f_X3_discard at h
  refine V_aload_n (i := 0) 0 dX3_discard_0 rfl rfl ?_
  refine V_iconst (v := 0) dX3_discard_1 (by decide) ?_
  refine V_mput hm gw_X3_38 (by decide) rfl dX3_discard_2 ?_
  refine V_aload_n (i := 0) 0 dX3_discard_5 rfl rfl ?_
  refine V_iload_n (i := 1) 1 dX3_discard_6 rfl rfl ?_
  obtain ⟨y1, S2, e3, h⟩ := bp_s h
  refine V_callM_v (n9 := 1) [] hm (v_X3_isBlock l G hst hm _ e3) rfl rfl (lw_V q2098 q2100 qs32 q90 q2101) (by decide +kernel) (by decide) (Nat.le_of_ble_eq_true rfl) dX3_discard_7 ?_
  refine V_if_ne 19 dX3_discard_10 (by decide) (fun c4 => ?_) (fun c4 => ?_)
  · replace h := it_f c4 h
    refine V_aload_n (i := 0) 0 dX3_discard_19 rfl rfl ?_
    refine V_iload_n (i := 1) 1 dX3_discard_20 rfl rfl ?_
    obtain ⟨y5, S6, e7, h⟩ := bp_s h
    refine V_callM_v (n9 := 1) [] hm (v_X3_isFree l G hst hm _ e7) rfl rfl (lw_V q2102 q2104 qs33 q90 q2105) (by decide +kernel) (by decide) (Nat.le_of_ble_eq_true rfl) dX3_discard_21 ?_
    refine V_if_ne 33 dX3_discard_24 (by decide) (fun c8 => ?_) (fun c8 => ?_)
    · replace h := it_f c8 h
      refine V_aload_n (i := 0) 0 dX3_discard_33 rfl rfl ?_
      obtain ⟨e9, S10, e11, h⟩ := bp_s h
      refine V_callM_0 (n9 := 0) [] hm (v_X3_save l G hst hm _ e11) rfl rfl (lw_V q2077 q2079 qs29 q90 q2080) (by decide +kernel) (by decide) (Nat.le_of_ble_eq_true rfl) dX3_discard_34 ?_
      refine V_aload_n (i := 0) 0 dX3_discard_37 rfl rfl ?_
      refine V_mrdA hm gf_X3_7 (by decide) rfl dX3_discard_38 ?_
      refine V_bipush (v := 8) dX3_discard_41 (by decide) ?_
      refine V_dup2 dX3_discard_43 rfl rfl ?_
      obtain ⟨y12, e13, h⟩ := bd_s h
      refine V_mel hm e13 (by decide) rfl (by decide) dX3_discard_44 ?_
      refine V_iconst (v := 1) dX3_discard_45 (by decide) ?_
      refine V_isub dX3_discard_46 ?_
      obtain ⟨S14, e15, h⟩ := bd_s h
      refine V_mst hm e15 (by decide) rfl (by decide) dX3_discard_47 ?_
      refine V_bipush (v := 9) dX3_discard_48 (by decide) ?_
      refine V_bipush (v := 7) dX3_discard_50 (by decide) ?_
      refine V_aload_n (i := 0) 0 dX3_discard_52 rfl rfl ?_
      refine V_mrdA hm gf_X3_7 (by decide) rfl dX3_discard_53 ?_
      refine V_bipush (v := 8) dX3_discard_56 (by decide) ?_
      obtain ⟨y16, e17, h⟩ := bd_s h
      refine V_mel hm e17 (by decide) rfl (by decide) dX3_discard_58 ?_
      refine V_imul dX3_discard_59 ?_
      refine V_iadd dX3_discard_60 ?_
      refine V_istore_n (i := 2) (L' := [(2, pI ((9 : Int32) + ((7 : Int32) * y16))), (0, pR (gmo G)), (1, pI x1)]) dX3_discard_61 rfl (by decide) rfl ?_
      refine V_bipush (v := 9) dX3_discard_62 (by decide) ?_
      refine V_bipush (v := 7) dX3_discard_64 (by decide) ?_
      refine V_iload_n (i := 1) 2 dX3_discard_66 rfl rfl ?_
      refine V_imul dX3_discard_67 ?_
      refine V_iadd dX3_discard_68 ?_
      refine V_istore_n (i := 3) (L' := [(3, pI ((9 : Int32) + ((7 : Int32) * x1))), (2, pI ((9 : Int32) + ((7 : Int32) * y16))), (0, pR (gmo G)), (1, pI x1)]) dX3_discard_69 rfl (by decide) rfl ?_
      refine V_sub [0, 1, 2] rfl ?_
      exact v_X3_discard_70 hst hm FU _ _ _ h
    · replace h := it_t c8 h
      refine V_aload_n (i := 0) 0 dX3_discard_27 rfl rfl ?_
      refine V_iconst (v := 2) dX3_discard_28 (by decide) ?_
      obtain ⟨y18, S19, e20, h⟩ := bp_s h
      refine V_callM_v (n9 := 1) [] hm (v_X3_fails l G hst hm _ e20) rfl rfl (lw_V q2062 q2064 qs28 q90 q2065) (by decide +kernel) (by decide) (Nat.le_of_ble_eq_true rfl) dX3_discard_29 ?_
      cases h
      exact V_iret rfl dX3_discard_32
  · replace h := it_t c4 h
    refine V_aload_n (i := 0) 0 dX3_discard_13 rfl rfl ?_
    refine V_iconst (v := 1) dX3_discard_14 (by decide) ?_
    obtain ⟨y21, S22, e23, h⟩ := bp_s h
    refine V_callM_v (n9 := 1) [] hm (v_X3_fails l G hst hm _ e23) rfl rfl (lw_V q2062 q2064 qs28 q90 q2065) (by decide +kernel) (by decide) (Nat.le_of_ble_eq_true rfl) dX3_discard_15 ?_
    cases h
    exact V_iret rfl dX3_discard_18

abbrev VV_X3_error (l : Launch) (G : Gx) (σ0 : Hp) (o : Oc) (σe : Hp) (Se : Ms) := V l G RX3 cX3_error 2 (some .int) [] false 2 52 σ0 o σe Se
def f_X3_error (S : Ms) (x1 : Int32) : Option (Int32 × Ms) :=
  bp (f_X3_of S x1 (1 : Int32)) fun y1 S2 => bp (f_X3_of S2 x1 (2 : Int32)) fun y4 S5 => some ((y1 - y4), S5)
set_option maxHeartbeats 4000000 in
theorem v_X3_error (l : Launch) (G : Gx) (hst : l.stackTraces = false) (hm : gmo G ≠ 0) (σ : Hp) {S Se : Ms} {x1 : Int32} {r : Int32} (h : f_X3_error S x1 = some (r, Se)) : MT l G yX3_error (ws_ yX3_error cX3_error 2 (some .int)) 2 52 [pR (gmo G), pI x1] σ S (.inl (some (pI r))) σ Se := by
  refine MT_of (own := RX3) (nL := 2) (ini := false) (by decide +kernel) rfl (Nat.le_of_ble_eq_true rfl) (fun h => by cases h) hst ?_
  show VV_X3_error l G σ (.inl (some (pI r))) σ Se 0 [(0, pR (gmo G)), (1, pI x1)] [] σ S
  unfold f_X3_error at h
  refine V_aload_n (i := 0) 0 dX3_error_0 rfl rfl ?_
  refine V_iload_n (i := 1) 1 dX3_error_1 rfl rfl ?_
  refine V_iconst (v := 1) dX3_error_2 (by decide) ?_
  obtain ⟨y1, S2, e3, h⟩ := bp_s h
  refine V_callM_v (n9 := 2) [] hm (v_X3_of l G hst hm _ e3) rfl rfl (lw_V q2106 q2108 qs34 q90 q2109) (by decide +kernel) (by decide) (Nat.le_of_ble_eq_true rfl) dX3_error_3 ?_
  refine V_aload_n (i := 0) 0 dX3_error_6 rfl rfl ?_
  refine V_iload_n (i := 1) 1 dX3_error_7 rfl rfl ?_
  refine V_iconst (v := 2) dX3_error_8 (by decide) ?_
  obtain ⟨y4, S5, e6, h⟩ := bp_s h
  refine V_callM_v (n9 := 2) [pI y1] hm (v_X3_of l G hst hm _ e6) rfl rfl (lw_V q2106 q2108 qs34 q90 q2109) (by decide +kernel) (by decide) (Nat.le_of_ble_eq_true rfl) dX3_error_9 ?_
  refine V_isub dX3_error_12 ?_
  cases h
  exact V_iret rfl dX3_error_13

abbrev VV_X3_size (l : Launch) (G : Gx) (σ0 : Hp) (o : Oc) (σe : Hp) (Se : Ms) := V l G RX3 cX3_size 1 (some .int) [] false 1 30 σ0 o σe Se
def f_X3_size_10 (s0 : Int32) : Option Int32 :=
  some s0
set_option maxHeartbeats 4000000 in
theorem v_X3_size_10 {l : Launch} {G : Gx} (hst : l.stackTraces = false) {σ0 σe : Hp} {Se : Ms} {r : Int32} {s0 : Int32} (h : f_X3_size_10 s0 = some r) : VV_X3_size l G σ0 (.inl (some (pI r))) σe Se 10 [] [pI s0] σe Se := by
  unfold f_X3_size_10 at h
  cases h
  exact V_iret rfl dX3_size_10
def f_X3_size (x0 : Int32) : Option Int32 :=
  if (0 : Int32) ≤ x0 then (f_X3_size_10 x0) else (f_X3_size_10 (-x0))
set_option maxHeartbeats 4000000 in
theorem v_X3_size (l : Launch) (G : Gx) (hst : l.stackTraces = false) (σ : Hp) (S : Ms) {x0 : Int32} {r : Int32} (h : f_X3_size x0 = some r) : MT l G yX3_size (ws_ yX3_size cX3_size 1 (some .int)) 1 30 [pI x0] σ S (.inl (some (pI r))) σ S := by
  refine MT_of (own := RX3) (nL := 1) (ini := false) (by decide +kernel) rfl (Nat.le_of_ble_eq_true rfl) (fun h => by cases h) hst ?_
  show VV_X3_size l G σ (.inl (some (pI r))) σ S 0 [(0, pI x0)] [] σ S
  unfold f_X3_size at h
  refine V_iload_n (i := 0) 0 dX3_size_0 rfl rfl ?_
  refine V_if_ge 9 dX3_size_1 (by decide) (fun c1 => ?_) (fun c1 => ?_)
  · replace h := it_t c1 h
    refine V_iload_n (i := 0) 0 dX3_size_9 rfl rfl ?_
    refine V_sub [] rfl ?_
    exact v_X3_size_10 hst h
  · replace h := it_f c1 h
    refine V_iload_n (i := 0) 0 dX3_size_4 rfl rfl ?_
    refine V_ineg dX3_size_5 ?_
    refine V_goto 10 dX3_size_6 (by decide) ?_
    refine V_sub [] rfl ?_
    exact v_X3_size_10 hst h

abbrev VV_X3_grade (l : Launch) (G : Gx) (σ0 : Hp) (o : Oc) (σe : Hp) (Se : Ms) := V l G RX3 cX3_grade 3 (some .int) [] false 3 73 σ0 o σe Se
def f_X3_grade_42 (S : Ms) (s0 : Int32) : Option (Int32 × Ms) :=
  some (s0, S)
set_option maxHeartbeats 4000000 in
theorem v_X3_grade_42 {l : Launch} {G : Gx} (hst : l.stackTraces = false) (hm : gmo G ≠ 0) {σ0 σe : Hp} {Se : Ms} {r : Int32} {S : Ms} {s0 : Int32} (h : f_X3_grade_42 S s0 = some (r, Se)) : VV_X3_grade l G σ0 (.inl (some (pI r))) σe Se 42 [] [pI s0] σe S := by
  unfold f_X3_grade_42 at h
  cases h
  exact V_iret rfl dX3_grade_42
def f_X3_grade (S : Ms) (x1 : Int32) : Option (Int32 × Ms) :=
  bp (f_X3_error S x1) fun y1 S2 => bd (f_X3_size y1) fun y4 => if (100 : Int32) < y4 then (if (250 : Int32) < y4 then (if (500 : Int32) < y4 then (f_X3_grade_42 S2 (3 : Int32)) else (f_X3_grade_42 S2 (2 : Int32))) else (f_X3_grade_42 S2 (1 : Int32))) else (f_X3_grade_42 S2 (0 : Int32))
set_option maxHeartbeats 4000000 in
theorem v_X3_grade (l : Launch) (G : Gx) (hst : l.stackTraces = false) (hm : gmo G ≠ 0) (σ : Hp) {S Se : Ms} {x1 : Int32} {r : Int32} (h : f_X3_grade S x1 = some (r, Se)) : MT l G yX3_grade (ws_ yX3_grade cX3_grade 3 (some .int)) 3 73 [pR (gmo G), pI x1] σ S (.inl (some (pI r))) σ Se := by
  refine MT_of (own := RX3) (nL := 3) (ini := false) (by decide +kernel) rfl (Nat.le_of_ble_eq_true rfl) (fun h => by cases h) hst ?_
  show VV_X3_grade l G σ (.inl (some (pI r))) σ Se 0 [(0, pR (gmo G)), (1, pI x1)] [] σ S
  unfold f_X3_grade at h
  refine V_aload_n (i := 0) 0 dX3_grade_0 rfl rfl ?_
  refine V_iload_n (i := 1) 1 dX3_grade_1 rfl rfl ?_
  obtain ⟨y1, S2, e3, h⟩ := bp_s h
  refine V_callM_v (n9 := 1) [] hm (v_X3_error l G hst hm _ e3) rfl rfl (lw_V q2114 q2116 qs35 q90 q2117) (by decide +kernel) (by decide) (Nat.le_of_ble_eq_true rfl) dX3_grade_2 ?_
  obtain ⟨y4, e5, h⟩ := bd_s h
  refine V_callS_v (n9 := 1) [] (v_X3_size l G hst _ _ e5) rfl rfl (lw_S q2122 q2123 q90 q2124) (by decide +kernel) (by decide) (Nat.le_of_ble_eq_true rfl) dX3_grade_5 ?_
  refine V_istore_n (i := 2) (L' := [(2, pI y4), (0, pR (gmo G)), (1, pI x1)]) dX3_grade_8 rfl (by decide) rfl ?_
  refine V_iload_n (i := 2) 0 dX3_grade_9 rfl rfl ?_
  refine V_bipush (v := 100) dX3_grade_10 (by decide) ?_
  refine V_icmp_gt 19 dX3_grade_12 (by decide) (fun c6 => ?_) (fun c6 => ?_)
  · replace h := it_t c6 h
    refine V_iload_n (i := 2) 0 dX3_grade_19 rfl rfl ?_
    refine V_sipush (v := 250) dX3_grade_20 (by decide) ?_
    refine V_icmp_gt 30 dX3_grade_23 (by decide) (fun c7 => ?_) (fun c7 => ?_)
    · replace h := it_t c7 h
      refine V_iload_n (i := 2) 0 dX3_grade_30 rfl rfl ?_
      refine V_sipush (v := 500) dX3_grade_31 (by decide) ?_
      refine V_icmp_gt 41 dX3_grade_34 (by decide) (fun c8 => ?_) (fun c8 => ?_)
      · replace h := it_t c8 h
        refine V_iconst (v := 3) dX3_grade_41 (by decide) ?_
        refine V_sub [] rfl ?_
        exact v_X3_grade_42 hst hm h
      · replace h := it_f c8 h
        refine V_iconst (v := 2) dX3_grade_37 (by decide) ?_
        refine V_goto 42 dX3_grade_38 (by decide) ?_
        refine V_sub [] rfl ?_
        exact v_X3_grade_42 hst hm h
    · replace h := it_f c7 h
      refine V_iconst (v := 1) dX3_grade_26 (by decide) ?_
      refine V_goto 42 dX3_grade_27 (by decide) ?_
      refine V_sub [] rfl ?_
      exact v_X3_grade_42 hst hm h
  · replace h := it_f c6 h
    refine V_iconst (v := 0) dX3_grade_15 (by decide) ?_
    refine V_goto 42 dX3_grade_16 (by decide) ?_
    refine V_sub [] rfl ?_
    exact v_X3_grade_42 hst hm h

abbrev VV_X3_calibrate (l : Launch) (G : Gx) (σ0 : Hp) (o : Oc) (σe : Hp) (Se : Ms) := V l G RX3 cX3_calibrate 2 (some .int) [] false 4 95 σ0 o σe Se
def f_X3_calibrate_62 (S : Ms) (x1 : Int32) (s0 : Int32) (s1 : Int32) (s2 : Int32) : Option (Int32 × Ms) :=
  bp (f_X3_put S s2 s1 s0) fun e1 S2 => bp (f_X3_put S2 x1 (2 : Int32) (0 : Int32)) fun e4 S5 => bp (f_X3_grade S5 x1) fun y7 S8 => some (y7, S8)
set_option maxHeartbeats 4000000 in
theorem v_X3_calibrate_62 {l : Launch} {G : Gx} (hst : l.stackTraces = false) (hm : gmo G ≠ 0) {σ0 σe : Hp} {Se : Ms} {r : Int32} {S : Ms} {x1 : Int32} {s0 : Int32} {s1 : Int32} {s2 : Int32} (h : f_X3_calibrate_62 S x1 s0 s1 s2 = some (r, Se)) : VV_X3_calibrate l G σ0 (.inl (some (pI r))) σe Se 62 [(0, pR (gmo G)), (1, pI x1)] [pI s0, pI s1, pI s2, pR (gmo G)] σe S := by
  unfold f_X3_calibrate_62 at h
  obtain ⟨e1, S2, e3, h⟩ := bp_s h
  refine V_callM_0 (n9 := 3) [] hm (v_X3_put l G hst hm _ e3) rfl rfl (lw_V q2090 q2092 qs31 q90 q2093) (by decide +kernel) (by decide) (Nat.le_of_ble_eq_true rfl) dX3_calibrate_62 ?_
  refine V_aload_n (i := 0) 0 dX3_calibrate_65 rfl rfl ?_
  refine V_iload_n (i := 1) 1 dX3_calibrate_66 rfl rfl ?_
  refine V_iconst (v := 2) dX3_calibrate_67 (by decide) ?_
  refine V_iconst (v := 0) dX3_calibrate_68 (by decide) ?_
  obtain ⟨e4, S5, e6, h⟩ := bp_s h
  refine V_callM_0 (n9 := 3) [] hm (v_X3_put l G hst hm _ e6) rfl rfl (lw_V q2090 q2092 qs31 q90 q2093) (by decide +kernel) (by decide) (Nat.le_of_ble_eq_true rfl) dX3_calibrate_69 ?_
  refine V_aload_n (i := 0) 0 dX3_calibrate_72 rfl rfl ?_
  refine V_iload_n (i := 1) 1 dX3_calibrate_73 rfl rfl ?_
  obtain ⟨y7, S8, e9, h⟩ := bp_s h
  refine V_callM_v (n9 := 1) [] hm (v_X3_grade l G hst hm _ e9) rfl rfl (lw_V q2118 q2120 qs36 q90 q2121) (by decide +kernel) (by decide) (Nat.le_of_ble_eq_true rfl) dX3_calibrate_74 ?_
  cases h
  exact V_iret rfl dX3_calibrate_77
def f_X3_calibrate (S : Ms) (x1 : Int32) : Option (Int32 × Ms) :=
  bp (f_X3_isBlock (sM S 5 (0 : Int32)) x1) fun y1 S2 => if y1 = (0 : Int32) then (bp (f_X3_fails S2 (1 : Int32)) fun y22 S23 => some (y22, S23)) else (bp (f_X3_isFree S2 x1) fun y5 S6 => if y5 = (0 : Int32) then (bp (f_X3_fails S6 (2 : Int32)) fun y19 S20 => some (y19, S20)) else (bp (f_X3_save S6 ) fun e9 S10 => bp (f_X3_error S10 x1) fun y12 S13 => if (-900 : Int32) ≤ y12 then (bp (f_X3_error S13 x1) fun y16 S17 => f_X3_calibrate_62 S17 x1 y16 (1 : Int32) x1) else (f_X3_calibrate_62 S13 x1 (-900 : Int32) (1 : Int32) x1)))
set_option maxHeartbeats 4000000 in
theorem v_X3_calibrate (l : Launch) (G : Gx) (hst : l.stackTraces = false) (hm : gmo G ≠ 0) (σ : Hp) {S Se : Ms} {x1 : Int32} {r : Int32} (h : f_X3_calibrate S x1 = some (r, Se)) : MT l G yX3_calibrate (ws_ yX3_calibrate cX3_calibrate 2 (some .int)) 4 95 [pR (gmo G), pI x1] σ S (.inl (some (pI r))) σ Se := by
  refine MT_of (own := RX3) (nL := 2) (ini := false) (by decide +kernel) rfl (Nat.le_of_ble_eq_true rfl) (fun h => by cases h) hst ?_
  show VV_X3_calibrate l G σ (.inl (some (pI r))) σ Se 0 [(0, pR (gmo G)), (1, pI x1)] [] σ S
  unfold f_X3_calibrate at h
  refine V_aload_n (i := 0) 0 dX3_calibrate_0 rfl rfl ?_
  refine V_iconst (v := 0) dX3_calibrate_1 (by decide) ?_
  refine V_mput hm gw_X3_38 (by decide) rfl dX3_calibrate_2 ?_
  refine V_aload_n (i := 0) 0 dX3_calibrate_5 rfl rfl ?_
  refine V_iload_n (i := 1) 1 dX3_calibrate_6 rfl rfl ?_
  obtain ⟨y1, S2, e3, h⟩ := bp_s h
  refine V_callM_v (n9 := 1) [] hm (v_X3_isBlock l G hst hm _ e3) rfl rfl (lw_V q2098 q2100 qs32 q90 q2101) (by decide +kernel) (by decide) (Nat.le_of_ble_eq_true rfl) dX3_calibrate_7 ?_
  refine V_if_ne 19 dX3_calibrate_10 (by decide) (fun c4 => ?_) (fun c4 => ?_)
  · replace h := it_f c4 h
    refine V_aload_n (i := 0) 0 dX3_calibrate_19 rfl rfl ?_
    refine V_iload_n (i := 1) 1 dX3_calibrate_20 rfl rfl ?_
    obtain ⟨y5, S6, e7, h⟩ := bp_s h
    refine V_callM_v (n9 := 1) [] hm (v_X3_isFree l G hst hm _ e7) rfl rfl (lw_V q2102 q2104 qs33 q90 q2105) (by decide +kernel) (by decide) (Nat.le_of_ble_eq_true rfl) dX3_calibrate_21 ?_
    refine V_if_ne 33 dX3_calibrate_24 (by decide) (fun c8 => ?_) (fun c8 => ?_)
    · replace h := it_f c8 h
      refine V_aload_n (i := 0) 0 dX3_calibrate_33 rfl rfl ?_
      obtain ⟨e9, S10, e11, h⟩ := bp_s h
      refine V_callM_0 (n9 := 0) [] hm (v_X3_save l G hst hm _ e11) rfl rfl (lw_V q2077 q2079 qs29 q90 q2080) (by decide +kernel) (by decide) (Nat.le_of_ble_eq_true rfl) dX3_calibrate_34 ?_
      refine V_aload_n (i := 0) 0 dX3_calibrate_37 rfl rfl ?_
      refine V_iload_n (i := 1) 1 dX3_calibrate_38 rfl rfl ?_
      refine V_iconst (v := 1) dX3_calibrate_39 (by decide) ?_
      refine V_aload_n (i := 0) 0 dX3_calibrate_40 rfl rfl ?_
      refine V_iload_n (i := 1) 1 dX3_calibrate_41 rfl rfl ?_
      obtain ⟨y12, S13, e14, h⟩ := bp_s h
      refine V_callM_v (n9 := 1) [pI (1 : Int32), pI x1, pR (gmo G)] hm (v_X3_error l G hst hm _ e14) rfl rfl (lw_V q2114 q2116 qs35 q90 q2117) (by decide +kernel) (by decide) (Nat.le_of_ble_eq_true rfl) dX3_calibrate_42 ?_
      refine V_sipush (v := (-900)) dX3_calibrate_45 (by decide) ?_
      refine V_icmp_ge 57 dX3_calibrate_48 (by decide) (fun c15 => ?_) (fun c15 => ?_)
      · replace h := it_t c15 h
        refine V_aload_n (i := 0) 0 dX3_calibrate_57 rfl rfl ?_
        refine V_iload_n (i := 1) 1 dX3_calibrate_58 rfl rfl ?_
        obtain ⟨y16, S17, e18, h⟩ := bp_s h
        refine V_callM_v (n9 := 1) [pI (1 : Int32), pI x1, pR (gmo G)] hm (v_X3_error l G hst hm _ e18) rfl rfl (lw_V q2114 q2116 qs35 q90 q2117) (by decide +kernel) (by decide) (Nat.le_of_ble_eq_true rfl) dX3_calibrate_59 ?_
        refine V_sub [0, 1] rfl ?_
        exact v_X3_calibrate_62 hst hm h
      · replace h := it_f c15 h
        refine V_sipush (v := (-900)) dX3_calibrate_51 (by decide) ?_
        refine V_goto 62 dX3_calibrate_54 (by decide) ?_
        refine V_sub [0, 1] rfl ?_
        exact v_X3_calibrate_62 hst hm h
    · replace h := it_t c8 h
      refine V_aload_n (i := 0) 0 dX3_calibrate_27 rfl rfl ?_
      refine V_iconst (v := 2) dX3_calibrate_28 (by decide) ?_
      obtain ⟨y19, S20, e21, h⟩ := bp_s h
      refine V_callM_v (n9 := 1) [] hm (v_X3_fails l G hst hm _ e21) rfl rfl (lw_V q2062 q2064 qs28 q90 q2065) (by decide +kernel) (by decide) (Nat.le_of_ble_eq_true rfl) dX3_calibrate_29 ?_
      cases h
      exact V_iret rfl dX3_calibrate_32
  · replace h := it_t c4 h
    refine V_aload_n (i := 0) 0 dX3_calibrate_13 rfl rfl ?_
    refine V_iconst (v := 1) dX3_calibrate_14 (by decide) ?_
    obtain ⟨y22, S23, e24, h⟩ := bp_s h
    refine V_callM_v (n9 := 1) [] hm (v_X3_fails l G hst hm _ e24) rfl rfl (lw_V q2062 q2064 qs28 q90 q2065) (by decide +kernel) (by decide) (Nat.le_of_ble_eq_true rfl) dX3_calibrate_15 ?_
    cases h
    exact V_iret rfl dX3_calibrate_18

abbrev VV_X3_warm (l : Launch) (G : Gx) (σ0 : Hp) (o : Oc) (σe : Hp) (Se : Ms) := V l G RX3 cX3_warm 4 none [] false 2 53 σ0 o σe Se
def f_X3_warm_26 (S : Ms) (s0 : Int32) (s1 : Int32) (s2 : Int32) : Option (Unit × Ms) :=
  bp (f_X3_put S s2 s1 s0) fun e1 S2 => some ((), S2)
set_option maxHeartbeats 4000000 in
theorem v_X3_warm_26 {l : Launch} {G : Gx} (hst : l.stackTraces = false) (hm : gmo G ≠ 0) {σ0 σe : Hp} {Se : Ms} {r : Unit} {S : Ms} {s0 : Int32} {s1 : Int32} {s2 : Int32} (h : f_X3_warm_26 S s0 s1 s2 = some (r, Se)) : VV_X3_warm l G σ0 (.inl none) σe Se 26 [] [pI s0, pI s1, pI s2, pR (gmo G)] σe S := by
  unfold f_X3_warm_26 at h
  obtain ⟨e1, S2, e3, h⟩ := bp_s h
  refine V_callM_0 (n9 := 3) [] hm (v_X3_put l G hst hm _ e3) rfl rfl (lw_V q2090 q2092 qs31 q90 q2093) (by decide +kernel) (by decide) (Nat.le_of_ble_eq_true rfl) dX3_warm_26 ?_
  cases h
  exact V_vret rfl dX3_warm_29
def f_X3_warm (S : Ms) (x1 : Int32) (x2 : Int32) : Option (Unit × Ms) :=
  bp (f_X3_of S x1 (3 : Int32)) fun y1 S2 => if (y1 + x2) ≤ (1000 : Int32) then (f_X3_warm_26 S2 (y1 + x2) (3 : Int32) x1) else (f_X3_warm_26 S2 (1000 : Int32) (3 : Int32) x1)
set_option maxHeartbeats 4000000 in
theorem v_X3_warm (l : Launch) (G : Gx) (hst : l.stackTraces = false) (hm : gmo G ≠ 0) (σ : Hp) {S Se : Ms} {x1 : Int32} {x2 : Int32} {r : Unit} (h : f_X3_warm S x1 x2 = some (r, Se)) : MT l G yX3_warm (ws_ yX3_warm cX3_warm 4 none) 2 53 [pR (gmo G), pI x1, pI x2] σ S (.inl none) σ Se := by
  refine MT_of (own := RX3) (nL := 4) (ini := false) (by decide +kernel) rfl (Nat.le_of_ble_eq_true rfl) (fun h => by cases h) hst ?_
  show VV_X3_warm l G σ (.inl none) σ Se 0 [(0, pR (gmo G)), (1, pI x1), (2, pI x2)] [] σ S
  unfold f_X3_warm at h
  refine V_aload_n (i := 0) 0 dX3_warm_0 rfl rfl ?_
  refine V_iload_n (i := 1) 1 dX3_warm_1 rfl rfl ?_
  refine V_iconst (v := 3) dX3_warm_2 (by decide) ?_
  obtain ⟨y1, S2, e3, h⟩ := bp_s h
  refine V_callM_v (n9 := 2) [] hm (v_X3_of l G hst hm _ e3) rfl rfl (lw_V q2106 q2108 qs34 q90 q2109) (by decide +kernel) (by decide) (Nat.le_of_ble_eq_true rfl) dX3_warm_3 ?_
  refine V_iload_n (i := 2) 2 dX3_warm_6 rfl rfl ?_
  refine V_iadd dX3_warm_7 ?_
  refine V_istore_n (i := 3) (L' := [(3, pI (y1 + x2)), (0, pR (gmo G)), (1, pI x1), (2, pI x2)]) dX3_warm_8 rfl (by decide) rfl ?_
  refine V_aload_n (i := 0) 1 dX3_warm_9 rfl rfl ?_
  refine V_iload_n (i := 1) 2 dX3_warm_10 rfl rfl ?_
  refine V_iconst (v := 3) dX3_warm_11 (by decide) ?_
  refine V_iload_n (i := 3) 0 dX3_warm_12 rfl rfl ?_
  refine V_sipush (v := 1000) dX3_warm_13 (by decide) ?_
  refine V_icmp_le 25 dX3_warm_16 (by decide) (fun c4 => ?_) (fun c4 => ?_)
  · replace h := it_t c4 h
    refine V_iload_n (i := 3) 0 dX3_warm_25 rfl rfl ?_
    refine V_sub [] rfl ?_
    exact v_X3_warm_26 hst hm h
  · replace h := it_f c4 h
    refine V_sipush (v := 1000) dX3_warm_19 (by decide) ?_
    refine V_goto 26 dX3_warm_22 (by decide) ?_
    refine V_sub [] rfl ?_
    exact v_X3_warm_26 hst hm h

abbrev VV_X3_holdNow (l : Launch) (G : Gx) (σ0 : Hp) (o : Oc) (σe : Hp) (Se : Ms) := V l G RX3 cX3_holdNow 3 (some .int) [] false 3 76 σ0 o σe Se
def f_X3_holdNow (S : Ms) (x1 : Int32) (x2 : Int32) : Option (Int32 × Ms) :=
  bp (f_X3_warm S x1 ((5 : Int32) * x2)) fun e1 S2 => bp (f_X3_of S2 x1 (3 : Int32)) fun y4 S5 => some (y4, S5)
set_option maxHeartbeats 4000000 in
theorem v_X3_holdNow (l : Launch) (G : Gx) (hst : l.stackTraces = false) (hm : gmo G ≠ 0) (σ : Hp) {S Se : Ms} {x1 : Int32} {x2 : Int32} {r : Int32} (h : f_X3_holdNow S x1 x2 = some (r, Se)) : MT l G yX3_holdNow (ws_ yX3_holdNow cX3_holdNow 3 (some .int)) 3 76 [pR (gmo G), pI x1, pI x2] σ S (.inl (some (pI r))) σ Se := by
  refine MT_of (own := RX3) (nL := 3) (ini := false) (by decide +kernel) rfl (Nat.le_of_ble_eq_true rfl) (fun h => by cases h) hst ?_
  show VV_X3_holdNow l G σ (.inl (some (pI r))) σ Se 0 [(0, pR (gmo G)), (1, pI x1), (2, pI x2)] [] σ S
  unfold f_X3_holdNow at h
  refine V_aload_n (i := 0) 0 dX3_holdNow_0 rfl rfl ?_
  refine V_iload_n (i := 1) 1 dX3_holdNow_1 rfl rfl ?_
  refine V_iconst (v := 5) dX3_holdNow_2 (by decide) ?_
  refine V_iload_n (i := 2) 2 dX3_holdNow_3 rfl rfl ?_
  refine V_imul dX3_holdNow_4 ?_
  obtain ⟨e1, S2, e3, h⟩ := bp_s h
  refine V_callM_0 (n9 := 2) [] hm (v_X3_warm l G hst hm _ e3) rfl rfl (lw_V q2133 q2135 qs38 q90 q2136) (by decide +kernel) (by decide) (Nat.le_of_ble_eq_true rfl) dX3_holdNow_5 ?_
  refine V_aload_n (i := 0) 0 dX3_holdNow_8 rfl rfl ?_
  refine V_iload_n (i := 1) 1 dX3_holdNow_9 rfl rfl ?_
  refine V_iconst (v := 3) dX3_holdNow_10 (by decide) ?_
  obtain ⟨y4, S5, e6, h⟩ := bp_s h
  refine V_callM_v (n9 := 2) [] hm (v_X3_of l G hst hm _ e6) rfl rfl (lw_V q2106 q2108 qs34 q90 q2109) (by decide +kernel) (by decide) (Nat.le_of_ble_eq_true rfl) dX3_holdNow_11 ?_
  cases h
  exact V_iret rfl dX3_holdNow_14

abbrev VV_X3_hold (l : Launch) (G : Gx) (σ0 : Hp) (o : Oc) (σe : Hp) (Se : Ms) := V l G RX3 cX3_hold 3 (some .int) [] false 4 98 σ0 o σe Se
def f_X3_hold (S : Ms) (x1 : Int32) (x2 : Int32) : Option (Int32 × Ms) :=
  bp (f_X3_isBlock (sM S 5 (0 : Int32)) x1) fun y1 S2 => if y1 = (0 : Int32) then (bp (f_X3_fails S2 (1 : Int32)) fun y17 S18 => some (y17, S18)) else (bd (f_X3_in x2 (1 : Int32) (60 : Int32)) fun y5 => if y5 = (0 : Int32) then (bp (f_X3_fails S2 (2 : Int32)) fun y14 S15 => some (y14, S15)) else (bp (f_X3_save S2 ) fun e8 S9 => bp (f_X3_holdNow S9 x1 x2) fun y11 S12 => some (y11, S12)))
set_option maxHeartbeats 4000000 in
theorem v_X3_hold (l : Launch) (G : Gx) (hst : l.stackTraces = false) (hm : gmo G ≠ 0) (σ : Hp) {S Se : Ms} {x1 : Int32} {x2 : Int32} {r : Int32} (h : f_X3_hold S x1 x2 = some (r, Se)) : MT l G yX3_hold (ws_ yX3_hold cX3_hold 3 (some .int)) 4 98 [pR (gmo G), pI x1, pI x2] σ S (.inl (some (pI r))) σ Se := by
  refine MT_of (own := RX3) (nL := 3) (ini := false) (by decide +kernel) rfl (Nat.le_of_ble_eq_true rfl) (fun h => by cases h) hst ?_
  show VV_X3_hold l G σ (.inl (some (pI r))) σ Se 0 [(0, pR (gmo G)), (1, pI x1), (2, pI x2)] [] σ S
  unfold f_X3_hold at h
  refine V_aload_n (i := 0) 0 dX3_hold_0 rfl rfl ?_
  refine V_iconst (v := 0) dX3_hold_1 (by decide) ?_
  refine V_mput hm gw_X3_38 (by decide) rfl dX3_hold_2 ?_
  refine V_aload_n (i := 0) 0 dX3_hold_5 rfl rfl ?_
  refine V_iload_n (i := 1) 1 dX3_hold_6 rfl rfl ?_
  obtain ⟨y1, S2, e3, h⟩ := bp_s h
  refine V_callM_v (n9 := 1) [] hm (v_X3_isBlock l G hst hm _ e3) rfl rfl (lw_V q2098 q2100 qs32 q90 q2101) (by decide +kernel) (by decide) (Nat.le_of_ble_eq_true rfl) dX3_hold_7 ?_
  refine V_if_ne 19 dX3_hold_10 (by decide) (fun c4 => ?_) (fun c4 => ?_)
  · replace h := it_f c4 h
    refine V_iload_n (i := 2) 2 dX3_hold_19 rfl rfl ?_
    refine V_iconst (v := 1) dX3_hold_20 (by decide) ?_
    refine V_bipush (v := 60) dX3_hold_21 (by decide) ?_
    obtain ⟨y5, e6, h⟩ := bd_s h
    refine V_callS_v (n9 := 3) [] (v_X3_in l G hst _ _ e6) rfl rfl (lw_S q2070 q2071 q90 q2072) (by decide +kernel) (by decide) (Nat.le_of_ble_eq_true rfl) dX3_hold_23 ?_
    refine V_if_ne 35 dX3_hold_26 (by decide) (fun c7 => ?_) (fun c7 => ?_)
    · replace h := it_f c7 h
      refine V_aload_n (i := 0) 0 dX3_hold_35 rfl rfl ?_
      obtain ⟨e8, S9, e10, h⟩ := bp_s h
      refine V_callM_0 (n9 := 0) [] hm (v_X3_save l G hst hm _ e10) rfl rfl (lw_V q2077 q2079 qs29 q90 q2080) (by decide +kernel) (by decide) (Nat.le_of_ble_eq_true rfl) dX3_hold_36 ?_
      refine V_aload_n (i := 0) 0 dX3_hold_39 rfl rfl ?_
      refine V_iload_n (i := 1) 1 dX3_hold_40 rfl rfl ?_
      refine V_iload_n (i := 2) 2 dX3_hold_41 rfl rfl ?_
      obtain ⟨y11, S12, e13, h⟩ := bp_s h
      refine V_callM_v (n9 := 2) [] hm (v_X3_holdNow l G hst hm _ e13) rfl rfl (lw_V q2129 q2131 qs37 q90 q2132) (by decide +kernel) (by decide) (Nat.le_of_ble_eq_true rfl) dX3_hold_42 ?_
      cases h
      exact V_iret rfl dX3_hold_45
    · replace h := it_t c7 h
      refine V_aload_n (i := 0) 0 dX3_hold_29 rfl rfl ?_
      refine V_iconst (v := 2) dX3_hold_30 (by decide) ?_
      obtain ⟨y14, S15, e16, h⟩ := bp_s h
      refine V_callM_v (n9 := 1) [] hm (v_X3_fails l G hst hm _ e16) rfl rfl (lw_V q2062 q2064 qs28 q90 q2065) (by decide +kernel) (by decide) (Nat.le_of_ble_eq_true rfl) dX3_hold_31 ?_
      cases h
      exact V_iret rfl dX3_hold_34
  · replace h := it_t c4 h
    refine V_aload_n (i := 0) 0 dX3_hold_13 rfl rfl ?_
    refine V_iconst (v := 1) dX3_hold_14 (by decide) ?_
    obtain ⟨y17, S18, e19, h⟩ := bp_s h
    refine V_callM_v (n9 := 1) [] hm (v_X3_fails l G hst hm _ e19) rfl rfl (lw_V q2062 q2064 qs28 q90 q2065) (by decide +kernel) (by decide) (Nat.le_of_ble_eq_true rfl) dX3_hold_15 ?_
    cases h
    exact V_iret rfl dX3_hold_18

abbrev VV_X3_cooled (l : Launch) (G : Gx) (σ0 : Hp) (o : Oc) (σe : Hp) (Se : Ms) := V l G RX3 cX3_cooled 1 (some .int) [] false 1 30 σ0 o σe Se
def f_X3_cooled (x0 : Int32) : Option Int32 :=
  bd (dvI (x0 + (9 : Int32)) (10 : Int32)) fun y1 => some (x0 - y1)
set_option maxHeartbeats 4000000 in
theorem v_X3_cooled (l : Launch) (G : Gx) (hst : l.stackTraces = false) (σ : Hp) (S : Ms) {x0 : Int32} {r : Int32} (h : f_X3_cooled x0 = some r) : MT l G yX3_cooled (ws_ yX3_cooled cX3_cooled 1 (some .int)) 1 30 [pI x0] σ S (.inl (some (pI r))) σ S := by
  refine MT_of (own := RX3) (nL := 1) (ini := false) (by decide +kernel) rfl (Nat.le_of_ble_eq_true rfl) (fun h => by cases h) hst ?_
  show VV_X3_cooled l G σ (.inl (some (pI r))) σ S 0 [(0, pI x0)] [] σ S
  unfold f_X3_cooled at h
  refine V_iload_n (i := 0) 0 dX3_cooled_0 rfl rfl ?_
  refine V_iload_n (i := 0) 0 dX3_cooled_1 rfl rfl ?_
  refine V_bipush (v := 9) dX3_cooled_2 (by decide) ?_
  refine V_iadd dX3_cooled_4 ?_
  refine V_bipush (v := 10) dX3_cooled_5 (by decide) ?_
  obtain ⟨y1, e2, h⟩ := bd_s h
  refine V_div e2 dX3_cooled_7 ?_
  refine V_isub dX3_cooled_8 ?_
  cases h
  exact V_iret rfl dX3_cooled_9

abbrev VV_X3_restNow (l : Launch) (G : Gx) (σ0 : Hp) (o : Oc) (σe : Hp) (Se : Ms) := V l G RX3 cX3_restNow 5 (some .int) [] false 2 53 σ0 o σe Se
def f_X3_restNow_65 (k4 : Ms → Int32 → Int32 → Int32 → Option (Int32 × Ms)) (S : Ms) (x3 : Int32) (x1 : Int32) (s0 : Int32) : Option (Int32 × Ms) :=
  k4 S (x3 + (1 : Int32)) s0 x1
set_option maxHeartbeats 4000000 in
theorem v_X3_restNow_65 {l : Launch} {G : Gx} (hst : l.stackTraces = false) (hm : gmo G ≠ 0) {σ0 σe : Hp} {Se : Ms} {r : Int32} {k4 : Ms → Int32 → Int32 → Int32 → Option (Int32 × Ms)} (hk4 : ∀ (S : Ms) (x3 : Int32) (x2 : Int32) (x1 : Int32), k4 S x3 x2 x1 = some (r, Se) → VV_X3_restNow l G σ0 (.inl (some (pI r))) σe Se 4 [(3, pI x3), (2, pI x2), (0, pR (gmo G)), (1, pI x1)] [] σe S) {S : Ms} {x3 : Int32} {x1 : Int32} {s0 : Int32} (h : f_X3_restNow_65 k4 S x3 x1 s0 = some (r, Se)) : VV_X3_restNow l G σ0 (.inl (some (pI r))) σe Se 65 [(3, pI x3), (0, pR (gmo G)), (1, pI x1)] [pI s0] σe S := by
  unfold f_X3_restNow_65 at h
  refine V_istore_n (i := 2) (L' := [(2, pI s0), (3, pI x3), (0, pR (gmo G)), (1, pI x1)]) dX3_restNow_65 rfl (by decide) rfl ?_
  refine V_iinc (v := (x3 + (1 : Int32))) (L' := [(3, pI (x3 + (1 : Int32))), (2, pI s0), (0, pR (gmo G)), (1, pI x1)]) 1 dX3_restNow_66 rfl rfl (by decide) rfl ?_
  refine V_goto 4 dX3_restNow_69 (by decide) ?_
  refine V_sub [0, 1, 2, 3] rfl ?_
  exact hk4 _ _ _ _ h
def f_X3_restNow_18_b (k4 : Ms → Int32 → Int32 → Int32 → Option (Int32 × Ms)) (k18 : Ms → Int32 → Int32 → Int32 → Int32 → Option (Int32 × Ms)) (S : Ms) (x4 : Int32) (x3 : Int32) (x2 : Int32) (x1 : Int32) : Option (Int32 × Ms) :=
  if x1 ≤ x4 then (bp (f_X3_of S x3 (3 : Int32)) fun y2 S3 => if y2 ≤ x2 then (f_X3_restNow_65 k4 S3 x3 x1 x2) else (bp (f_X3_of S3 x3 (3 : Int32)) fun y6 S7 => f_X3_restNow_65 k4 S7 x3 x1 y6)) else (bp (f_X3_of S x3 (3 : Int32)) fun y9 S10 => bd (f_X3_cooled y9) fun y12 => bp (f_X3_put S10 x3 (3 : Int32) y12) fun e14 S15 => k18 S15 (x4 + (1 : Int32)) x3 x2 x1)
set_option maxHeartbeats 4000000 in
theorem v_X3_restNow_18_b {l : Launch} {G : Gx} (hst : l.stackTraces = false) (hm : gmo G ≠ 0) {σ0 σe : Hp} {Se : Ms} {r : Int32} {k4 : Ms → Int32 → Int32 → Int32 → Option (Int32 × Ms)} {k18 : Ms → Int32 → Int32 → Int32 → Int32 → Option (Int32 × Ms)} (hk4 : ∀ (S : Ms) (x3 : Int32) (x2 : Int32) (x1 : Int32), k4 S x3 x2 x1 = some (r, Se) → VV_X3_restNow l G σ0 (.inl (some (pI r))) σe Se 4 [(3, pI x3), (2, pI x2), (0, pR (gmo G)), (1, pI x1)] [] σe S) (hk18 : ∀ (S : Ms) (x4 : Int32) (x3 : Int32) (x2 : Int32) (x1 : Int32), k18 S x4 x3 x2 x1 = some (r, Se) → VV_X3_restNow l G σ0 (.inl (some (pI r))) σe Se 18 [(4, pI x4), (3, pI x3), (2, pI x2), (0, pR (gmo G)), (1, pI x1)] [] σe S) {S : Ms} {x4 : Int32} {x3 : Int32} {x2 : Int32} {x1 : Int32} (h : f_X3_restNow_18_b k4 k18 S x4 x3 x2 x1 = some (r, Se)) : VV_X3_restNow l G σ0 (.inl (some (pI r))) σe Se 18 [(4, pI x4), (3, pI x3), (2, pI x2), (0, pR (gmo G)), (1, pI x1)] [] σe S := by
  unfold f_X3_restNow_18_b at h
  refine V_iload (i := 4) 0 dX3_restNow_18 rfl ?_
  refine V_iload_n (i := 1) 4 dX3_restNow_20 rfl rfl ?_
  refine V_icmp_ge 45 dX3_restNow_21 (by decide) (fun c1 => ?_) (fun c1 => ?_)
  · replace h := it_t c1 h
    refine V_aload_n (i := 0) 3 dX3_restNow_45 rfl rfl ?_
    refine V_iload_n (i := 3) 1 dX3_restNow_46 rfl rfl ?_
    refine V_iconst (v := 3) dX3_restNow_47 (by decide) ?_
    obtain ⟨y2, S3, e4, h⟩ := bp_s h
    refine V_callM_v (n9 := 2) [] hm (v_X3_of l G hst hm _ e4) rfl rfl (lw_V q2106 q2108 qs34 q90 q2109) (by decide +kernel) (by decide) (Nat.le_of_ble_eq_true rfl) dX3_restNow_48 ?_
    refine V_iload_n (i := 2) 2 dX3_restNow_51 rfl rfl ?_
    refine V_icmp_le 64 dX3_restNow_52 (by decide) (fun c5 => ?_) (fun c5 => ?_)
    · replace h := it_t c5 h
      refine V_iload_n (i := 2) 2 dX3_restNow_64 rfl rfl ?_
      refine V_sub [1, 3, 4] rfl ?_
      exact v_X3_restNow_65 hst hm hk4 h
    · replace h := it_f c5 h
      refine V_aload_n (i := 0) 3 dX3_restNow_55 rfl rfl ?_
      refine V_iload_n (i := 3) 1 dX3_restNow_56 rfl rfl ?_
      refine V_iconst (v := 3) dX3_restNow_57 (by decide) ?_
      obtain ⟨y6, S7, e8, h⟩ := bp_s h
      refine V_callM_v (n9 := 2) [] hm (v_X3_of l G hst hm _ e8) rfl rfl (lw_V q2106 q2108 qs34 q90 q2109) (by decide +kernel) (by decide) (Nat.le_of_ble_eq_true rfl) dX3_restNow_58 ?_
      refine V_goto 65 dX3_restNow_61 (by decide) ?_
      refine V_sub [1, 3, 4] rfl ?_
      exact v_X3_restNow_65 hst hm hk4 h
  · replace h := it_f c1 h
    refine V_aload_n (i := 0) 3 dX3_restNow_24 rfl rfl ?_
    refine V_iload_n (i := 3) 1 dX3_restNow_25 rfl rfl ?_
    refine V_iconst (v := 3) dX3_restNow_26 (by decide) ?_
    refine V_aload_n (i := 0) 3 dX3_restNow_27 rfl rfl ?_
    refine V_iload_n (i := 3) 1 dX3_restNow_28 rfl rfl ?_
    refine V_iconst (v := 3) dX3_restNow_29 (by decide) ?_
    obtain ⟨y9, S10, e11, h⟩ := bp_s h
    refine V_callM_v (n9 := 2) [pI (3 : Int32), pI x3, pR (gmo G)] hm (v_X3_of l G hst hm _ e11) rfl rfl (lw_V q2106 q2108 qs34 q90 q2109) (by decide +kernel) (by decide) (Nat.le_of_ble_eq_true rfl) dX3_restNow_30 ?_
    obtain ⟨y12, e13, h⟩ := bd_s h
    refine V_callS_v (n9 := 1) [pI (3 : Int32), pI x3, pR (gmo G)] (v_X3_cooled l G hst _ _ e13) rfl rfl (lw_S q2145 q2146 q90 q2147) (by decide +kernel) (by decide) (Nat.le_of_ble_eq_true rfl) dX3_restNow_33 ?_
    obtain ⟨e14, S15, e16, h⟩ := bp_s h
    refine V_callM_0 (n9 := 3) [] hm (v_X3_put l G hst hm _ e16) rfl rfl (lw_V q2090 q2092 qs31 q90 q2093) (by decide +kernel) (by decide) (Nat.le_of_ble_eq_true rfl) dX3_restNow_36 ?_
    refine V_iinc (v := (x4 + (1 : Int32))) (L' := [(4, pI (x4 + (1 : Int32))), (3, pI x3), (2, pI x2), (0, pR (gmo G)), (1, pI x1)]) 0 dX3_restNow_39 rfl rfl (by decide) rfl ?_
    refine V_goto 18 dX3_restNow_42 (by decide) ?_
    refine V_sub [0, 1, 2, 3, 4] rfl ?_
    exact hk18 _ _ _ _ _ h
def f_X3_restNow_18 (k4 : Ms → Int32 → Int32 → Int32 → Option (Int32 × Ms)) : Nat → Ms → Int32 → Int32 → Int32 → Int32 → Option (Int32 × Ms)
  | 0, _, _, _, _, _ => none
  | n + 1, S, x4, x3, x2, x1 => f_X3_restNow_18_b k4 (f_X3_restNow_18 k4 n) S x4 x3 x2 x1
theorem v_X3_restNow_18 {l : Launch} {G : Gx} (hst : l.stackTraces = false) (hm : gmo G ≠ 0) {σ0 σe : Hp} {Se : Ms} {r : Int32} {k4 : Ms → Int32 → Int32 → Int32 → Option (Int32 × Ms)} (hk4 : ∀ (S : Ms) (x3 : Int32) (x2 : Int32) (x1 : Int32), k4 S x3 x2 x1 = some (r, Se) → VV_X3_restNow l G σ0 (.inl (some (pI r))) σe Se 4 [(3, pI x3), (2, pI x2), (0, pR (gmo G)), (1, pI x1)] [] σe S) : ∀ (n : Nat) (S : Ms) (x4 : Int32) (x3 : Int32) (x2 : Int32) (x1 : Int32), f_X3_restNow_18 k4 n S x4 x3 x2 x1 = some (r, Se) → VV_X3_restNow l G σ0 (.inl (some (pI r))) σe Se 18 [(4, pI x4), (3, pI x3), (2, pI x2), (0, pR (gmo G)), (1, pI x1)] [] σe S
  | 0, _, _, _, _, _, h => by cases h
  | n + 1, _, _, _, _, _, h => v_X3_restNow_18_b hst hm hk4 (v_X3_restNow_18 hst hm hk4 n) h
def f_X3_restNow_4_b (k4 : Ms → Int32 → Int32 → Int32 → Option (Int32 × Ms)) (S : Ms) (x3 : Int32) (x2 : Int32) (x1 : Int32) : Option (Int32 × Ms) :=
  bd (mrd S 0 149 (8 : Int32)) fun y1 => if y1 ≤ x3 then (bd (mrd S 0 149 (4 : Int32)) fun y4 => bd (mwr S 0 149 (4 : Int32) (y4 + x1)) fun S6 => some (x2, S6)) else (f_X3_restNow_18 k4 FU S (0 : Int32) x3 x2 x1)
set_option maxHeartbeats 4000000 in
theorem v_X3_restNow_4_b {l : Launch} {G : Gx} (hst : l.stackTraces = false) (hm : gmo G ≠ 0) {σ0 σe : Hp} {Se : Ms} {r : Int32} {k4 : Ms → Int32 → Int32 → Int32 → Option (Int32 × Ms)} (hk4 : ∀ (S : Ms) (x3 : Int32) (x2 : Int32) (x1 : Int32), k4 S x3 x2 x1 = some (r, Se) → VV_X3_restNow l G σ0 (.inl (some (pI r))) σe Se 4 [(3, pI x3), (2, pI x2), (0, pR (gmo G)), (1, pI x1)] [] σe S) {S : Ms} {x3 : Int32} {x2 : Int32} {x1 : Int32} (h : f_X3_restNow_4_b k4 S x3 x2 x1 = some (r, Se)) : VV_X3_restNow l G σ0 (.inl (some (pI r))) σe Se 4 [(3, pI x3), (2, pI x2), (0, pR (gmo G)), (1, pI x1)] [] σe S := by
  unfold f_X3_restNow_4_b at h
  refine V_iload_n (i := 3) 0 dX3_restNow_4 rfl rfl ?_
  refine V_aload_n (i := 0) 2 dX3_restNow_5 rfl rfl ?_
  refine V_mrdA hm gf_X3_7 (by decide) rfl dX3_restNow_6 ?_
  refine V_bipush (v := 8) dX3_restNow_9 (by decide) ?_
  obtain ⟨y1, e2, h⟩ := bd_s h
  refine V_mel hm e2 (by decide) rfl (by decide) dX3_restNow_11 ?_
  refine V_icmp_ge 72 dX3_restNow_12 (by decide) (fun c3 => ?_) (fun c3 => ?_)
  · replace h := it_t c3 h
    refine V_aload_n (i := 0) 2 dX3_restNow_72 rfl rfl ?_
    refine V_mrdA hm gf_X3_7 (by decide) rfl dX3_restNow_73 ?_
    refine V_iconst (v := 4) dX3_restNow_76 (by decide) ?_
    refine V_dup2 dX3_restNow_77 rfl rfl ?_
    obtain ⟨y4, e5, h⟩ := bd_s h
    refine V_mel hm e5 (by decide) rfl (by decide) dX3_restNow_78 ?_
    refine V_iload_n (i := 1) 3 dX3_restNow_79 rfl rfl ?_
    refine V_iadd dX3_restNow_80 ?_
    obtain ⟨S6, e7, h⟩ := bd_s h
    refine V_mst hm e7 (by decide) rfl (by decide) dX3_restNow_81 ?_
    refine V_iload_n (i := 2) 1 dX3_restNow_82 rfl rfl ?_
    cases h
    exact V_iret rfl dX3_restNow_83
  · replace h := it_f c3 h
    refine V_iconst (v := 0) dX3_restNow_15 (by decide) ?_
    refine V_istore (i := 4) (L' := [(4, pI (0 : Int32)), (3, pI x3), (2, pI x2), (0, pR (gmo G)), (1, pI x1)]) dX3_restNow_16 (by decide) rfl ?_
    refine V_sub [0, 1, 2, 3, 4] rfl ?_
    exact v_X3_restNow_18 hst hm hk4 FU _ _ _ _ _ h
def f_X3_restNow_4 : Nat → Ms → Int32 → Int32 → Int32 → Option (Int32 × Ms)
  | 0, _, _, _, _ => none
  | n + 1, S, x3, x2, x1 => f_X3_restNow_4_b (f_X3_restNow_4 n) S x3 x2 x1
theorem v_X3_restNow_4 {l : Launch} {G : Gx} (hst : l.stackTraces = false) (hm : gmo G ≠ 0) {σ0 σe : Hp} {Se : Ms} {r : Int32} : ∀ (n : Nat) (S : Ms) (x3 : Int32) (x2 : Int32) (x1 : Int32), f_X3_restNow_4 n S x3 x2 x1 = some (r, Se) → VV_X3_restNow l G σ0 (.inl (some (pI r))) σe Se 4 [(3, pI x3), (2, pI x2), (0, pR (gmo G)), (1, pI x1)] [] σe S
  | 0, _, _, _, _, h => by cases h
  | n + 1, _, _, _, _, h => v_X3_restNow_4_b hst hm (v_X3_restNow_4 hst hm n) h
def f_X3_restNow (S : Ms) (x1 : Int32) : Option (Int32 × Ms) :=
  f_X3_restNow_4 FU S (0 : Int32) (0 : Int32) x1
set_option maxHeartbeats 4000000 in
theorem v_X3_restNow (l : Launch) (G : Gx) (hst : l.stackTraces = false) (hm : gmo G ≠ 0) (σ : Hp) {S Se : Ms} {x1 : Int32} {r : Int32} (h : f_X3_restNow S x1 = some (r, Se)) : MT l G yX3_restNow (ws_ yX3_restNow cX3_restNow 5 (some .int)) 2 53 [pR (gmo G), pI x1] σ S (.inl (some (pI r))) σ Se := by
  refine MT_of (own := RX3) (nL := 5) (ini := false) (by decide +kernel) rfl (Nat.le_of_ble_eq_true rfl) (fun h => by cases h) hst ?_
  show VV_X3_restNow l G σ (.inl (some (pI r))) σ Se 0 [(0, pR (gmo G)), (1, pI x1)] [] σ S
  unfold f_X3_restNow at h
  refine V_iconst (v := 0) dX3_restNow_0 (by decide) ?_
  refine V_istore_n (i := 2) (L' := [(2, pI (0 : Int32)), (0, pR (gmo G)), (1, pI x1)]) dX3_restNow_1 rfl (by decide) rfl ?_
  refine V_iconst (v := 0) dX3_restNow_2 (by decide) ?_
  refine V_istore_n (i := 3) (L' := [(3, pI (0 : Int32)), (2, pI (0 : Int32)), (0, pR (gmo G)), (1, pI x1)]) dX3_restNow_3 rfl (by decide) rfl ?_
  refine V_sub [0, 1, 2, 3] rfl ?_
  exact v_X3_restNow_4 hst hm FU _ _ _ _ h

abbrev VV_X3_rest (l : Launch) (G : Gx) (σ0 : Hp) (o : Oc) (σe : Hp) (Se : Ms) := V l G RX3 cX3_rest 2 (some .int) [] false 3 77 σ0 o σe Se
def f_X3_rest (S : Ms) (x1 : Int32) : Option (Int32 × Ms) :=
  bd (f_X3_in x1 (1 : Int32) (60 : Int32)) fun y1 => if y1 = (0 : Int32) then (bp (f_X3_fails (sM S 5 (0 : Int32)) (1 : Int32)) fun y10 S11 => some (y10, S11)) else (bp (f_X3_save (sM S 5 (0 : Int32)) ) fun e4 S5 => bp (f_X3_restNow S5 x1) fun y7 S8 => some (y7, S8))
set_option maxHeartbeats 4000000 in
theorem v_X3_rest (l : Launch) (G : Gx) (hst : l.stackTraces = false) (hm : gmo G ≠ 0) (σ : Hp) {S Se : Ms} {x1 : Int32} {r : Int32} (h : f_X3_rest S x1 = some (r, Se)) : MT l G yX3_rest (ws_ yX3_rest cX3_rest 2 (some .int)) 3 77 [pR (gmo G), pI x1] σ S (.inl (some (pI r))) σ Se := by
  refine MT_of (own := RX3) (nL := 2) (ini := false) (by decide +kernel) rfl (Nat.le_of_ble_eq_true rfl) (fun h => by cases h) hst ?_
  show VV_X3_rest l G σ (.inl (some (pI r))) σ Se 0 [(0, pR (gmo G)), (1, pI x1)] [] σ S
  unfold f_X3_rest at h
  refine V_aload_n (i := 0) 0 dX3_rest_0 rfl rfl ?_
  refine V_iconst (v := 0) dX3_rest_1 (by decide) ?_
  refine V_mput hm gw_X3_38 (by decide) rfl dX3_rest_2 ?_
  refine V_iload_n (i := 1) 1 dX3_rest_5 rfl rfl ?_
  refine V_iconst (v := 1) dX3_rest_6 (by decide) ?_
  refine V_bipush (v := 60) dX3_rest_7 (by decide) ?_
  obtain ⟨y1, e2, h⟩ := bd_s h
  refine V_callS_v (n9 := 3) [] (v_X3_in l G hst _ _ e2) rfl rfl (lw_S q2070 q2071 q90 q2072) (by decide +kernel) (by decide) (Nat.le_of_ble_eq_true rfl) dX3_rest_9 ?_
  refine V_if_ne 21 dX3_rest_12 (by decide) (fun c3 => ?_) (fun c3 => ?_)
  · replace h := it_f c3 h
    refine V_aload_n (i := 0) 0 dX3_rest_21 rfl rfl ?_
    obtain ⟨e4, S5, e6, h⟩ := bp_s h
    refine V_callM_0 (n9 := 0) [] hm (v_X3_save l G hst hm _ e6) rfl rfl (lw_V q2077 q2079 qs29 q90 q2080) (by decide +kernel) (by decide) (Nat.le_of_ble_eq_true rfl) dX3_rest_22 ?_
    refine V_aload_n (i := 0) 0 dX3_rest_25 rfl rfl ?_
    refine V_iload_n (i := 1) 1 dX3_rest_26 rfl rfl ?_
    obtain ⟨y7, S8, e9, h⟩ := bp_s h
    refine V_callM_v (n9 := 1) [] hm (v_X3_restNow l G hst hm _ e9) rfl rfl (lw_V q2141 q2143 qs39 q90 q2144) (by decide +kernel) (by decide) (Nat.le_of_ble_eq_true rfl) dX3_rest_27 ?_
    cases h
    exact V_iret rfl dX3_rest_30
  · replace h := it_t c3 h
    refine V_aload_n (i := 0) 0 dX3_rest_15 rfl rfl ?_
    refine V_iconst (v := 1) dX3_rest_16 (by decide) ?_
    obtain ⟨y10, S11, e12, h⟩ := bp_s h
    refine V_callM_v (n9 := 1) [] hm (v_X3_fails l G hst hm _ e12) rfl rfl (lw_V q2062 q2064 qs28 q90 q2065) (by decide +kernel) (by decide) (Nat.le_of_ble_eq_true rfl) dX3_rest_17 ?_
    cases h
    exact V_iret rfl dX3_rest_20

abbrev VV_X3_maySet (l : Launch) (G : Gx) (σ0 : Hp) (o : Oc) (σe : Hp) (Se : Ms) := V l G RX3 cX3_maySet 2 (some .boolean) [] false 2 52 σ0 o σe Se
def f_X3_maySet (x0 : Int32) (x1 : Int32) : Option Int32 :=
  if x0 = (0 : Int32) then (bd (f_X3_in x1 (0 : Int32) (60 : Int32)) fun y2 => bd (okZ y2) fun e4 => some y2) else (if x0 = (1 : Int32) then (bd (f_X3_in x1 (0 : Int32) (1000 : Int32)) fun y7 => bd (okZ y7) fun e9 => some y7) else (if x0 = (2 : Int32) then (bd (f_X3_in x1 (0 : Int32) (20 : Int32)) fun y12 => bd (okZ y12) fun e14 => some y12) else (bd (f_X3_in x1 (0 : Int32) (200 : Int32)) fun y16 => bd (okZ y16) fun e18 => some y16)))
set_option maxHeartbeats 4000000 in
theorem v_X3_maySet (l : Launch) (G : Gx) (hst : l.stackTraces = false) (σ : Hp) (S : Ms) {x0 : Int32} {x1 : Int32} {r : Int32} (h : f_X3_maySet x0 x1 = some r) : MT l G yX3_maySet (ws_ yX3_maySet cX3_maySet 2 (some .boolean)) 2 52 [pI x0, pI x1] σ S (.inl (some (pI r))) σ S := by
  refine MT_of (own := RX3) (nL := 2) (ini := false) (by decide +kernel) rfl (Nat.le_of_ble_eq_true rfl) (fun h => by cases h) hst ?_
  show VV_X3_maySet l G σ (.inl (some (pI r))) σ S 0 [(0, pI x0), (1, pI x1)] [] σ S
  unfold f_X3_maySet at h
  refine V_iload_n (i := 0) 0 dX3_maySet_0 rfl rfl ?_
  by_cases c1 : x0 = (0 : Int32)
  · replace h := it_t c1 h
    refine V_tableIn 28 dX3_maySet_1 (by rw [c1]; decide) (by rw [c1]; decide) (by rw [c1]; first | done | rfl) (by decide) ?_
    refine V_iload_n (i := 1) 1 dX3_maySet_28 rfl rfl ?_
    refine V_iconst (v := 0) dX3_maySet_29 (by decide) ?_
    refine V_bipush (v := 60) dX3_maySet_30 (by decide) ?_
    obtain ⟨y2, e3, h⟩ := bd_s h
    refine V_callS_v (n9 := 3) [] (v_X3_in l G hst _ _ e3) rfl rfl (lw_S q2070 q2071 q90 q2072) (by decide +kernel) (by decide) (Nat.le_of_ble_eq_true rfl) dX3_maySet_32 ?_
    obtain ⟨e4, e5, h⟩ := bd_s h
    cases h
    exact V_retZ e5 rfl dX3_maySet_35
  · replace h := it_f c1 h
    by_cases c6 : x0 = (1 : Int32)
    · replace h := it_t c6 h
      refine V_tableIn 36 dX3_maySet_1 (by rw [c6]; decide) (by rw [c6]; decide) (by rw [c6]; first | done | rfl) (by decide) ?_
      refine V_iload_n (i := 1) 1 dX3_maySet_36 rfl rfl ?_
      refine V_iconst (v := 0) dX3_maySet_37 (by decide) ?_
      refine V_sipush (v := 1000) dX3_maySet_38 (by decide) ?_
      obtain ⟨y7, e8, h⟩ := bd_s h
      refine V_callS_v (n9 := 3) [] (v_X3_in l G hst _ _ e8) rfl rfl (lw_S q2070 q2071 q90 q2072) (by decide +kernel) (by decide) (Nat.le_of_ble_eq_true rfl) dX3_maySet_41 ?_
      obtain ⟨e9, e10, h⟩ := bd_s h
      cases h
      exact V_retZ e10 rfl dX3_maySet_44
    · replace h := it_f c6 h
      by_cases c11 : x0 = (2 : Int32)
      · replace h := it_t c11 h
        refine V_tableIn 45 dX3_maySet_1 (by rw [c11]; decide) (by rw [c11]; decide) (by rw [c11]; first | done | rfl) (by decide) ?_
        refine V_iload_n (i := 1) 1 dX3_maySet_45 rfl rfl ?_
        refine V_iconst (v := 0) dX3_maySet_46 (by decide) ?_
        refine V_bipush (v := 20) dX3_maySet_47 (by decide) ?_
        obtain ⟨y12, e13, h⟩ := bd_s h
        refine V_callS_v (n9 := 3) [] (v_X3_in l G hst _ _ e13) rfl rfl (lw_S q2070 q2071 q90 q2072) (by decide +kernel) (by decide) (Nat.le_of_ble_eq_true rfl) dX3_maySet_49 ?_
        obtain ⟨e14, e15, h⟩ := bd_s h
        cases h
        exact V_retZ e15 rfl dX3_maySet_52
      · replace h := it_f c11 h
        refine V_tableOut 53 dX3_maySet_1 (by have z0 := ne_int (a := 0) c1 (by decide); have z1 := ne_int (a := 1) c6 (by decide); have z2 := ne_int (a := 2) c11 (by decide); omega) (by decide) ?_
        refine V_iload_n (i := 1) 1 dX3_maySet_53 rfl rfl ?_
        refine V_iconst (v := 0) dX3_maySet_54 (by decide) ?_
        refine V_sipush (v := 200) dX3_maySet_55 (by decide) ?_
        obtain ⟨y16, e17, h⟩ := bd_s h
        refine V_callS_v (n9 := 3) [] (v_X3_in l G hst _ _ e17) rfl rfl (lw_S q2070 q2071 q90 q2072) (by decide +kernel) (by decide) (Nat.le_of_ble_eq_true rfl) dX3_maySet_58 ?_
        obtain ⟨e18, e19, h⟩ := bd_s h
        cases h
        exact V_retZ e19 rfl dX3_maySet_61

abbrev VV_X3_set (l : Launch) (G : Gx) (σ0 : Hp) (o : Oc) (σe : Hp) (Se : Ms) := V l G RX3 cX3_set 4 (some .int) [] false 3 73 σ0 o σe Se
def f_X3_set (S : Ms) (x1 : Int32) (x2 : Int32) : Option (Int32 × Ms) :=
  bd (f_X3_in x1 (0 : Int32) (3 : Int32)) fun y1 => if y1 = (0 : Int32) then (bp (f_X3_fails (sM S 5 (0 : Int32)) (1 : Int32)) fun y17 S18 => some (y17, S18)) else (bd (f_X3_maySet x1 x2) fun y4 => if y4 = (0 : Int32) then (bp (f_X3_fails (sM S 5 (0 : Int32)) (2 : Int32)) fun y14 S15 => some (y14, S15)) else (bp (f_X3_save (sM S 5 (0 : Int32)) ) fun e7 S8 => bd (mrd S8 0 149 x1) fun y10 => bd (mwr S8 0 149 x1 x2) fun S12 => some (y10, S12)))
set_option maxHeartbeats 4000000 in
theorem v_X3_set (l : Launch) (G : Gx) (hst : l.stackTraces = false) (hm : gmo G ≠ 0) (σ : Hp) {S Se : Ms} {x1 : Int32} {x2 : Int32} {r : Int32} (h : f_X3_set S x1 x2 = some (r, Se)) : MT l G yX3_set (ws_ yX3_set cX3_set 4 (some .int)) 3 73 [pR (gmo G), pI x1, pI x2] σ S (.inl (some (pI r))) σ Se := by
  refine MT_of (own := RX3) (nL := 4) (ini := false) (by decide +kernel) rfl (Nat.le_of_ble_eq_true rfl) (fun h => by cases h) hst ?_
  show VV_X3_set l G σ (.inl (some (pI r))) σ Se 0 [(0, pR (gmo G)), (1, pI x1), (2, pI x2)] [] σ S
  unfold f_X3_set at h
  refine V_aload_n (i := 0) 0 dX3_set_0 rfl rfl ?_
  refine V_iconst (v := 0) dX3_set_1 (by decide) ?_
  refine V_mput hm gw_X3_38 (by decide) rfl dX3_set_2 ?_
  refine V_iload_n (i := 1) 1 dX3_set_5 rfl rfl ?_
  refine V_iconst (v := 0) dX3_set_6 (by decide) ?_
  refine V_iconst (v := 3) dX3_set_7 (by decide) ?_
  obtain ⟨y1, e2, h⟩ := bd_s h
  refine V_callS_v (n9 := 3) [] (v_X3_in l G hst _ _ e2) rfl rfl (lw_S q2070 q2071 q90 q2072) (by decide +kernel) (by decide) (Nat.le_of_ble_eq_true rfl) dX3_set_8 ?_
  refine V_if_ne 20 dX3_set_11 (by decide) (fun c3 => ?_) (fun c3 => ?_)
  · replace h := it_f c3 h
    refine V_iload_n (i := 1) 1 dX3_set_20 rfl rfl ?_
    refine V_iload_n (i := 2) 2 dX3_set_21 rfl rfl ?_
    obtain ⟨y4, e5, h⟩ := bd_s h
    refine V_callS_v (n9 := 2) [] (v_X3_maySet l G hst _ _ e5) rfl rfl (lw_S q2152 q2153 q90 q2154) (by decide +kernel) (by decide) (Nat.le_of_ble_eq_true rfl) dX3_set_22 ?_
    refine V_if_ne 34 dX3_set_25 (by decide) (fun c6 => ?_) (fun c6 => ?_)
    · replace h := it_f c6 h
      refine V_aload_n (i := 0) 0 dX3_set_34 rfl rfl ?_
      obtain ⟨e7, S8, e9, h⟩ := bp_s h
      refine V_callM_0 (n9 := 0) [] hm (v_X3_save l G hst hm _ e9) rfl rfl (lw_V q2077 q2079 qs29 q90 q2080) (by decide +kernel) (by decide) (Nat.le_of_ble_eq_true rfl) dX3_set_35 ?_
      refine V_aload_n (i := 0) 0 dX3_set_38 rfl rfl ?_
      refine V_mrdA hm gf_X3_7 (by decide) rfl dX3_set_39 ?_
      refine V_iload_n (i := 1) 1 dX3_set_42 rfl rfl ?_
      obtain ⟨y10, e11, h⟩ := bd_s h
      refine V_mel hm e11 (by decide) rfl (by decide) dX3_set_43 ?_
      refine V_istore_n (i := 3) (L' := [(3, pI y10), (0, pR (gmo G)), (1, pI x1), (2, pI x2)]) dX3_set_44 rfl (by decide) rfl ?_
      refine V_aload_n (i := 0) 1 dX3_set_45 rfl rfl ?_
      refine V_mrdA hm gf_X3_7 (by decide) rfl dX3_set_46 ?_
      refine V_iload_n (i := 1) 2 dX3_set_49 rfl rfl ?_
      refine V_iload_n (i := 2) 3 dX3_set_50 rfl rfl ?_
      obtain ⟨S12, e13, h⟩ := bd_s h
      refine V_mst hm e13 (by decide) rfl (by decide) dX3_set_51 ?_
      refine V_iload_n (i := 3) 0 dX3_set_52 rfl rfl ?_
      cases h
      exact V_iret rfl dX3_set_53
    · replace h := it_t c6 h
      refine V_aload_n (i := 0) 0 dX3_set_28 rfl rfl ?_
      refine V_iconst (v := 2) dX3_set_29 (by decide) ?_
      obtain ⟨y14, S15, e16, h⟩ := bp_s h
      refine V_callM_v (n9 := 1) [] hm (v_X3_fails l G hst hm _ e16) rfl rfl (lw_V q2062 q2064 qs28 q90 q2065) (by decide +kernel) (by decide) (Nat.le_of_ble_eq_true rfl) dX3_set_30 ?_
      cases h
      exact V_iret rfl dX3_set_33
  · replace h := it_t c3 h
    refine V_aload_n (i := 0) 0 dX3_set_14 rfl rfl ?_
    refine V_iconst (v := 1) dX3_set_15 (by decide) ?_
    obtain ⟨y17, S18, e19, h⟩ := bp_s h
    refine V_callM_v (n9 := 1) [] hm (v_X3_fails l G hst hm _ e19) rfl rfl (lw_V q2062 q2064 qs28 q90 q2065) (by decide +kernel) (by decide) (Nat.le_of_ble_eq_true rfl) dX3_set_16 ?_
    cases h
    exact V_iret rfl dX3_set_19

abbrev VV_X3_isStack (l : Launch) (G : Gx) (σ0 : Hp) (o : Oc) (σe : Hp) (Se : Ms) := V l G RX3 cX3_isStack 1 (some .boolean) [] false 2 52 σ0 o σe Se
def f_X3_isStack (x0 : Int32) : Option Int32 :=
  bd (f_X3_in x0 (0 : Int32) (2 : Int32)) fun y1 => bd (okZ y1) fun e3 => some y1
set_option maxHeartbeats 4000000 in
theorem v_X3_isStack (l : Launch) (G : Gx) (hst : l.stackTraces = false) (σ : Hp) (S : Ms) {x0 : Int32} {r : Int32} (h : f_X3_isStack x0 = some r) : MT l G yX3_isStack (ws_ yX3_isStack cX3_isStack 1 (some .boolean)) 2 52 [pI x0] σ S (.inl (some (pI r))) σ S := by
  refine MT_of (own := RX3) (nL := 1) (ini := false) (by decide +kernel) rfl (Nat.le_of_ble_eq_true rfl) (fun h => by cases h) hst ?_
  show VV_X3_isStack l G σ (.inl (some (pI r))) σ S 0 [(0, pI x0)] [] σ S
  unfold f_X3_isStack at h
  refine V_iload_n (i := 0) 0 dX3_isStack_0 rfl rfl ?_
  refine V_iconst (v := 0) dX3_isStack_1 (by decide) ?_
  refine V_iconst (v := 2) dX3_isStack_2 (by decide) ?_
  obtain ⟨y1, e2, h⟩ := bd_s h
  refine V_callS_v (n9 := 3) [] (v_X3_in l G hst _ _ e2) rfl rfl (lw_S q2070 q2071 q90 q2072) (by decide +kernel) (by decide) (Nat.le_of_ble_eq_true rfl) dX3_isStack_3 ?_
  obtain ⟨e3, e4, h⟩ := bd_s h
  cases h
  exact V_retZ e4 rfl dX3_isStack_6

abbrev VV_X3_height (l : Launch) (G : Gx) (σ0 : Hp) (o : Oc) (σe : Hp) (Se : Ms) := V l G RX3 cX3_height 4 (some .int) [] false 2 52 σ0 o σe Se
def f_X3_height_31 (k4 : Ms → Int32 → Int32 → Int32 → Option (Int32 × Ms)) (S : Ms) (x3 : Int32) (x1 : Int32) (s0 : Int32) (s1 : Int32) : Option (Int32 × Ms) :=
  k4 S (x3 + (1 : Int32)) (s1 + s0) x1
set_option maxHeartbeats 4000000 in
theorem v_X3_height_31 {l : Launch} {G : Gx} (hst : l.stackTraces = false) (hm : gmo G ≠ 0) {σ0 σe : Hp} {Se : Ms} {r : Int32} {k4 : Ms → Int32 → Int32 → Int32 → Option (Int32 × Ms)} (hk4 : ∀ (S : Ms) (x3 : Int32) (x2 : Int32) (x1 : Int32), k4 S x3 x2 x1 = some (r, Se) → VV_X3_height l G σ0 (.inl (some (pI r))) σe Se 4 [(3, pI x3), (2, pI x2), (0, pR (gmo G)), (1, pI x1)] [] σe S) {S : Ms} {x3 : Int32} {x1 : Int32} {s0 : Int32} {s1 : Int32} (h : f_X3_height_31 k4 S x3 x1 s0 s1 = some (r, Se)) : VV_X3_height l G σ0 (.inl (some (pI r))) σe Se 31 [(3, pI x3), (0, pR (gmo G)), (1, pI x1)] [pI s0, pI s1] σe S := by
  unfold f_X3_height_31 at h
  refine V_iadd dX3_height_31 ?_
  refine V_istore_n (i := 2) (L' := [(2, pI (s1 + s0)), (3, pI x3), (0, pR (gmo G)), (1, pI x1)]) dX3_height_32 rfl (by decide) rfl ?_
  refine V_iinc (v := (x3 + (1 : Int32))) (L' := [(3, pI (x3 + (1 : Int32))), (2, pI (s1 + s0)), (0, pR (gmo G)), (1, pI x1)]) 1 dX3_height_33 rfl rfl (by decide) rfl ?_
  refine V_goto 4 dX3_height_36 (by decide) ?_
  refine V_sub [0, 1, 2, 3] rfl ?_
  exact hk4 _ _ _ _ h
def f_X3_height_4_b (k4 : Ms → Int32 → Int32 → Int32 → Option (Int32 × Ms)) (S : Ms) (x3 : Int32) (x2 : Int32) (x1 : Int32) : Option (Int32 × Ms) :=
  bd (mrd S 0 149 (8 : Int32)) fun y1 => if y1 ≤ x3 then (some (x2, S)) else (bp (f_X3_of S x3 (4 : Int32)) fun y4 S5 => if y4 = x1 then (f_X3_height_31 k4 S5 x3 x1 (1 : Int32) x2) else (f_X3_height_31 k4 S5 x3 x1 (0 : Int32) x2))
set_option maxHeartbeats 4000000 in
theorem v_X3_height_4_b {l : Launch} {G : Gx} (hst : l.stackTraces = false) (hm : gmo G ≠ 0) {σ0 σe : Hp} {Se : Ms} {r : Int32} {k4 : Ms → Int32 → Int32 → Int32 → Option (Int32 × Ms)} (hk4 : ∀ (S : Ms) (x3 : Int32) (x2 : Int32) (x1 : Int32), k4 S x3 x2 x1 = some (r, Se) → VV_X3_height l G σ0 (.inl (some (pI r))) σe Se 4 [(3, pI x3), (2, pI x2), (0, pR (gmo G)), (1, pI x1)] [] σe S) {S : Ms} {x3 : Int32} {x2 : Int32} {x1 : Int32} (h : f_X3_height_4_b k4 S x3 x2 x1 = some (r, Se)) : VV_X3_height l G σ0 (.inl (some (pI r))) σe Se 4 [(3, pI x3), (2, pI x2), (0, pR (gmo G)), (1, pI x1)] [] σe S := by
  unfold f_X3_height_4_b at h
  refine V_iload_n (i := 3) 0 dX3_height_4 rfl rfl ?_
  refine V_aload_n (i := 0) 2 dX3_height_5 rfl rfl ?_
  refine V_mrdA hm gf_X3_7 (by decide) rfl dX3_height_6 ?_
  refine V_bipush (v := 8) dX3_height_9 (by decide) ?_
  obtain ⟨y1, e2, h⟩ := bd_s h
  refine V_mel hm e2 (by decide) rfl (by decide) dX3_height_11 ?_
  refine V_icmp_ge 39 dX3_height_12 (by decide) (fun c3 => ?_) (fun c3 => ?_)
  · replace h := it_t c3 h
    refine V_iload_n (i := 2) 1 dX3_height_39 rfl rfl ?_
    cases h
    exact V_iret rfl dX3_height_40
  · replace h := it_f c3 h
    refine V_iload_n (i := 2) 1 dX3_height_15 rfl rfl ?_
    refine V_aload_n (i := 0) 2 dX3_height_16 rfl rfl ?_
    refine V_iload_n (i := 3) 0 dX3_height_17 rfl rfl ?_
    refine V_iconst (v := 4) dX3_height_18 (by decide) ?_
    obtain ⟨y4, S5, e6, h⟩ := bp_s h
    refine V_callM_v (n9 := 2) [pI x2] hm (v_X3_of l G hst hm _ e6) rfl rfl (lw_V q2106 q2108 qs34 q90 q2109) (by decide +kernel) (by decide) (Nat.le_of_ble_eq_true rfl) dX3_height_19 ?_
    refine V_iload_n (i := 1) 3 dX3_height_22 rfl rfl ?_
    refine V_icmp_ne 30 dX3_height_23 (by decide) (fun c7 => ?_) (fun c7 => ?_)
    · replace h := it_f c7 h
      refine V_iconst (v := 0) dX3_height_30 (by decide) ?_
      refine V_sub [0, 2, 3] rfl ?_
      exact v_X3_height_31 hst hm hk4 h
    · replace h := it_t c7 h
      refine V_iconst (v := 1) dX3_height_26 (by decide) ?_
      refine V_goto 31 dX3_height_27 (by decide) ?_
      refine V_sub [0, 2, 3] rfl ?_
      exact v_X3_height_31 hst hm hk4 h
def f_X3_height_4 : Nat → Ms → Int32 → Int32 → Int32 → Option (Int32 × Ms)
  | 0, _, _, _, _ => none
  | n + 1, S, x3, x2, x1 => f_X3_height_4_b (f_X3_height_4 n) S x3 x2 x1
theorem v_X3_height_4 {l : Launch} {G : Gx} (hst : l.stackTraces = false) (hm : gmo G ≠ 0) {σ0 σe : Hp} {Se : Ms} {r : Int32} : ∀ (n : Nat) (S : Ms) (x3 : Int32) (x2 : Int32) (x1 : Int32), f_X3_height_4 n S x3 x2 x1 = some (r, Se) → VV_X3_height l G σ0 (.inl (some (pI r))) σe Se 4 [(3, pI x3), (2, pI x2), (0, pR (gmo G)), (1, pI x1)] [] σe S
  | 0, _, _, _, _, h => by cases h
  | n + 1, _, _, _, _, h => v_X3_height_4_b hst hm (v_X3_height_4 hst hm n) h
def f_X3_height (S : Ms) (x1 : Int32) : Option (Int32 × Ms) :=
  f_X3_height_4 FU S (0 : Int32) (0 : Int32) x1
set_option maxHeartbeats 4000000 in
theorem v_X3_height (l : Launch) (G : Gx) (hst : l.stackTraces = false) (hm : gmo G ≠ 0) (σ : Hp) {S Se : Ms} {x1 : Int32} {r : Int32} (h : f_X3_height S x1 = some (r, Se)) : MT l G yX3_height (ws_ yX3_height cX3_height 4 (some .int)) 2 52 [pR (gmo G), pI x1] σ S (.inl (some (pI r))) σ Se := by
  refine MT_of (own := RX3) (nL := 4) (ini := false) (by decide +kernel) rfl (Nat.le_of_ble_eq_true rfl) (fun h => by cases h) hst ?_
  show VV_X3_height l G σ (.inl (some (pI r))) σ Se 0 [(0, pR (gmo G)), (1, pI x1)] [] σ S
  unfold f_X3_height at h
  refine V_iconst (v := 0) dX3_height_0 (by decide) ?_
  refine V_istore_n (i := 2) (L' := [(2, pI (0 : Int32)), (0, pR (gmo G)), (1, pI x1)]) dX3_height_1 rfl (by decide) rfl ?_
  refine V_iconst (v := 0) dX3_height_2 (by decide) ?_
  refine V_istore_n (i := 3) (L' := [(3, pI (0 : Int32)), (2, pI (0 : Int32)), (0, pR (gmo G)), (1, pI x1)]) dX3_height_3 rfl (by decide) rfl ?_
  refine V_sub [0, 1, 2, 3] rfl ?_
  exact v_X3_height_4 hst hm FU _ _ _ _ h

abbrev VV_X3_reason (l : Launch) (G : Gx) (σ0 : Hp) (o : Oc) (σe : Hp) (Se : Ms) := V l G RX3 cX3_reason 3 (some .int) [] false 4 95 σ0 o σe Se
def f_X3_reason_55 (S : Ms) (s0 : Int32) : Option (Int32 × Ms) :=
  some (s0, S)
set_option maxHeartbeats 4000000 in
theorem v_X3_reason_55 {l : Launch} {G : Gx} (hst : l.stackTraces = false) (hm : gmo G ≠ 0) {σ0 σe : Hp} {Se : Ms} {r : Int32} {S : Ms} {s0 : Int32} (h : f_X3_reason_55 S s0 = some (r, Se)) : VV_X3_reason l G σ0 (.inl (some (pI r))) σe Se 55 [] [pI s0] σe S := by
  unfold f_X3_reason_55 at h
  cases h
  exact V_iret rfl dX3_reason_55
def f_X3_reason (S : Ms) (x1 : Int32) (x2 : Int32) : Option (Int32 × Ms) :=
  bp (f_X3_isFree S x2) fun y1 S2 => if y1 = (0 : Int32) then (some ((1 : Int32), S2)) else (bp (f_X3_height S2 x1) fun y5 S6 => if y5 = (6 : Int32) then (some ((2 : Int32), S6)) else (bp (f_X3_of S6 x2 (3 : Int32)) fun y9 S10 => bd (mrd S10 0 149 (1 : Int32)) fun y12 => if y9 ≤ y12 then (bp (f_X3_grade S10 x2) fun y15 S16 => if y15 = (3 : Int32) then (f_X3_reason_55 S16 (4 : Int32)) else (f_X3_reason_55 S16 (0 : Int32))) else (f_X3_reason_55 S10 (3 : Int32))))
set_option maxHeartbeats 4000000 in
theorem v_X3_reason (l : Launch) (G : Gx) (hst : l.stackTraces = false) (hm : gmo G ≠ 0) (σ : Hp) {S Se : Ms} {x1 : Int32} {x2 : Int32} {r : Int32} (h : f_X3_reason S x1 x2 = some (r, Se)) : MT l G yX3_reason (ws_ yX3_reason cX3_reason 3 (some .int)) 4 95 [pR (gmo G), pI x1, pI x2] σ S (.inl (some (pI r))) σ Se := by
  refine MT_of (own := RX3) (nL := 3) (ini := false) (by decide +kernel) rfl (Nat.le_of_ble_eq_true rfl) (fun h => by cases h) hst ?_
  show VV_X3_reason l G σ (.inl (some (pI r))) σ Se 0 [(0, pR (gmo G)), (1, pI x1), (2, pI x2)] [] σ S
  unfold f_X3_reason at h
  refine V_aload_n (i := 0) 0 dX3_reason_0 rfl rfl ?_
  refine V_iload_n (i := 2) 2 dX3_reason_1 rfl rfl ?_
  obtain ⟨y1, S2, e3, h⟩ := bp_s h
  refine V_callM_v (n9 := 1) [] hm (v_X3_isFree l G hst hm _ e3) rfl rfl (lw_V q2102 q2104 qs33 q90 q2105) (by decide +kernel) (by decide) (Nat.le_of_ble_eq_true rfl) dX3_reason_2 ?_
  refine V_if_ne 10 dX3_reason_5 (by decide) (fun c4 => ?_) (fun c4 => ?_)
  · replace h := it_f c4 h
    refine V_aload_n (i := 0) 0 dX3_reason_10 rfl rfl ?_
    refine V_iload_n (i := 1) 1 dX3_reason_11 rfl rfl ?_
    obtain ⟨y5, S6, e7, h⟩ := bp_s h
    refine V_callM_v (n9 := 1) [] hm (v_X3_height l G hst hm _ e7) rfl rfl (lw_V q2170 q2172 qs42 q90 q2173) (by decide +kernel) (by decide) (Nat.le_of_ble_eq_true rfl) dX3_reason_12 ?_
    refine V_bipush (v := 6) dX3_reason_15 (by decide) ?_
    refine V_icmp_ne 22 dX3_reason_17 (by decide) (fun c8 => ?_) (fun c8 => ?_)
    · replace h := it_f c8 h
      refine V_aload_n (i := 0) 0 dX3_reason_22 rfl rfl ?_
      refine V_iload_n (i := 2) 2 dX3_reason_23 rfl rfl ?_
      refine V_iconst (v := 3) dX3_reason_24 (by decide) ?_
      obtain ⟨y9, S10, e11, h⟩ := bp_s h
      refine V_callM_v (n9 := 2) [] hm (v_X3_of l G hst hm _ e11) rfl rfl (lw_V q2106 q2108 qs34 q90 q2109) (by decide +kernel) (by decide) (Nat.le_of_ble_eq_true rfl) dX3_reason_25 ?_
      refine V_aload_n (i := 0) 0 dX3_reason_28 rfl rfl ?_
      refine V_mrdA hm gf_X3_7 (by decide) rfl dX3_reason_29 ?_
      refine V_iconst (v := 1) dX3_reason_32 (by decide) ?_
      obtain ⟨y12, e13, h⟩ := bd_s h
      refine V_mel hm e13 (by decide) rfl (by decide) dX3_reason_33 ?_
      refine V_icmp_le 41 dX3_reason_34 (by decide) (fun c14 => ?_) (fun c14 => ?_)
      · replace h := it_t c14 h
        refine V_aload_n (i := 0) 0 dX3_reason_41 rfl rfl ?_
        refine V_iload_n (i := 2) 2 dX3_reason_42 rfl rfl ?_
        obtain ⟨y15, S16, e17, h⟩ := bp_s h
        refine V_callM_v (n9 := 1) [] hm (v_X3_grade l G hst hm _ e17) rfl rfl (lw_V q2118 q2120 qs36 q90 q2121) (by decide +kernel) (by decide) (Nat.le_of_ble_eq_true rfl) dX3_reason_43 ?_
        refine V_iconst (v := 3) dX3_reason_46 (by decide) ?_
        refine V_icmp_ne 54 dX3_reason_47 (by decide) (fun c18 => ?_) (fun c18 => ?_)
        · replace h := it_f c18 h
          refine V_iconst (v := 0) dX3_reason_54 (by decide) ?_
          refine V_sub [] rfl ?_
          exact v_X3_reason_55 hst hm h
        · replace h := it_t c18 h
          refine V_iconst (v := 4) dX3_reason_50 (by decide) ?_
          refine V_goto 55 dX3_reason_51 (by decide) ?_
          refine V_sub [] rfl ?_
          exact v_X3_reason_55 hst hm h
      · replace h := it_f c14 h
        refine V_iconst (v := 3) dX3_reason_37 (by decide) ?_
        refine V_goto 55 dX3_reason_38 (by decide) ?_
        refine V_sub [] rfl ?_
        exact v_X3_reason_55 hst hm h
    · replace h := it_t c8 h
      refine V_iconst (v := 2) dX3_reason_20 (by decide) ?_
      cases h
      exact V_iret rfl dX3_reason_21
  · replace h := it_t c4 h
    refine V_iconst (v := 1) dX3_reason_8 (by decide) ?_
    cases h
    exact V_iret rfl dX3_reason_9

abbrev VV_X3_blockAt (l : Launch) (G : Gx) (σ0 : Hp) (o : Oc) (σe : Hp) (Se : Ms) := V l G RX3 cX3_blockAt 5 (some .int) [] false 2 52 σ0 o σe Se
def f_X3_blockAt_45 (k5 : Ms → Int32 → Int32 → Int32 → Int32 → Option (Int32 × Ms)) (S : Ms) (x4 : Int32) (x1 : Int32) (x2 : Int32) (s0 : Int32) : Option (Int32 × Ms) :=
  k5 S (x4 + (1 : Int32)) s0 x1 x2
set_option maxHeartbeats 4000000 in
theorem v_X3_blockAt_45 {l : Launch} {G : Gx} (hst : l.stackTraces = false) (hm : gmo G ≠ 0) {σ0 σe : Hp} {Se : Ms} {r : Int32} {k5 : Ms → Int32 → Int32 → Int32 → Int32 → Option (Int32 × Ms)} (hk5 : ∀ (S : Ms) (x4 : Int32) (x3 : Int32) (x1 : Int32) (x2 : Int32), k5 S x4 x3 x1 x2 = some (r, Se) → VV_X3_blockAt l G σ0 (.inl (some (pI r))) σe Se 5 [(4, pI x4), (3, pI x3), (0, pR (gmo G)), (1, pI x1), (2, pI x2)] [] σe S) {S : Ms} {x4 : Int32} {x1 : Int32} {x2 : Int32} {s0 : Int32} (h : f_X3_blockAt_45 k5 S x4 x1 x2 s0 = some (r, Se)) : VV_X3_blockAt l G σ0 (.inl (some (pI r))) σe Se 45 [(4, pI x4), (0, pR (gmo G)), (1, pI x1), (2, pI x2)] [pI s0] σe S := by
  unfold f_X3_blockAt_45 at h
  refine V_istore_n (i := 3) (L' := [(3, pI s0), (4, pI x4), (0, pR (gmo G)), (1, pI x1), (2, pI x2)]) dX3_blockAt_45 rfl (by decide) rfl ?_
  refine V_iinc (v := (x4 + (1 : Int32))) (L' := [(4, pI (x4 + (1 : Int32))), (3, pI s0), (0, pR (gmo G)), (1, pI x1), (2, pI x2)]) 1 dX3_blockAt_46 rfl rfl (by decide) rfl ?_
  refine V_goto 5 dX3_blockAt_49 (by decide) ?_
  refine V_sub [0, 1, 2, 3, 4] rfl ?_
  exact hk5 _ _ _ _ _ h
def f_X3_blockAt_44 (k5 : Ms → Int32 → Int32 → Int32 → Int32 → Option (Int32 × Ms)) (S : Ms) (x4 : Int32) (x3 : Int32) (x1 : Int32) (x2 : Int32) : Option (Int32 × Ms) :=
  f_X3_blockAt_45 k5 S x4 x1 x2 x3
set_option maxHeartbeats 4000000 in
theorem v_X3_blockAt_44 {l : Launch} {G : Gx} (hst : l.stackTraces = false) (hm : gmo G ≠ 0) {σ0 σe : Hp} {Se : Ms} {r : Int32} {k5 : Ms → Int32 → Int32 → Int32 → Int32 → Option (Int32 × Ms)} (hk5 : ∀ (S : Ms) (x4 : Int32) (x3 : Int32) (x1 : Int32) (x2 : Int32), k5 S x4 x3 x1 x2 = some (r, Se) → VV_X3_blockAt l G σ0 (.inl (some (pI r))) σe Se 5 [(4, pI x4), (3, pI x3), (0, pR (gmo G)), (1, pI x1), (2, pI x2)] [] σe S) {S : Ms} {x4 : Int32} {x3 : Int32} {x1 : Int32} {x2 : Int32} (h : f_X3_blockAt_44 k5 S x4 x3 x1 x2 = some (r, Se)) : VV_X3_blockAt l G σ0 (.inl (some (pI r))) σe Se 44 [(4, pI x4), (3, pI x3), (0, pR (gmo G)), (1, pI x1), (2, pI x2)] [] σe S := by
  unfold f_X3_blockAt_44 at h
  refine V_iload_n (i := 3) 1 dX3_blockAt_44 rfl rfl ?_
  refine V_sub [0, 2, 3, 4] rfl ?_
  exact v_X3_blockAt_45 hst hm hk5 h
def f_X3_blockAt_5_b (k5 : Ms → Int32 → Int32 → Int32 → Int32 → Option (Int32 × Ms)) (S : Ms) (x4 : Int32) (x3 : Int32) (x1 : Int32) (x2 : Int32) : Option (Int32 × Ms) :=
  bd (mrd S 0 149 (8 : Int32)) fun y1 => if y1 ≤ x4 then (some (x3, S)) else (bp (f_X3_of S x4 (4 : Int32)) fun y4 S5 => if y4 = x1 then (bp (f_X3_of S5 x4 (5 : Int32)) fun y8 S9 => if y8 = x2 then (f_X3_blockAt_45 k5 S9 x4 x1 x2 x4) else (f_X3_blockAt_44 k5 S9 x4 x3 x1 x2)) else (f_X3_blockAt_44 k5 S5 x4 x3 x1 x2))
set_option maxHeartbeats 4000000 in
theorem v_X3_blockAt_5_b {l : Launch} {G : Gx} (hst : l.stackTraces = false) (hm : gmo G ≠ 0) {σ0 σe : Hp} {Se : Ms} {r : Int32} {k5 : Ms → Int32 → Int32 → Int32 → Int32 → Option (Int32 × Ms)} (hk5 : ∀ (S : Ms) (x4 : Int32) (x3 : Int32) (x1 : Int32) (x2 : Int32), k5 S x4 x3 x1 x2 = some (r, Se) → VV_X3_blockAt l G σ0 (.inl (some (pI r))) σe Se 5 [(4, pI x4), (3, pI x3), (0, pR (gmo G)), (1, pI x1), (2, pI x2)] [] σe S) {S : Ms} {x4 : Int32} {x3 : Int32} {x1 : Int32} {x2 : Int32} (h : f_X3_blockAt_5_b k5 S x4 x3 x1 x2 = some (r, Se)) : VV_X3_blockAt l G σ0 (.inl (some (pI r))) σe Se 5 [(4, pI x4), (3, pI x3), (0, pR (gmo G)), (1, pI x1), (2, pI x2)] [] σe S := by
  unfold f_X3_blockAt_5_b at h
  refine V_iload (i := 4) 0 dX3_blockAt_5 rfl ?_
  refine V_aload_n (i := 0) 2 dX3_blockAt_7 rfl rfl ?_
  refine V_mrdA hm gf_X3_7 (by decide) rfl dX3_blockAt_8 ?_
  refine V_bipush (v := 8) dX3_blockAt_11 (by decide) ?_
  obtain ⟨y1, e2, h⟩ := bd_s h
  refine V_mel hm e2 (by decide) rfl (by decide) dX3_blockAt_13 ?_
  refine V_icmp_ge 52 dX3_blockAt_14 (by decide) (fun c3 => ?_) (fun c3 => ?_)
  · replace h := it_t c3 h
    refine V_iload_n (i := 3) 1 dX3_blockAt_52 rfl rfl ?_
    cases h
    exact V_iret rfl dX3_blockAt_53
  · replace h := it_f c3 h
    refine V_aload_n (i := 0) 2 dX3_blockAt_17 rfl rfl ?_
    refine V_iload (i := 4) 0 dX3_blockAt_18 rfl ?_
    refine V_iconst (v := 4) dX3_blockAt_20 (by decide) ?_
    obtain ⟨y4, S5, e6, h⟩ := bp_s h
    refine V_callM_v (n9 := 2) [] hm (v_X3_of l G hst hm _ e6) rfl rfl (lw_V q2106 q2108 qs34 q90 q2109) (by decide +kernel) (by decide) (Nat.le_of_ble_eq_true rfl) dX3_blockAt_21 ?_
    refine V_iload_n (i := 1) 3 dX3_blockAt_24 rfl rfl ?_
    refine V_icmp_ne 44 dX3_blockAt_25 (by decide) (fun c7 => ?_) (fun c7 => ?_)
    · replace h := it_f c7 h
      refine V_sub [0, 1, 2, 3, 4] rfl ?_
      exact v_X3_blockAt_44 hst hm hk5 h
    · replace h := it_t c7 h
      refine V_aload_n (i := 0) 2 dX3_blockAt_28 rfl rfl ?_
      refine V_iload (i := 4) 0 dX3_blockAt_29 rfl ?_
      refine V_iconst (v := 5) dX3_blockAt_31 (by decide) ?_
      obtain ⟨y8, S9, e10, h⟩ := bp_s h
      refine V_callM_v (n9 := 2) [] hm (v_X3_of l G hst hm _ e10) rfl rfl (lw_V q2106 q2108 qs34 q90 q2109) (by decide +kernel) (by decide) (Nat.le_of_ble_eq_true rfl) dX3_blockAt_32 ?_
      refine V_iload_n (i := 2) 4 dX3_blockAt_35 rfl rfl ?_
      refine V_icmp_ne 44 dX3_blockAt_36 (by decide) (fun c11 => ?_) (fun c11 => ?_)
      · replace h := it_f c11 h
        refine V_sub [0, 1, 2, 3, 4] rfl ?_
        exact v_X3_blockAt_44 hst hm hk5 h
      · replace h := it_t c11 h
        refine V_iload (i := 4) 0 dX3_blockAt_39 rfl ?_
        refine V_goto 45 dX3_blockAt_41 (by decide) ?_
        refine V_sub [0, 2, 3, 4] rfl ?_
        exact v_X3_blockAt_45 hst hm hk5 h
def f_X3_blockAt_5 : Nat → Ms → Int32 → Int32 → Int32 → Int32 → Option (Int32 × Ms)
  | 0, _, _, _, _, _ => none
  | n + 1, S, x4, x3, x1, x2 => f_X3_blockAt_5_b (f_X3_blockAt_5 n) S x4 x3 x1 x2
theorem v_X3_blockAt_5 {l : Launch} {G : Gx} (hst : l.stackTraces = false) (hm : gmo G ≠ 0) {σ0 σe : Hp} {Se : Ms} {r : Int32} : ∀ (n : Nat) (S : Ms) (x4 : Int32) (x3 : Int32) (x1 : Int32) (x2 : Int32), f_X3_blockAt_5 n S x4 x3 x1 x2 = some (r, Se) → VV_X3_blockAt l G σ0 (.inl (some (pI r))) σe Se 5 [(4, pI x4), (3, pI x3), (0, pR (gmo G)), (1, pI x1), (2, pI x2)] [] σe S
  | 0, _, _, _, _, _, h => by cases h
  | n + 1, _, _, _, _, _, h => v_X3_blockAt_5_b hst hm (v_X3_blockAt_5 hst hm n) h
def f_X3_blockAt (S : Ms) (x1 : Int32) (x2 : Int32) : Option (Int32 × Ms) :=
  f_X3_blockAt_5 FU S (0 : Int32) (-1 : Int32) x1 x2
set_option maxHeartbeats 4000000 in
theorem v_X3_blockAt (l : Launch) (G : Gx) (hst : l.stackTraces = false) (hm : gmo G ≠ 0) (σ : Hp) {S Se : Ms} {x1 : Int32} {x2 : Int32} {r : Int32} (h : f_X3_blockAt S x1 x2 = some (r, Se)) : MT l G yX3_blockAt (ws_ yX3_blockAt cX3_blockAt 5 (some .int)) 2 52 [pR (gmo G), pI x1, pI x2] σ S (.inl (some (pI r))) σ Se := by
  refine MT_of (own := RX3) (nL := 5) (ini := false) (by decide +kernel) rfl (Nat.le_of_ble_eq_true rfl) (fun h => by cases h) hst ?_
  show VV_X3_blockAt l G σ (.inl (some (pI r))) σ Se 0 [(0, pR (gmo G)), (1, pI x1), (2, pI x2)] [] σ S
  unfold f_X3_blockAt at h
  refine V_iconst (v := (-1)) dX3_blockAt_0 (by decide) ?_
  refine V_istore_n (i := 3) (L' := [(3, pI (-1 : Int32)), (0, pR (gmo G)), (1, pI x1), (2, pI x2)]) dX3_blockAt_1 rfl (by decide) rfl ?_
  refine V_iconst (v := 0) dX3_blockAt_2 (by decide) ?_
  refine V_istore (i := 4) (L' := [(4, pI (0 : Int32)), (3, pI (-1 : Int32)), (0, pR (gmo G)), (1, pI x1), (2, pI x2)]) dX3_blockAt_3 (by decide) rfl ?_
  refine V_sub [0, 1, 2, 3, 4] rfl ?_
  exact v_X3_blockAt_5 hst hm FU _ _ _ _ _ h

abbrev VV_X3_rub (l : Launch) (G : Gx) (σ0 : Hp) (o : Oc) (σe : Hp) (Se : Ms) := V l G RX3 cX3_rub 4 none [] false 3 76 σ0 o σe Se
def f_X3_rub_68 (S : Ms) : Option (Unit × Ms) :=
  some ((), S)
set_option maxHeartbeats 4000000 in
theorem v_X3_rub_68 {l : Launch} {G : Gx} (hst : l.stackTraces = false) (hm : gmo G ≠ 0) {σ0 σe : Hp} {Se : Ms} {r : Unit} {S : Ms} (h : f_X3_rub_68 S  = some (r, Se)) : VV_X3_rub l G σ0 (.inl none) σe Se 68 [] [] σe S := by
  unfold f_X3_rub_68 at h
  cases h
  exact V_vret rfl dX3_rub_68
def f_X3_rub (S : Ms) (x1 : Int32) (x2 : Int32) : Option (Unit × Ms) :=
  bd (mrd S 0 149 (3 : Int32)) fun y1 => bp (f_X3_warm S x2 y1) fun e3 S4 => bp (f_X3_of S4 x2 (5 : Int32)) fun y6 S7 => bp (f_X3_blockAt S7 x1 (y6 - (1 : Int32))) fun y9 S10 => if y9 = (-1 : Int32) then (f_X3_rub_68 S10 ) else (bp (f_X3_of S10 y9 (2 : Int32)) fun y13 S14 => bd (mrd S14 0 149 (2 : Int32)) fun y16 => bp (f_X3_put S14 y9 (2 : Int32) (y13 + y16)) fun e18 S19 => bp (f_X3_of S19 x2 (2 : Int32)) fun y21 S22 => bd (mrd S22 0 149 (2 : Int32)) fun y24 => bp (f_X3_put S22 x2 (2 : Int32) (y21 + y24)) fun e26 S27 => f_X3_rub_68 S27 )
set_option maxHeartbeats 4000000 in
theorem v_X3_rub (l : Launch) (G : Gx) (hst : l.stackTraces = false) (hm : gmo G ≠ 0) (σ : Hp) {S Se : Ms} {x1 : Int32} {x2 : Int32} {r : Unit} (h : f_X3_rub S x1 x2 = some (r, Se)) : MT l G yX3_rub (ws_ yX3_rub cX3_rub 4 none) 3 76 [pR (gmo G), pI x1, pI x2] σ S (.inl none) σ Se := by
  refine MT_of (own := RX3) (nL := 4) (ini := false) (by decide +kernel) rfl (Nat.le_of_ble_eq_true rfl) (fun h => by cases h) hst ?_
  show VV_X3_rub l G σ (.inl none) σ Se 0 [(0, pR (gmo G)), (1, pI x1), (2, pI x2)] [] σ S
  unfold f_X3_rub at h
  refine V_aload_n (i := 0) 0 dX3_rub_0 rfl rfl ?_
  refine V_iload_n (i := 2) 2 dX3_rub_1 rfl rfl ?_
  refine V_aload_n (i := 0) 0 dX3_rub_2 rfl rfl ?_
  refine V_mrdA hm gf_X3_7 (by decide) rfl dX3_rub_3 ?_
  refine V_iconst (v := 3) dX3_rub_6 (by decide) ?_
  obtain ⟨y1, e2, h⟩ := bd_s h
  refine V_mel hm e2 (by decide) rfl (by decide) dX3_rub_7 ?_
  obtain ⟨e3, S4, e5, h⟩ := bp_s h
  refine V_callM_0 (n9 := 2) [] hm (v_X3_warm l G hst hm _ e5) rfl rfl (lw_V q2133 q2135 qs38 q90 q2136) (by decide +kernel) (by decide) (Nat.le_of_ble_eq_true rfl) dX3_rub_8 ?_
  refine V_aload_n (i := 0) 0 dX3_rub_11 rfl rfl ?_
  refine V_iload_n (i := 1) 1 dX3_rub_12 rfl rfl ?_
  refine V_aload_n (i := 0) 0 dX3_rub_13 rfl rfl ?_
  refine V_iload_n (i := 2) 2 dX3_rub_14 rfl rfl ?_
  refine V_iconst (v := 5) dX3_rub_15 (by decide) ?_
  obtain ⟨y6, S7, e8, h⟩ := bp_s h
  refine V_callM_v (n9 := 2) [pI x1, pR (gmo G)] hm (v_X3_of l G hst hm _ e8) rfl rfl (lw_V q2106 q2108 qs34 q90 q2109) (by decide +kernel) (by decide) (Nat.le_of_ble_eq_true rfl) dX3_rub_16 ?_
  refine V_iconst (v := 1) dX3_rub_19 (by decide) ?_
  refine V_isub dX3_rub_20 ?_
  obtain ⟨y9, S10, e11, h⟩ := bp_s h
  refine V_callM_v (n9 := 2) [] hm (v_X3_blockAt l G hst hm _ e11) rfl rfl (lw_V q2178 q2180 qs44 q90 q2181) (by decide +kernel) (by decide) (Nat.le_of_ble_eq_true rfl) dX3_rub_21 ?_
  refine V_istore_n (i := 3) (L' := [(3, pI y9), (0, pR (gmo G)), (1, pI x1), (2, pI x2)]) dX3_rub_24 rfl (by decide) rfl ?_
  refine V_iload_n (i := 3) 0 dX3_rub_25 rfl rfl ?_
  refine V_iconst (v := (-1)) dX3_rub_26 (by decide) ?_
  refine V_icmp_eq 68 dX3_rub_27 (by decide) (fun c12 => ?_) (fun c12 => ?_)
  · replace h := it_t c12 h
    refine V_sub [] rfl ?_
    exact v_X3_rub_68 hst hm h
  · replace h := it_f c12 h
    refine V_aload_n (i := 0) 1 dX3_rub_30 rfl rfl ?_
    refine V_iload_n (i := 3) 0 dX3_rub_31 rfl rfl ?_
    refine V_iconst (v := 2) dX3_rub_32 (by decide) ?_
    refine V_aload_n (i := 0) 1 dX3_rub_33 rfl rfl ?_
    refine V_iload_n (i := 3) 0 dX3_rub_34 rfl rfl ?_
    refine V_iconst (v := 2) dX3_rub_35 (by decide) ?_
    obtain ⟨y13, S14, e15, h⟩ := bp_s h
    refine V_callM_v (n9 := 2) [pI (2 : Int32), pI y9, pR (gmo G)] hm (v_X3_of l G hst hm _ e15) rfl rfl (lw_V q2106 q2108 qs34 q90 q2109) (by decide +kernel) (by decide) (Nat.le_of_ble_eq_true rfl) dX3_rub_36 ?_
    refine V_aload_n (i := 0) 1 dX3_rub_39 rfl rfl ?_
    refine V_mrdA hm gf_X3_7 (by decide) rfl dX3_rub_40 ?_
    refine V_iconst (v := 2) dX3_rub_43 (by decide) ?_
    obtain ⟨y16, e17, h⟩ := bd_s h
    refine V_mel hm e17 (by decide) rfl (by decide) dX3_rub_44 ?_
    refine V_iadd dX3_rub_45 ?_
    obtain ⟨e18, S19, e20, h⟩ := bp_s h
    refine V_callM_0 (n9 := 3) [] hm (v_X3_put l G hst hm _ e20) rfl rfl (lw_V q2090 q2092 qs31 q90 q2093) (by decide +kernel) (by decide) (Nat.le_of_ble_eq_true rfl) dX3_rub_46 ?_
    refine V_aload_n (i := 0) 1 dX3_rub_49 rfl rfl ?_
    refine V_iload_n (i := 2) 3 dX3_rub_50 rfl rfl ?_
    refine V_iconst (v := 2) dX3_rub_51 (by decide) ?_
    refine V_aload_n (i := 0) 1 dX3_rub_52 rfl rfl ?_
    refine V_iload_n (i := 2) 3 dX3_rub_53 rfl rfl ?_
    refine V_iconst (v := 2) dX3_rub_54 (by decide) ?_
    obtain ⟨y21, S22, e23, h⟩ := bp_s h
    refine V_callM_v (n9 := 2) [pI (2 : Int32), pI x2, pR (gmo G)] hm (v_X3_of l G hst hm _ e23) rfl rfl (lw_V q2106 q2108 qs34 q90 q2109) (by decide +kernel) (by decide) (Nat.le_of_ble_eq_true rfl) dX3_rub_55 ?_
    refine V_aload_n (i := 0) 1 dX3_rub_58 rfl rfl ?_
    refine V_mrdA hm gf_X3_7 (by decide) rfl dX3_rub_59 ?_
    refine V_iconst (v := 2) dX3_rub_62 (by decide) ?_
    obtain ⟨y24, e25, h⟩ := bd_s h
    refine V_mel hm e25 (by decide) rfl (by decide) dX3_rub_63 ?_
    refine V_iadd dX3_rub_64 ?_
    obtain ⟨e26, S27, e28, h⟩ := bp_s h
    refine V_callM_0 (n9 := 3) [] hm (v_X3_put l G hst hm _ e28) rfl rfl (lw_V q2090 q2092 qs31 q90 q2093) (by decide +kernel) (by decide) (Nat.le_of_ble_eq_true rfl) dX3_rub_65 ?_
    refine V_sub [] rfl ?_
    exact v_X3_rub_68 hst hm h

abbrev VV_X3_wringNow (l : Launch) (G : Gx) (σ0 : Hp) (o : Oc) (σe : Hp) (Se : Ms) := V l G RX3 cX3_wringNow 4 (some .int) [] false 5 117 σ0 o σe Se
def f_X3_wringNow (S : Ms) (x1 : Int32) (x2 : Int32) : Option (Int32 × Ms) :=
  bp (f_X3_reason S x1 x2) fun y1 S2 => if y1 ≤ (0 : Int32) then (bp (f_X3_height S2 x1) fun y5 S6 => bp (f_X3_put S6 x2 (5 : Int32) y5) fun e8 S9 => bp (f_X3_put S9 x2 (4 : Int32) x1) fun e11 S12 => bp (f_X3_rub S12 x1 x2) fun e14 S15 => bp (f_X3_of S15 x2 (6 : Int32)) fun y17 S18 => bp (f_X3_put S18 x2 (6 : Int32) (y17 + (1 : Int32))) fun e20 S21 => bd (mrd S21 0 149 (5 : Int32)) fun y23 => bd (mwr S21 0 149 (5 : Int32) (y23 + (1 : Int32))) fun S25 => some ((0 : Int32), S25)) else (bd (mrd S2 0 149 (7 : Int32)) fun y27 => bd (mwr S2 0 149 (7 : Int32) (y27 + (1 : Int32))) fun S29 => some (y1, S29))
set_option maxHeartbeats 4000000 in
theorem v_X3_wringNow (l : Launch) (G : Gx) (hst : l.stackTraces = false) (hm : gmo G ≠ 0) (σ : Hp) {S Se : Ms} {x1 : Int32} {x2 : Int32} {r : Int32} (h : f_X3_wringNow S x1 x2 = some (r, Se)) : MT l G yX3_wringNow (ws_ yX3_wringNow cX3_wringNow 4 (some .int)) 5 117 [pR (gmo G), pI x1, pI x2] σ S (.inl (some (pI r))) σ Se := by
  refine MT_of (own := RX3) (nL := 4) (ini := false) (by decide +kernel) rfl (Nat.le_of_ble_eq_true rfl) (fun h => by cases h) hst ?_
  show VV_X3_wringNow l G σ (.inl (some (pI r))) σ Se 0 [(0, pR (gmo G)), (1, pI x1), (2, pI x2)] [] σ S
  unfold f_X3_wringNow at h
  refine V_aload_n (i := 0) 0 dX3_wringNow_0 rfl rfl ?_
  refine V_iload_n (i := 1) 1 dX3_wringNow_1 rfl rfl ?_
  refine V_iload_n (i := 2) 2 dX3_wringNow_2 rfl rfl ?_
  obtain ⟨y1, S2, e3, h⟩ := bp_s h
  refine V_callM_v (n9 := 2) [] hm (v_X3_reason l G hst hm _ e3) rfl rfl (lw_V q2166 q2168 qs41 q90 q2169) (by decide +kernel) (by decide) (Nat.le_of_ble_eq_true rfl) dX3_wringNow_3 ?_
  refine V_istore_n (i := 3) (L' := [(3, pI y1), (0, pR (gmo G)), (1, pI x1), (2, pI x2)]) dX3_wringNow_6 rfl (by decide) rfl ?_
  refine V_iload_n (i := 3) 0 dX3_wringNow_7 rfl rfl ?_
  refine V_if_le 24 dX3_wringNow_8 (by decide) (fun c4 => ?_) (fun c4 => ?_)
  · replace h := it_t c4 h
    refine V_aload_n (i := 0) 1 dX3_wringNow_24 rfl rfl ?_
    refine V_iload_n (i := 2) 3 dX3_wringNow_25 rfl rfl ?_
    refine V_iconst (v := 5) dX3_wringNow_26 (by decide) ?_
    refine V_aload_n (i := 0) 1 dX3_wringNow_27 rfl rfl ?_
    refine V_iload_n (i := 1) 2 dX3_wringNow_28 rfl rfl ?_
    obtain ⟨y5, S6, e7, h⟩ := bp_s h
    refine V_callM_v (n9 := 1) [pI (5 : Int32), pI x2, pR (gmo G)] hm (v_X3_height l G hst hm _ e7) rfl rfl (lw_V q2170 q2172 qs42 q90 q2173) (by decide +kernel) (by decide) (Nat.le_of_ble_eq_true rfl) dX3_wringNow_29 ?_
    obtain ⟨e8, S9, e10, h⟩ := bp_s h
    refine V_callM_0 (n9 := 3) [] hm (v_X3_put l G hst hm _ e10) rfl rfl (lw_V q2090 q2092 qs31 q90 q2093) (by decide +kernel) (by decide) (Nat.le_of_ble_eq_true rfl) dX3_wringNow_32 ?_
    refine V_aload_n (i := 0) 1 dX3_wringNow_35 rfl rfl ?_
    refine V_iload_n (i := 2) 3 dX3_wringNow_36 rfl rfl ?_
    refine V_iconst (v := 4) dX3_wringNow_37 (by decide) ?_
    refine V_iload_n (i := 1) 2 dX3_wringNow_38 rfl rfl ?_
    obtain ⟨e11, S12, e13, h⟩ := bp_s h
    refine V_callM_0 (n9 := 3) [] hm (v_X3_put l G hst hm _ e13) rfl rfl (lw_V q2090 q2092 qs31 q90 q2093) (by decide +kernel) (by decide) (Nat.le_of_ble_eq_true rfl) dX3_wringNow_39 ?_
    refine V_aload_n (i := 0) 1 dX3_wringNow_42 rfl rfl ?_
    refine V_iload_n (i := 1) 2 dX3_wringNow_43 rfl rfl ?_
    refine V_iload_n (i := 2) 3 dX3_wringNow_44 rfl rfl ?_
    obtain ⟨e14, S15, e16, h⟩ := bp_s h
    refine V_callM_0 (n9 := 2) [] hm (v_X3_rub l G hst hm _ e16) rfl rfl (lw_V q2174 q2176 qs43 q90 q2177) (by decide +kernel) (by decide) (Nat.le_of_ble_eq_true rfl) dX3_wringNow_45 ?_
    refine V_aload_n (i := 0) 1 dX3_wringNow_48 rfl rfl ?_
    refine V_iload_n (i := 2) 3 dX3_wringNow_49 rfl rfl ?_
    refine V_bipush (v := 6) dX3_wringNow_50 (by decide) ?_
    refine V_aload_n (i := 0) 1 dX3_wringNow_52 rfl rfl ?_
    refine V_iload_n (i := 2) 3 dX3_wringNow_53 rfl rfl ?_
    refine V_bipush (v := 6) dX3_wringNow_54 (by decide) ?_
    obtain ⟨y17, S18, e19, h⟩ := bp_s h
    refine V_callM_v (n9 := 2) [pI (6 : Int32), pI x2, pR (gmo G)] hm (v_X3_of l G hst hm _ e19) rfl rfl (lw_V q2106 q2108 qs34 q90 q2109) (by decide +kernel) (by decide) (Nat.le_of_ble_eq_true rfl) dX3_wringNow_56 ?_
    refine V_iconst (v := 1) dX3_wringNow_59 (by decide) ?_
    refine V_iadd dX3_wringNow_60 ?_
    obtain ⟨e20, S21, e22, h⟩ := bp_s h
    refine V_callM_0 (n9 := 3) [] hm (v_X3_put l G hst hm _ e22) rfl rfl (lw_V q2090 q2092 qs31 q90 q2093) (by decide +kernel) (by decide) (Nat.le_of_ble_eq_true rfl) dX3_wringNow_61 ?_
    refine V_aload_n (i := 0) 1 dX3_wringNow_64 rfl rfl ?_
    refine V_mrdA hm gf_X3_7 (by decide) rfl dX3_wringNow_65 ?_
    refine V_iconst (v := 5) dX3_wringNow_68 (by decide) ?_
    refine V_dup2 dX3_wringNow_69 rfl rfl ?_
    obtain ⟨y23, e24, h⟩ := bd_s h
    refine V_mel hm e24 (by decide) rfl (by decide) dX3_wringNow_70 ?_
    refine V_iconst (v := 1) dX3_wringNow_71 (by decide) ?_
    refine V_iadd dX3_wringNow_72 ?_
    obtain ⟨S25, e26, h⟩ := bd_s h
    refine V_mst hm e26 (by decide) rfl (by decide) dX3_wringNow_73 ?_
    refine V_iconst (v := 0) dX3_wringNow_74 (by decide) ?_
    cases h
    exact V_iret rfl dX3_wringNow_75
  · replace h := it_f c4 h
    refine V_aload_n (i := 0) 1 dX3_wringNow_11 rfl rfl ?_
    refine V_mrdA hm gf_X3_7 (by decide) rfl dX3_wringNow_12 ?_
    refine V_bipush (v := 7) dX3_wringNow_15 (by decide) ?_
    refine V_dup2 dX3_wringNow_17 rfl rfl ?_
    obtain ⟨y27, e28, h⟩ := bd_s h
    refine V_mel hm e28 (by decide) rfl (by decide) dX3_wringNow_18 ?_
    refine V_iconst (v := 1) dX3_wringNow_19 (by decide) ?_
    refine V_iadd dX3_wringNow_20 ?_
    obtain ⟨S29, e30, h⟩ := bd_s h
    refine V_mst hm e30 (by decide) rfl (by decide) dX3_wringNow_21 ?_
    refine V_iload_n (i := 3) 0 dX3_wringNow_22 rfl rfl ?_
    cases h
    exact V_iret rfl dX3_wringNow_23

abbrev VV_X3_wring (l : Launch) (G : Gx) (σ0 : Hp) (o : Oc) (σe : Hp) (Se : Ms) := V l G RX3 cX3_wring 3 (some .int) [] false 6 140 σ0 o σe Se
def f_X3_wring_20 (S : Ms) : Option (Int32 × Ms) :=
  bp (f_X3_fails S (1 : Int32)) fun y1 S2 => some (y1, S2)
set_option maxHeartbeats 4000000 in
theorem v_X3_wring_20 {l : Launch} {G : Gx} (hst : l.stackTraces = false) (hm : gmo G ≠ 0) {σ0 σe : Hp} {Se : Ms} {r : Int32} {S : Ms} (h : f_X3_wring_20 S  = some (r, Se)) : VV_X3_wring l G σ0 (.inl (some (pI r))) σe Se 20 [(0, pR (gmo G))] [] σe S := by
  unfold f_X3_wring_20 at h
  refine V_aload_n (i := 0) 0 dX3_wring_20 rfl rfl ?_
  refine V_iconst (v := 1) dX3_wring_21 (by decide) ?_
  obtain ⟨y1, S2, e3, h⟩ := bp_s h
  refine V_callM_v (n9 := 1) [] hm (v_X3_fails l G hst hm _ e3) rfl rfl (lw_V q2062 q2064 qs28 q90 q2065) (by decide +kernel) (by decide) (Nat.le_of_ble_eq_true rfl) dX3_wring_22 ?_
  cases h
  exact V_iret rfl dX3_wring_25
def f_X3_wring (S : Ms) (x1 : Int32) (x2 : Int32) : Option (Int32 × Ms) :=
  bd (f_X3_isStack x1) fun y1 => if y1 = (0 : Int32) then (f_X3_wring_20 (sM S 5 (0 : Int32)) ) else (bp (f_X3_isBlock (sM S 5 (0 : Int32)) x2) fun y4 S5 => if y4 = (0 : Int32) then (f_X3_wring_20 S5 ) else (bp (f_X3_save S5 ) fun e8 S9 => bp (f_X3_wringNow S9 x1 x2) fun y11 S12 => some (y11, S12)))
set_option maxHeartbeats 4000000 in
theorem v_X3_wring (l : Launch) (G : Gx) (hst : l.stackTraces = false) (hm : gmo G ≠ 0) (σ : Hp) {S Se : Ms} {x1 : Int32} {x2 : Int32} {r : Int32} (h : f_X3_wring S x1 x2 = some (r, Se)) : MT l G yX3_wring (ws_ yX3_wring cX3_wring 3 (some .int)) 6 140 [pR (gmo G), pI x1, pI x2] σ S (.inl (some (pI r))) σ Se := by
  refine MT_of (own := RX3) (nL := 3) (ini := false) (by decide +kernel) rfl (Nat.le_of_ble_eq_true rfl) (fun h => by cases h) hst ?_
  show VV_X3_wring l G σ (.inl (some (pI r))) σ Se 0 [(0, pR (gmo G)), (1, pI x1), (2, pI x2)] [] σ S
  unfold f_X3_wring at h
  refine V_aload_n (i := 0) 0 dX3_wring_0 rfl rfl ?_
  refine V_iconst (v := 0) dX3_wring_1 (by decide) ?_
  refine V_mput hm gw_X3_38 (by decide) rfl dX3_wring_2 ?_
  refine V_iload_n (i := 1) 1 dX3_wring_5 rfl rfl ?_
  obtain ⟨y1, e2, h⟩ := bd_s h
  refine V_callS_v (n9 := 1) [] (v_X3_isStack l G hst _ _ e2) rfl rfl (lw_S q2159 q2160 q90 q2161) (by decide +kernel) (by decide) (Nat.le_of_ble_eq_true rfl) dX3_wring_6 ?_
  refine V_if_eq 20 dX3_wring_9 (by decide) (fun c3 => ?_) (fun c3 => ?_)
  · replace h := it_t c3 h
    refine V_sub [0] rfl ?_
    exact v_X3_wring_20 hst hm h
  · replace h := it_f c3 h
    refine V_aload_n (i := 0) 0 dX3_wring_12 rfl rfl ?_
    refine V_iload_n (i := 2) 2 dX3_wring_13 rfl rfl ?_
    obtain ⟨y4, S5, e6, h⟩ := bp_s h
    refine V_callM_v (n9 := 1) [] hm (v_X3_isBlock l G hst hm _ e6) rfl rfl (lw_V q2098 q2100 qs32 q90 q2101) (by decide +kernel) (by decide) (Nat.le_of_ble_eq_true rfl) dX3_wring_14 ?_
    refine V_if_ne 26 dX3_wring_17 (by decide) (fun c7 => ?_) (fun c7 => ?_)
    · replace h := it_f c7 h
      refine V_aload_n (i := 0) 0 dX3_wring_26 rfl rfl ?_
      obtain ⟨e8, S9, e10, h⟩ := bp_s h
      refine V_callM_0 (n9 := 0) [] hm (v_X3_save l G hst hm _ e10) rfl rfl (lw_V q2077 q2079 qs29 q90 q2080) (by decide +kernel) (by decide) (Nat.le_of_ble_eq_true rfl) dX3_wring_27 ?_
      refine V_aload_n (i := 0) 0 dX3_wring_30 rfl rfl ?_
      refine V_iload_n (i := 1) 1 dX3_wring_31 rfl rfl ?_
      refine V_iload_n (i := 2) 2 dX3_wring_32 rfl rfl ?_
      obtain ⟨y11, S12, e13, h⟩ := bp_s h
      refine V_callM_v (n9 := 2) [] hm (v_X3_wringNow l G hst hm _ e13) rfl rfl (lw_V q2162 q2164 qs40 q90 q2165) (by decide +kernel) (by decide) (Nat.le_of_ble_eq_true rfl) dX3_wring_33 ?_
      cases h
      exact V_iret rfl dX3_wring_36
    · replace h := it_t c7 h
      refine V_sub [0] rfl ?_
      exact v_X3_wring_20 hst hm h

abbrev VV_X3_takeNow (l : Launch) (G : Gx) (σ0 : Hp) (o : Oc) (σe : Hp) (Se : Ms) := V l G RX3 cX3_takeNow 3 (some .int) [] false 4 99 σ0 o σe Se
def f_X3_takeNow (S : Ms) (x1 : Int32) : Option (Int32 × Ms) :=
  bp (f_X3_height S x1) fun y1 S2 => bp (f_X3_blockAt S2 x1 (y1 - (1 : Int32))) fun y4 S5 => bp (f_X3_rub S5 x1 y4) fun e7 S8 => bp (f_X3_put S8 y4 (4 : Int32) (-1 : Int32)) fun e10 S11 => bp (f_X3_put S11 y4 (5 : Int32) (-1 : Int32)) fun e13 S14 => bd (mrd S14 0 149 (6 : Int32)) fun y16 => bd (mwr S14 0 149 (6 : Int32) (y16 + (1 : Int32))) fun S18 => some (y4, S18)
set_option maxHeartbeats 4000000 in
theorem v_X3_takeNow (l : Launch) (G : Gx) (hst : l.stackTraces = false) (hm : gmo G ≠ 0) (σ : Hp) {S Se : Ms} {x1 : Int32} {r : Int32} (h : f_X3_takeNow S x1 = some (r, Se)) : MT l G yX3_takeNow (ws_ yX3_takeNow cX3_takeNow 3 (some .int)) 4 99 [pR (gmo G), pI x1] σ S (.inl (some (pI r))) σ Se := by
  refine MT_of (own := RX3) (nL := 3) (ini := false) (by decide +kernel) rfl (Nat.le_of_ble_eq_true rfl) (fun h => by cases h) hst ?_
  show VV_X3_takeNow l G σ (.inl (some (pI r))) σ Se 0 [(0, pR (gmo G)), (1, pI x1)] [] σ S
  unfold f_X3_takeNow at h
  refine V_aload_n (i := 0) 0 dX3_takeNow_0 rfl rfl ?_
  refine V_iload_n (i := 1) 1 dX3_takeNow_1 rfl rfl ?_
  refine V_aload_n (i := 0) 0 dX3_takeNow_2 rfl rfl ?_
  refine V_iload_n (i := 1) 1 dX3_takeNow_3 rfl rfl ?_
  obtain ⟨y1, S2, e3, h⟩ := bp_s h
  refine V_callM_v (n9 := 1) [pI x1, pR (gmo G)] hm (v_X3_height l G hst hm _ e3) rfl rfl (lw_V q2170 q2172 qs42 q90 q2173) (by decide +kernel) (by decide) (Nat.le_of_ble_eq_true rfl) dX3_takeNow_4 ?_
  refine V_iconst (v := 1) dX3_takeNow_7 (by decide) ?_
  refine V_isub dX3_takeNow_8 ?_
  obtain ⟨y4, S5, e6, h⟩ := bp_s h
  refine V_callM_v (n9 := 2) [] hm (v_X3_blockAt l G hst hm _ e6) rfl rfl (lw_V q2178 q2180 qs44 q90 q2181) (by decide +kernel) (by decide) (Nat.le_of_ble_eq_true rfl) dX3_takeNow_9 ?_
  refine V_istore_n (i := 2) (L' := [(2, pI y4), (0, pR (gmo G)), (1, pI x1)]) dX3_takeNow_12 rfl (by decide) rfl ?_
  refine V_aload_n (i := 0) 1 dX3_takeNow_13 rfl rfl ?_
  refine V_iload_n (i := 1) 2 dX3_takeNow_14 rfl rfl ?_
  refine V_iload_n (i := 2) 0 dX3_takeNow_15 rfl rfl ?_
  obtain ⟨e7, S8, e9, h⟩ := bp_s h
  refine V_callM_0 (n9 := 2) [] hm (v_X3_rub l G hst hm _ e9) rfl rfl (lw_V q2174 q2176 qs43 q90 q2177) (by decide +kernel) (by decide) (Nat.le_of_ble_eq_true rfl) dX3_takeNow_16 ?_
  refine V_aload_n (i := 0) 1 dX3_takeNow_19 rfl rfl ?_
  refine V_iload_n (i := 2) 0 dX3_takeNow_20 rfl rfl ?_
  refine V_iconst (v := 4) dX3_takeNow_21 (by decide) ?_
  refine V_iconst (v := (-1)) dX3_takeNow_22 (by decide) ?_
  obtain ⟨e10, S11, e12, h⟩ := bp_s h
  refine V_callM_0 (n9 := 3) [] hm (v_X3_put l G hst hm _ e12) rfl rfl (lw_V q2090 q2092 qs31 q90 q2093) (by decide +kernel) (by decide) (Nat.le_of_ble_eq_true rfl) dX3_takeNow_23 ?_
  refine V_aload_n (i := 0) 1 dX3_takeNow_26 rfl rfl ?_
  refine V_iload_n (i := 2) 0 dX3_takeNow_27 rfl rfl ?_
  refine V_iconst (v := 5) dX3_takeNow_28 (by decide) ?_
  refine V_iconst (v := (-1)) dX3_takeNow_29 (by decide) ?_
  obtain ⟨e13, S14, e15, h⟩ := bp_s h
  refine V_callM_0 (n9 := 3) [] hm (v_X3_put l G hst hm _ e15) rfl rfl (lw_V q2090 q2092 qs31 q90 q2093) (by decide +kernel) (by decide) (Nat.le_of_ble_eq_true rfl) dX3_takeNow_30 ?_
  refine V_aload_n (i := 0) 1 dX3_takeNow_33 rfl rfl ?_
  refine V_mrdA hm gf_X3_7 (by decide) rfl dX3_takeNow_34 ?_
  refine V_bipush (v := 6) dX3_takeNow_37 (by decide) ?_
  refine V_dup2 dX3_takeNow_39 rfl rfl ?_
  obtain ⟨y16, e17, h⟩ := bd_s h
  refine V_mel hm e17 (by decide) rfl (by decide) dX3_takeNow_40 ?_
  refine V_iconst (v := 1) dX3_takeNow_41 (by decide) ?_
  refine V_iadd dX3_takeNow_42 ?_
  obtain ⟨S18, e19, h⟩ := bd_s h
  refine V_mst hm e19 (by decide) rfl (by decide) dX3_takeNow_43 ?_
  refine V_iload_n (i := 2) 0 dX3_takeNow_44 rfl rfl ?_
  cases h
  exact V_iret rfl dX3_takeNow_45

abbrev VV_X3_takeOff (l : Launch) (G : Gx) (σ0 : Hp) (o : Oc) (σe : Hp) (Se : Ms) := V l G RX3 cX3_takeOff 2 (some .int) [] false 5 121 σ0 o σe Se
def f_X3_takeOff (S : Ms) (x1 : Int32) : Option (Int32 × Ms) :=
  bd (f_X3_isStack x1) fun y1 => if y1 = (0 : Int32) then (bp (f_X3_fails (sM S 5 (0 : Int32)) (1 : Int32)) fun y17 S18 => some (y17, S18)) else (bp (f_X3_height (sM S 5 (0 : Int32)) x1) fun y4 S5 => if y4 = (0 : Int32) then (bp (f_X3_fails S5 (2 : Int32)) fun y14 S15 => some (y14, S15)) else (bp (f_X3_save S5 ) fun e8 S9 => bp (f_X3_takeNow S9 x1) fun y11 S12 => some (y11, S12)))
set_option maxHeartbeats 4000000 in
theorem v_X3_takeOff (l : Launch) (G : Gx) (hst : l.stackTraces = false) (hm : gmo G ≠ 0) (σ : Hp) {S Se : Ms} {x1 : Int32} {r : Int32} (h : f_X3_takeOff S x1 = some (r, Se)) : MT l G yX3_takeOff (ws_ yX3_takeOff cX3_takeOff 2 (some .int)) 5 121 [pR (gmo G), pI x1] σ S (.inl (some (pI r))) σ Se := by
  refine MT_of (own := RX3) (nL := 2) (ini := false) (by decide +kernel) rfl (Nat.le_of_ble_eq_true rfl) (fun h => by cases h) hst ?_
  show VV_X3_takeOff l G σ (.inl (some (pI r))) σ Se 0 [(0, pR (gmo G)), (1, pI x1)] [] σ S
  unfold f_X3_takeOff at h
  refine V_aload_n (i := 0) 0 dX3_takeOff_0 rfl rfl ?_
  refine V_iconst (v := 0) dX3_takeOff_1 (by decide) ?_
  refine V_mput hm gw_X3_38 (by decide) rfl dX3_takeOff_2 ?_
  refine V_iload_n (i := 1) 1 dX3_takeOff_5 rfl rfl ?_
  obtain ⟨y1, e2, h⟩ := bd_s h
  refine V_callS_v (n9 := 1) [] (v_X3_isStack l G hst _ _ e2) rfl rfl (lw_S q2159 q2160 q90 q2161) (by decide +kernel) (by decide) (Nat.le_of_ble_eq_true rfl) dX3_takeOff_6 ?_
  refine V_if_ne 18 dX3_takeOff_9 (by decide) (fun c3 => ?_) (fun c3 => ?_)
  · replace h := it_f c3 h
    refine V_aload_n (i := 0) 0 dX3_takeOff_18 rfl rfl ?_
    refine V_iload_n (i := 1) 1 dX3_takeOff_19 rfl rfl ?_
    obtain ⟨y4, S5, e6, h⟩ := bp_s h
    refine V_callM_v (n9 := 1) [] hm (v_X3_height l G hst hm _ e6) rfl rfl (lw_V q2170 q2172 qs42 q90 q2173) (by decide +kernel) (by decide) (Nat.le_of_ble_eq_true rfl) dX3_takeOff_20 ?_
    refine V_if_ne 32 dX3_takeOff_23 (by decide) (fun c7 => ?_) (fun c7 => ?_)
    · replace h := it_f c7 h
      refine V_aload_n (i := 0) 0 dX3_takeOff_32 rfl rfl ?_
      obtain ⟨e8, S9, e10, h⟩ := bp_s h
      refine V_callM_0 (n9 := 0) [] hm (v_X3_save l G hst hm _ e10) rfl rfl (lw_V q2077 q2079 qs29 q90 q2080) (by decide +kernel) (by decide) (Nat.le_of_ble_eq_true rfl) dX3_takeOff_33 ?_
      refine V_aload_n (i := 0) 0 dX3_takeOff_36 rfl rfl ?_
      refine V_iload_n (i := 1) 1 dX3_takeOff_37 rfl rfl ?_
      obtain ⟨y11, S12, e13, h⟩ := bp_s h
      refine V_callM_v (n9 := 1) [] hm (v_X3_takeNow l G hst hm _ e13) rfl rfl (lw_V q2186 q2188 qs45 q90 q2189) (by decide +kernel) (by decide) (Nat.le_of_ble_eq_true rfl) dX3_takeOff_38 ?_
      cases h
      exact V_iret rfl dX3_takeOff_41
    · replace h := it_t c7 h
      refine V_aload_n (i := 0) 0 dX3_takeOff_26 rfl rfl ?_
      refine V_iconst (v := 2) dX3_takeOff_27 (by decide) ?_
      obtain ⟨y14, S15, e16, h⟩ := bp_s h
      refine V_callM_v (n9 := 1) [] hm (v_X3_fails l G hst hm _ e16) rfl rfl (lw_V q2062 q2064 qs28 q90 q2065) (by decide +kernel) (by decide) (Nat.le_of_ble_eq_true rfl) dX3_takeOff_28 ?_
      cases h
      exact V_iret rfl dX3_takeOff_31
  · replace h := it_t c3 h
    refine V_aload_n (i := 0) 0 dX3_takeOff_12 rfl rfl ?_
    refine V_iconst (v := 1) dX3_takeOff_13 (by decide) ?_
    obtain ⟨y17, S18, e19, h⟩ := bp_s h
    refine V_callM_v (n9 := 1) [] hm (v_X3_fails l G hst hm _ e19) rfl rfl (lw_V q2062 q2064 qs28 q90 q2065) (by decide +kernel) (by decide) (Nat.le_of_ble_eq_true rfl) dX3_takeOff_14 ?_
    cases h
    exact V_iret rfl dX3_takeOff_17

abbrev VV_X3_isLength (l : Launch) (G : Gx) (σ0 : Hp) (o : Oc) (σe : Hp) (Se : Ms) := V l G RX3 cX3_isLength 1 (some .boolean) [] false 2 52 σ0 o σe Se
def f_X3_isLength (x0 : Int32) : Option Int32 :=
  bd (f_X3_in x0 (500 : Int32) (600000 : Int32)) fun y1 => bd (okZ y1) fun e3 => some y1
set_option maxHeartbeats 4000000 in
theorem v_X3_isLength (l : Launch) (G : Gx) (hst : l.stackTraces = false) (σ : Hp) (S : Ms) {x0 : Int32} {r : Int32} (h : f_X3_isLength x0 = some r) : MT l G yX3_isLength (ws_ yX3_isLength cX3_isLength 1 (some .boolean)) 2 52 [pI x0] σ S (.inl (some (pI r))) σ S := by
  refine MT_of (own := RX3) (nL := 1) (ini := false) (by decide +kernel) rfl (Nat.le_of_ble_eq_true rfl) (fun h => by cases h) hst ?_
  show VV_X3_isLength l G σ (.inl (some (pI r))) σ S 0 [(0, pI x0)] [] σ S
  unfold f_X3_isLength at h
  refine V_iload_n (i := 0) 0 dX3_isLength_0 rfl rfl ?_
  refine V_sipush (v := 500) dX3_isLength_1 (by decide) ?_
  refine V_ldc dX3_isLength_4 q2197 ?_
  obtain ⟨y1, e2, h⟩ := bd_s h
  refine V_callS_v (n9 := 3) [] (v_X3_in l G hst _ _ e2) rfl rfl (lw_S q2070 q2071 q90 q2072) (by decide +kernel) (by decide) (Nat.le_of_ble_eq_true rfl) dX3_isLength_6 ?_
  obtain ⟨e3, e4, h⟩ := bd_s h
  cases h
  exact V_retZ e4 rfl dX3_isLength_9

abbrev VV_X3_lookForFree (l : Launch) (G : Gx) (σ0 : Hp) (o : Oc) (σe : Hp) (Se : Ms) := V l G RX3 cX3_lookForFree 2 none [] false 3 73 σ0 o σe Se
def f_X3_lookForFree_46 (k7 : Ms → Int32 → Option (Unit × Ms)) (S : Ms) (x1 : Int32) : Option (Unit × Ms) :=
  k7 S (x1 + (1 : Int32))
set_option maxHeartbeats 4000000 in
theorem v_X3_lookForFree_46 {l : Launch} {G : Gx} (hst : l.stackTraces = false) (hm : gmo G ≠ 0) {σ0 σe : Hp} {Se : Ms} {r : Unit} {k7 : Ms → Int32 → Option (Unit × Ms)} (hk7 : ∀ (S : Ms) (x1 : Int32), k7 S x1 = some (r, Se) → VV_X3_lookForFree l G σ0 (.inl none) σe Se 7 [(1, pI x1), (0, pR (gmo G))] [] σe S) {S : Ms} {x1 : Int32} (h : f_X3_lookForFree_46 k7 S x1 = some (r, Se)) : VV_X3_lookForFree l G σ0 (.inl none) σe Se 46 [(1, pI x1), (0, pR (gmo G))] [] σe S := by
  unfold f_X3_lookForFree_46 at h
  refine V_iinc (v := (x1 + (1 : Int32))) (L' := [(1, pI (x1 + (1 : Int32))), (0, pR (gmo G))]) 0 dX3_lookForFree_46 rfl rfl (by decide) rfl ?_
  refine V_goto 7 dX3_lookForFree_49 (by decide) ?_
  refine V_sub [0, 1] rfl ?_
  exact hk7 _ _ h
def f_X3_lookForFree_7_b (k7 : Ms → Int32 → Option (Unit × Ms)) (S : Ms) (x1 : Int32) : Option (Unit × Ms) :=
  bd (mrd S 0 149 (8 : Int32)) fun y1 => if y1 ≤ x1 then (some ((), S)) else (bp (f_X3_isFree S x1) fun y4 S5 => if y4 = (0 : Int32) then (f_X3_lookForFree_46 k7 S5 x1) else (bd (mwr S5 6 20 (S5.1 7) x1) fun S8 => f_X3_lookForFree_46 k7 (sM S8 7 ((S8.1 7) + (1 : Int32))) x1))
set_option maxHeartbeats 4000000 in
theorem v_X3_lookForFree_7_b {l : Launch} {G : Gx} (hst : l.stackTraces = false) (hm : gmo G ≠ 0) {σ0 σe : Hp} {Se : Ms} {r : Unit} {k7 : Ms → Int32 → Option (Unit × Ms)} (hk7 : ∀ (S : Ms) (x1 : Int32), k7 S x1 = some (r, Se) → VV_X3_lookForFree l G σ0 (.inl none) σe Se 7 [(1, pI x1), (0, pR (gmo G))] [] σe S) {S : Ms} {x1 : Int32} (h : f_X3_lookForFree_7_b k7 S x1 = some (r, Se)) : VV_X3_lookForFree l G σ0 (.inl none) σe Se 7 [(1, pI x1), (0, pR (gmo G))] [] σe S := by
  unfold f_X3_lookForFree_7_b at h
  refine V_iload_n (i := 1) 0 dX3_lookForFree_7 rfl rfl ?_
  refine V_aload_n (i := 0) 1 dX3_lookForFree_8 rfl rfl ?_
  refine V_mrdA hm gf_X3_7 (by decide) rfl dX3_lookForFree_9 ?_
  refine V_bipush (v := 8) dX3_lookForFree_12 (by decide) ?_
  obtain ⟨y1, e2, h⟩ := bd_s h
  refine V_mel hm e2 (by decide) rfl (by decide) dX3_lookForFree_14 ?_
  refine V_icmp_ge 52 dX3_lookForFree_15 (by decide) (fun c3 => ?_) (fun c3 => ?_)
  · replace h := it_t c3 h
    cases h
    exact V_vret rfl dX3_lookForFree_52
  · replace h := it_f c3 h
    refine V_aload_n (i := 0) 1 dX3_lookForFree_18 rfl rfl ?_
    refine V_iload_n (i := 1) 0 dX3_lookForFree_19 rfl rfl ?_
    obtain ⟨y4, S5, e6, h⟩ := bp_s h
    refine V_callM_v (n9 := 1) [] hm (v_X3_isFree l G hst hm _ e6) rfl rfl (lw_V q2102 q2104 qs33 q90 q2105) (by decide +kernel) (by decide) (Nat.le_of_ble_eq_true rfl) dX3_lookForFree_20 ?_
    refine V_if_eq 46 dX3_lookForFree_23 (by decide) (fun c7 => ?_) (fun c7 => ?_)
    · replace h := it_t c7 h
      refine V_sub [0, 1] rfl ?_
      exact v_X3_lookForFree_46 hst hm hk7 h
    · replace h := it_f c7 h
      refine V_aload_n (i := 0) 1 dX3_lookForFree_26 rfl rfl ?_
      refine V_mrdA hm gf_X3_23 (by decide) rfl dX3_lookForFree_27 ?_
      refine V_aload_n (i := 0) 1 dX3_lookForFree_30 rfl rfl ?_
      refine V_mrdI hm gf_X3_97 (by decide) rfl dX3_lookForFree_31 ?_
      refine V_iload_n (i := 1) 0 dX3_lookForFree_34 rfl rfl ?_
      obtain ⟨S8, e9, h⟩ := bd_s h
      refine V_mst hm e9 (by decide) rfl (by decide) dX3_lookForFree_35 ?_
      refine V_aload_n (i := 0) 1 dX3_lookForFree_36 rfl rfl ?_
      refine V_dup dX3_lookForFree_37 rfl ?_
      refine V_mrdI hm gf_X3_97 (by decide) rfl dX3_lookForFree_38 ?_
      refine V_iconst (v := 1) dX3_lookForFree_41 (by decide) ?_
      refine V_iadd dX3_lookForFree_42 ?_
      refine V_mput hm gw_X3_97 (by decide) rfl dX3_lookForFree_43 ?_
      refine V_sub [0, 1] rfl ?_
      exact v_X3_lookForFree_46 hst hm hk7 h
def f_X3_lookForFree_7 : Nat → Ms → Int32 → Option (Unit × Ms)
  | 0, _, _ => none
  | n + 1, S, x1 => f_X3_lookForFree_7_b (f_X3_lookForFree_7 n) S x1
theorem v_X3_lookForFree_7 {l : Launch} {G : Gx} (hst : l.stackTraces = false) (hm : gmo G ≠ 0) {σ0 σe : Hp} {Se : Ms} {r : Unit} : ∀ (n : Nat) (S : Ms) (x1 : Int32), f_X3_lookForFree_7 n S x1 = some (r, Se) → VV_X3_lookForFree l G σ0 (.inl none) σe Se 7 [(1, pI x1), (0, pR (gmo G))] [] σe S
  | 0, _, _, h => by cases h
  | n + 1, _, _, h => v_X3_lookForFree_7_b hst hm (v_X3_lookForFree_7 hst hm n) h
def f_X3_lookForFree (S : Ms) : Option (Unit × Ms) :=
  f_X3_lookForFree_7 FU (sM S 7 (0 : Int32)) (0 : Int32)
set_option maxHeartbeats 4000000 in
theorem v_X3_lookForFree (l : Launch) (G : Gx) (hst : l.stackTraces = false) (hm : gmo G ≠ 0) (σ : Hp) {S Se : Ms} {r : Unit} (h : f_X3_lookForFree S  = some (r, Se)) : MT l G yX3_lookForFree (ws_ yX3_lookForFree cX3_lookForFree 2 none) 3 73 [pR (gmo G)] σ S (.inl none) σ Se := by
  refine MT_of (own := RX3) (nL := 2) (ini := false) (by decide +kernel) rfl (Nat.le_of_ble_eq_true rfl) (fun h => by cases h) hst ?_
  show VV_X3_lookForFree l G σ (.inl none) σ Se 0 [(0, pR (gmo G))] [] σ S
  unfold f_X3_lookForFree at h
  refine V_aload_n (i := 0) 0 dX3_lookForFree_0 rfl rfl ?_
  refine V_iconst (v := 0) dX3_lookForFree_1 (by decide) ?_
  refine V_mput hm gw_X3_97 (by decide) rfl dX3_lookForFree_2 ?_
  refine V_iconst (v := 0) dX3_lookForFree_5 (by decide) ?_
  refine V_istore_n (i := 1) (L' := [(1, pI (0 : Int32)), (0, pR (gmo G))]) dX3_lookForFree_6 rfl (by decide) rfl ?_
  refine V_sub [0, 1] rfl ?_
  exact v_X3_lookForFree_7 hst hm FU _ _ h

abbrev VV_X3_sumOf (l : Launch) (G : Gx) (σ0 : Hp) (o : Oc) (σe : Hp) (Se : Ms) := V l G RX3 cX3_sumOf 4 (some .int) [] false 2 52 σ0 o σe Se
def f_X3_sumOf_37 (k4 : Ms → Int32 → Int32 → Int32 → Option (Int32 × Ms)) (S : Ms) (x3 : Int32) (x1 : Int32) (s0 : Int32) (s1 : Int32) : Option (Int32 × Ms) :=
  k4 S (x3 + (1 : Int32)) (s1 + s0) x1
set_option maxHeartbeats 4000000 in
theorem v_X3_sumOf_37 {l : Launch} {G : Gx} (hst : l.stackTraces = false) (hm : gmo G ≠ 0) {σ0 σe : Hp} {Se : Ms} {r : Int32} {k4 : Ms → Int32 → Int32 → Int32 → Option (Int32 × Ms)} (hk4 : ∀ (S : Ms) (x3 : Int32) (x2 : Int32) (x1 : Int32), k4 S x3 x2 x1 = some (r, Se) → VV_X3_sumOf l G σ0 (.inl (some (pI r))) σe Se 4 [(3, pI x3), (2, pI x2), (0, pR (gmo G)), (1, pI x1)] [] σe S) {S : Ms} {x3 : Int32} {x1 : Int32} {s0 : Int32} {s1 : Int32} (h : f_X3_sumOf_37 k4 S x3 x1 s0 s1 = some (r, Se)) : VV_X3_sumOf l G σ0 (.inl (some (pI r))) σe Se 37 [(3, pI x3), (0, pR (gmo G)), (1, pI x1)] [pI s0, pI s1] σe S := by
  unfold f_X3_sumOf_37 at h
  refine V_iadd dX3_sumOf_37 ?_
  refine V_istore_n (i := 2) (L' := [(2, pI (s1 + s0)), (3, pI x3), (0, pR (gmo G)), (1, pI x1)]) dX3_sumOf_38 rfl (by decide) rfl ?_
  refine V_iinc (v := (x3 + (1 : Int32))) (L' := [(3, pI (x3 + (1 : Int32))), (2, pI (s1 + s0)), (0, pR (gmo G)), (1, pI x1)]) 1 dX3_sumOf_39 rfl rfl (by decide) rfl ?_
  refine V_goto 4 dX3_sumOf_42 (by decide) ?_
  refine V_sub [0, 1, 2, 3] rfl ?_
  exact hk4 _ _ _ _ h
def f_X3_sumOf_4_b (k4 : Ms → Int32 → Int32 → Int32 → Option (Int32 × Ms)) (S : Ms) (x3 : Int32) (x2 : Int32) (x1 : Int32) : Option (Int32 × Ms) :=
  if (S.1 7) ≤ x3 then (some (x2, S)) else (if ((x1 >>> (x3 &&& 31)) &&& (1 : Int32)) = (1 : Int32) then (bd (mrd S 6 20 x3) fun y3 => bp (f_X3_of S y3 (0 : Int32)) fun y5 S6 => f_X3_sumOf_37 k4 S6 x3 x1 y5 x2) else (f_X3_sumOf_37 k4 S x3 x1 (0 : Int32) x2))
set_option maxHeartbeats 4000000 in
theorem v_X3_sumOf_4_b {l : Launch} {G : Gx} (hst : l.stackTraces = false) (hm : gmo G ≠ 0) {σ0 σe : Hp} {Se : Ms} {r : Int32} {k4 : Ms → Int32 → Int32 → Int32 → Option (Int32 × Ms)} (hk4 : ∀ (S : Ms) (x3 : Int32) (x2 : Int32) (x1 : Int32), k4 S x3 x2 x1 = some (r, Se) → VV_X3_sumOf l G σ0 (.inl (some (pI r))) σe Se 4 [(3, pI x3), (2, pI x2), (0, pR (gmo G)), (1, pI x1)] [] σe S) {S : Ms} {x3 : Int32} {x2 : Int32} {x1 : Int32} (h : f_X3_sumOf_4_b k4 S x3 x2 x1 = some (r, Se)) : VV_X3_sumOf l G σ0 (.inl (some (pI r))) σe Se 4 [(3, pI x3), (2, pI x2), (0, pR (gmo G)), (1, pI x1)] [] σe S := by
  unfold f_X3_sumOf_4_b at h
  refine V_iload_n (i := 3) 0 dX3_sumOf_4 rfl rfl ?_
  refine V_aload_n (i := 0) 2 dX3_sumOf_5 rfl rfl ?_
  refine V_mrdI hm gf_X3_97 (by decide) rfl dX3_sumOf_6 ?_
  refine V_icmp_ge 45 dX3_sumOf_9 (by decide) (fun c1 => ?_) (fun c1 => ?_)
  · replace h := it_t c1 h
    refine V_iload_n (i := 2) 1 dX3_sumOf_45 rfl rfl ?_
    cases h
    exact V_iret rfl dX3_sumOf_46
  · replace h := it_f c1 h
    refine V_iload_n (i := 2) 1 dX3_sumOf_12 rfl rfl ?_
    refine V_iload_n (i := 1) 3 dX3_sumOf_13 rfl rfl ?_
    refine V_iload_n (i := 3) 0 dX3_sumOf_14 rfl rfl ?_
    refine V_ishr dX3_sumOf_15 ?_
    refine V_iconst (v := 1) dX3_sumOf_16 (by decide) ?_
    refine V_iand dX3_sumOf_17 ?_
    refine V_iconst (v := 1) dX3_sumOf_18 (by decide) ?_
    refine V_icmp_ne 36 dX3_sumOf_19 (by decide) (fun c2 => ?_) (fun c2 => ?_)
    · replace h := it_f c2 h
      refine V_iconst (v := 0) dX3_sumOf_36 (by decide) ?_
      refine V_sub [0, 2, 3] rfl ?_
      exact v_X3_sumOf_37 hst hm hk4 h
    · replace h := it_t c2 h
      refine V_aload_n (i := 0) 2 dX3_sumOf_22 rfl rfl ?_
      refine V_aload_n (i := 0) 2 dX3_sumOf_23 rfl rfl ?_
      refine V_mrdA hm gf_X3_23 (by decide) rfl dX3_sumOf_24 ?_
      refine V_iload_n (i := 3) 0 dX3_sumOf_27 rfl rfl ?_
      obtain ⟨y3, e4, h⟩ := bd_s h
      refine V_mel hm e4 (by decide) rfl (by decide) dX3_sumOf_28 ?_
      refine V_iconst (v := 0) dX3_sumOf_29 (by decide) ?_
      obtain ⟨y5, S6, e7, h⟩ := bp_s h
      refine V_callM_v (n9 := 2) [pI x2] hm (v_X3_of l G hst hm _ e7) rfl rfl (lw_V q2106 q2108 qs34 q90 q2109) (by decide +kernel) (by decide) (Nat.le_of_ble_eq_true rfl) dX3_sumOf_30 ?_
      refine V_goto 37 dX3_sumOf_33 (by decide) ?_
      refine V_sub [0, 2, 3] rfl ?_
      exact v_X3_sumOf_37 hst hm hk4 h
def f_X3_sumOf_4 : Nat → Ms → Int32 → Int32 → Int32 → Option (Int32 × Ms)
  | 0, _, _, _, _ => none
  | n + 1, S, x3, x2, x1 => f_X3_sumOf_4_b (f_X3_sumOf_4 n) S x3 x2 x1
theorem v_X3_sumOf_4 {l : Launch} {G : Gx} (hst : l.stackTraces = false) (hm : gmo G ≠ 0) {σ0 σe : Hp} {Se : Ms} {r : Int32} : ∀ (n : Nat) (S : Ms) (x3 : Int32) (x2 : Int32) (x1 : Int32), f_X3_sumOf_4 n S x3 x2 x1 = some (r, Se) → VV_X3_sumOf l G σ0 (.inl (some (pI r))) σe Se 4 [(3, pI x3), (2, pI x2), (0, pR (gmo G)), (1, pI x1)] [] σe S
  | 0, _, _, _, _, h => by cases h
  | n + 1, _, _, _, _, h => v_X3_sumOf_4_b hst hm (v_X3_sumOf_4 hst hm n) h
def f_X3_sumOf (S : Ms) (x1 : Int32) : Option (Int32 × Ms) :=
  f_X3_sumOf_4 FU S (0 : Int32) (0 : Int32) x1
set_option maxHeartbeats 4000000 in
theorem v_X3_sumOf (l : Launch) (G : Gx) (hst : l.stackTraces = false) (hm : gmo G ≠ 0) (σ : Hp) {S Se : Ms} {x1 : Int32} {r : Int32} (h : f_X3_sumOf S x1 = some (r, Se)) : MT l G yX3_sumOf (ws_ yX3_sumOf cX3_sumOf 4 (some .int)) 2 52 [pR (gmo G), pI x1] σ S (.inl (some (pI r))) σ Se := by
  refine MT_of (own := RX3) (nL := 4) (ini := false) (by decide +kernel) rfl (Nat.le_of_ble_eq_true rfl) (fun h => by cases h) hst ?_
  show VV_X3_sumOf l G σ (.inl (some (pI r))) σ Se 0 [(0, pR (gmo G)), (1, pI x1)] [] σ S
  unfold f_X3_sumOf at h
  refine V_iconst (v := 0) dX3_sumOf_0 (by decide) ?_
  refine V_istore_n (i := 2) (L' := [(2, pI (0 : Int32)), (0, pR (gmo G)), (1, pI x1)]) dX3_sumOf_1 rfl (by decide) rfl ?_
  refine V_iconst (v := 0) dX3_sumOf_2 (by decide) ?_
  refine V_istore_n (i := 3) (L' := [(3, pI (0 : Int32)), (2, pI (0 : Int32)), (0, pR (gmo G)), (1, pI x1)]) dX3_sumOf_3 rfl (by decide) rfl ?_
  refine V_sub [0, 1, 2, 3] rfl ?_
  exact v_X3_sumOf_4 hst hm FU _ _ _ _ h

abbrev VV_X3_byNumbers (l : Launch) (G : Gx) (σ0 : Hp) (o : Oc) (σe : Hp) (Se : Ms) := V l G RX3 cX3_byNumbers 4 (some .int) [] false 1 30 σ0 o σe Se
def f_X3_byNumbers_4_b (k4 : Ms → Int32 → Int32 → Int32 → Option (Int32 × Ms)) (S : Ms) (x3 : Int32) (x2 : Int32) (x1 : Int32) : Option (Int32 × Ms) :=
  if (S.1 7) ≤ x3 then (some (x2, S)) else (bd (mrd S 6 20 x3) fun y2 => k4 S (x3 + (1 : Int32)) (x2 ||| (((x1 >>> (x3 &&& 31)) &&& (1 : Int32)) <<< (y2 &&& 31))) x1)
set_option maxHeartbeats 4000000 in
theorem v_X3_byNumbers_4_b {l : Launch} {G : Gx} (hst : l.stackTraces = false) (hm : gmo G ≠ 0) {σ0 σe : Hp} {Se : Ms} {r : Int32} {k4 : Ms → Int32 → Int32 → Int32 → Option (Int32 × Ms)} (hk4 : ∀ (S : Ms) (x3 : Int32) (x2 : Int32) (x1 : Int32), k4 S x3 x2 x1 = some (r, Se) → VV_X3_byNumbers l G σ0 (.inl (some (pI r))) σe Se 4 [(3, pI x3), (2, pI x2), (0, pR (gmo G)), (1, pI x1)] [] σe S) {S : Ms} {x3 : Int32} {x2 : Int32} {x1 : Int32} (h : f_X3_byNumbers_4_b k4 S x3 x2 x1 = some (r, Se)) : VV_X3_byNumbers l G σ0 (.inl (some (pI r))) σe Se 4 [(3, pI x3), (2, pI x2), (0, pR (gmo G)), (1, pI x1)] [] σe S := by
  unfold f_X3_byNumbers_4_b at h
  refine V_iload_n (i := 3) 0 dX3_byNumbers_4 rfl rfl ?_
  refine V_aload_n (i := 0) 2 dX3_byNumbers_5 rfl rfl ?_
  refine V_mrdI hm gf_X3_97 (by decide) rfl dX3_byNumbers_6 ?_
  refine V_icmp_ge 33 dX3_byNumbers_9 (by decide) (fun c1 => ?_) (fun c1 => ?_)
  · replace h := it_t c1 h
    refine V_iload_n (i := 2) 1 dX3_byNumbers_33 rfl rfl ?_
    cases h
    exact V_iret rfl dX3_byNumbers_34
  · replace h := it_f c1 h
    refine V_iload_n (i := 2) 1 dX3_byNumbers_12 rfl rfl ?_
    refine V_iload_n (i := 1) 3 dX3_byNumbers_13 rfl rfl ?_
    refine V_iload_n (i := 3) 0 dX3_byNumbers_14 rfl rfl ?_
    refine V_ishr dX3_byNumbers_15 ?_
    refine V_iconst (v := 1) dX3_byNumbers_16 (by decide) ?_
    refine V_iand dX3_byNumbers_17 ?_
    refine V_aload_n (i := 0) 2 dX3_byNumbers_18 rfl rfl ?_
    refine V_mrdA hm gf_X3_23 (by decide) rfl dX3_byNumbers_19 ?_
    refine V_iload_n (i := 3) 0 dX3_byNumbers_22 rfl rfl ?_
    obtain ⟨y2, e3, h⟩ := bd_s h
    refine V_mel hm e3 (by decide) rfl (by decide) dX3_byNumbers_23 ?_
    refine V_ishl dX3_byNumbers_24 ?_
    refine V_ior dX3_byNumbers_25 ?_
    refine V_istore_n (i := 2) (L' := [(2, pI (x2 ||| (((x1 >>> (x3 &&& 31)) &&& (1 : Int32)) <<< (y2 &&& 31)))), (3, pI x3), (0, pR (gmo G)), (1, pI x1)]) dX3_byNumbers_26 rfl (by decide) rfl ?_
    refine V_iinc (v := (x3 + (1 : Int32))) (L' := [(3, pI (x3 + (1 : Int32))), (2, pI (x2 ||| (((x1 >>> (x3 &&& 31)) &&& (1 : Int32)) <<< (y2 &&& 31)))), (0, pR (gmo G)), (1, pI x1)]) 1 dX3_byNumbers_27 rfl rfl (by decide) rfl ?_
    refine V_goto 4 dX3_byNumbers_30 (by decide) ?_
    refine V_sub [0, 1, 2, 3] rfl ?_
    exact hk4 _ _ _ _ h
def f_X3_byNumbers_4 : Nat → Ms → Int32 → Int32 → Int32 → Option (Int32 × Ms)
  | 0, _, _, _, _ => none
  | n + 1, S, x3, x2, x1 => f_X3_byNumbers_4_b (f_X3_byNumbers_4 n) S x3 x2 x1
theorem v_X3_byNumbers_4 {l : Launch} {G : Gx} (hst : l.stackTraces = false) (hm : gmo G ≠ 0) {σ0 σe : Hp} {Se : Ms} {r : Int32} : ∀ (n : Nat) (S : Ms) (x3 : Int32) (x2 : Int32) (x1 : Int32), f_X3_byNumbers_4 n S x3 x2 x1 = some (r, Se) → VV_X3_byNumbers l G σ0 (.inl (some (pI r))) σe Se 4 [(3, pI x3), (2, pI x2), (0, pR (gmo G)), (1, pI x1)] [] σe S
  | 0, _, _, _, _, h => by cases h
  | n + 1, _, _, _, _, h => v_X3_byNumbers_4_b hst hm (v_X3_byNumbers_4 hst hm n) h
def f_X3_byNumbers (S : Ms) (x1 : Int32) : Option (Int32 × Ms) :=
  f_X3_byNumbers_4 FU S (0 : Int32) (0 : Int32) x1
set_option maxHeartbeats 4000000 in
theorem v_X3_byNumbers (l : Launch) (G : Gx) (hst : l.stackTraces = false) (hm : gmo G ≠ 0) (σ : Hp) {S Se : Ms} {x1 : Int32} {r : Int32} (h : f_X3_byNumbers S x1 = some (r, Se)) : MT l G yX3_byNumbers (ws_ yX3_byNumbers cX3_byNumbers 4 (some .int)) 1 30 [pR (gmo G), pI x1] σ S (.inl (some (pI r))) σ Se := by
  refine MT_of (own := RX3) (nL := 4) (ini := false) (by decide +kernel) rfl (Nat.le_of_ble_eq_true rfl) (fun h => by cases h) hst ?_
  show VV_X3_byNumbers l G σ (.inl (some (pI r))) σ Se 0 [(0, pR (gmo G)), (1, pI x1)] [] σ S
  unfold f_X3_byNumbers at h
  refine V_iconst (v := 0) dX3_byNumbers_0 (by decide) ?_
  refine V_istore_n (i := 2) (L' := [(2, pI (0 : Int32)), (0, pR (gmo G)), (1, pI x1)]) dX3_byNumbers_1 rfl (by decide) rfl ?_
  refine V_iconst (v := 0) dX3_byNumbers_2 (by decide) ?_
  refine V_istore_n (i := 3) (L' := [(3, pI (0 : Int32)), (2, pI (0 : Int32)), (0, pR (gmo G)), (1, pI x1)]) dX3_byNumbers_3 rfl (by decide) rfl ?_
  refine V_sub [0, 1, 2, 3] rfl ?_
  exact v_X3_byNumbers_4 hst hm FU _ _ _ _ h

abbrev VV_X3_nextSet (l : Launch) (G : Gx) (σ0 : Hp) (o : Oc) (σe : Hp) (Se : Ms) := V l G RX3 cX3_nextSet 3 (some .int) [] false 1 30 σ0 o σe Se
def f_X3_nextSet (x0 : Int32) : Option Int32 :=
  bd (dvI ((x0 ^^^ (x0 + (x0 &&& (-x0)))) >>> ((2 : Int32) &&& 31)) (x0 &&& (-x0))) fun y1 => some (y1 ||| (x0 + (x0 &&& (-x0))))
set_option maxHeartbeats 4000000 in
theorem v_X3_nextSet (l : Launch) (G : Gx) (hst : l.stackTraces = false) (σ : Hp) (S : Ms) {x0 : Int32} {r : Int32} (h : f_X3_nextSet x0 = some r) : MT l G yX3_nextSet (ws_ yX3_nextSet cX3_nextSet 3 (some .int)) 1 30 [pI x0] σ S (.inl (some (pI r))) σ S := by
  refine MT_of (own := RX3) (nL := 3) (ini := false) (by decide +kernel) rfl (Nat.le_of_ble_eq_true rfl) (fun h => by cases h) hst ?_
  show VV_X3_nextSet l G σ (.inl (some (pI r))) σ S 0 [(0, pI x0)] [] σ S
  unfold f_X3_nextSet at h
  refine V_iload_n (i := 0) 0 dX3_nextSet_0 rfl rfl ?_
  refine V_iload_n (i := 0) 0 dX3_nextSet_1 rfl rfl ?_
  refine V_ineg dX3_nextSet_2 ?_
  refine V_iand dX3_nextSet_3 ?_
  refine V_istore_n (i := 1) (L' := [(1, pI (x0 &&& (-x0))), (0, pI x0)]) dX3_nextSet_4 rfl (by decide) rfl ?_
  refine V_iload_n (i := 0) 1 dX3_nextSet_5 rfl rfl ?_
  refine V_iload_n (i := 1) 0 dX3_nextSet_6 rfl rfl ?_
  refine V_iadd dX3_nextSet_7 ?_
  refine V_istore_n (i := 2) (L' := [(2, pI (x0 + (x0 &&& (-x0)))), (1, pI (x0 &&& (-x0))), (0, pI x0)]) dX3_nextSet_8 rfl (by decide) rfl ?_
  refine V_iload_n (i := 0) 2 dX3_nextSet_9 rfl rfl ?_
  refine V_iload_n (i := 2) 0 dX3_nextSet_10 rfl rfl ?_
  refine V_ixor dX3_nextSet_11 ?_
  refine V_iconst (v := 2) dX3_nextSet_12 (by decide) ?_
  refine V_ishr dX3_nextSet_13 ?_
  refine V_iload_n (i := 1) 1 dX3_nextSet_14 rfl rfl ?_
  obtain ⟨y1, e2, h⟩ := bd_s h
  refine V_div e2 dX3_nextSet_15 ?_
  refine V_iload_n (i := 2) 0 dX3_nextSet_16 rfl rfl ?_
  refine V_ior dX3_nextSet_17 ?_
  cases h
  exact V_iret rfl dX3_nextSet_18

abbrev VV_X3_fewestFor (l : Launch) (G : Gx) (σ0 : Hp) (o : Oc) (σe : Hp) (Se : Ms) := V l G RX3 cX3_fewestFor 4 (some .int) [] false 4 94 σ0 o σe Se
def f_X3_fewestFor_65 (S : Ms) : Option (Int32 × Ms) :=
  some ((0 : Int32), S)
set_option maxHeartbeats 4000000 in
theorem v_X3_fewestFor_65 {l : Launch} {G : Gx} (hst : l.stackTraces = false) (hm : gmo G ≠ 0) {σ0 σe : Hp} {Se : Ms} {r : Int32} {S : Ms} (h : f_X3_fewestFor_65 S  = some (r, Se)) : VV_X3_fewestFor l G σ0 (.inl (some (pI r))) σe Se 65 [] [] σe S := by
  unfold f_X3_fewestFor_65 at h
  refine V_iconst (v := 0) dX3_fewestFor_65 (by decide) ?_
  cases h
  exact V_iret rfl dX3_fewestFor_66
def f_X3_fewestFor_26_b (k6 : Ms → Int32 → Int32 → Option (Int32 × Ms)) (k26 : Ms → Int32 → Int32 → Int32 → Option (Int32 × Ms)) (S : Ms) (x3 : Int32) (x2 : Int32) (x1 : Int32) : Option (Int32 × Ms) :=
  if ((1 : Int32) <<< ((S.1 7) &&& 31)) ≤ x3 then (k6 S (x2 + (1 : Int32)) x1) else (bp (f_X3_sumOf S x3) fun y2 S3 => if y2 = x1 then (bp (f_X3_byNumbers S3 x3) fun y8 S9 => some (y8, S9)) else (bd (f_X3_nextSet x3) fun y6 => k26 S3 y6 x2 x1))
set_option maxHeartbeats 4000000 in
theorem v_X3_fewestFor_26_b {l : Launch} {G : Gx} (hst : l.stackTraces = false) (hm : gmo G ≠ 0) {σ0 σe : Hp} {Se : Ms} {r : Int32} {k6 : Ms → Int32 → Int32 → Option (Int32 × Ms)} {k26 : Ms → Int32 → Int32 → Int32 → Option (Int32 × Ms)} (hk6 : ∀ (S : Ms) (x2 : Int32) (x1 : Int32), k6 S x2 x1 = some (r, Se) → VV_X3_fewestFor l G σ0 (.inl (some (pI r))) σe Se 6 [(2, pI x2), (0, pR (gmo G)), (1, pI x1)] [] σe S) (hk26 : ∀ (S : Ms) (x3 : Int32) (x2 : Int32) (x1 : Int32), k26 S x3 x2 x1 = some (r, Se) → VV_X3_fewestFor l G σ0 (.inl (some (pI r))) σe Se 26 [(3, pI x3), (2, pI x2), (0, pR (gmo G)), (1, pI x1)] [] σe S) {S : Ms} {x3 : Int32} {x2 : Int32} {x1 : Int32} (h : f_X3_fewestFor_26_b k6 k26 S x3 x2 x1 = some (r, Se)) : VV_X3_fewestFor l G σ0 (.inl (some (pI r))) σe Se 26 [(3, pI x3), (2, pI x2), (0, pR (gmo G)), (1, pI x1)] [] σe S := by
  unfold f_X3_fewestFor_26_b at h
  refine V_iload_n (i := 3) 0 dX3_fewestFor_26 rfl rfl ?_
  refine V_iconst (v := 1) dX3_fewestFor_27 (by decide) ?_
  refine V_aload_n (i := 0) 2 dX3_fewestFor_28 rfl rfl ?_
  refine V_mrdI hm gf_X3_97 (by decide) rfl dX3_fewestFor_29 ?_
  refine V_ishl dX3_fewestFor_32 ?_
  refine V_icmp_ge 59 dX3_fewestFor_33 (by decide) (fun c1 => ?_) (fun c1 => ?_)
  · replace h := it_t c1 h
    refine V_iinc (v := (x2 + (1 : Int32))) (L' := [(2, pI (x2 + (1 : Int32))), (3, pI x3), (0, pR (gmo G)), (1, pI x1)]) 1 dX3_fewestFor_59 rfl rfl (by decide) rfl ?_
    refine V_goto 6 dX3_fewestFor_62 (by decide) ?_
    refine V_sub [0, 2, 3] rfl ?_
    exact hk6 _ _ _ h
  · replace h := it_f c1 h
    refine V_aload_n (i := 0) 2 dX3_fewestFor_36 rfl rfl ?_
    refine V_iload_n (i := 3) 0 dX3_fewestFor_37 rfl rfl ?_
    obtain ⟨y2, S3, e4, h⟩ := bp_s h
    refine V_callM_v (n9 := 1) [] hm (v_X3_sumOf l G hst hm _ e4) rfl rfl (lw_V q2210 q2212 qs49 q90 q2213) (by decide +kernel) (by decide) (Nat.le_of_ble_eq_true rfl) dX3_fewestFor_38 ?_
    refine V_iload_n (i := 1) 3 dX3_fewestFor_41 rfl rfl ?_
    refine V_icmp_ne 51 dX3_fewestFor_42 (by decide) (fun c5 => ?_) (fun c5 => ?_)
    · replace h := it_f c5 h
      refine V_iload_n (i := 3) 0 dX3_fewestFor_51 rfl rfl ?_
      obtain ⟨y6, e7, h⟩ := bd_s h
      refine V_callS_v (n9 := 1) [] (v_X3_nextSet l G hst _ _ e7) rfl rfl (lw_S q2218 q2219 q90 q2220) (by decide +kernel) (by decide) (Nat.le_of_ble_eq_true rfl) dX3_fewestFor_52 ?_
      refine V_istore_n (i := 3) (L' := [(3, pI y6), (2, pI x2), (0, pR (gmo G)), (1, pI x1)]) dX3_fewestFor_55 rfl (by decide) rfl ?_
      refine V_goto 26 dX3_fewestFor_56 (by decide) ?_
      refine V_sub [0, 1, 2, 3] rfl ?_
      exact hk26 _ _ _ _ h
    · replace h := it_t c5 h
      refine V_aload_n (i := 0) 2 dX3_fewestFor_45 rfl rfl ?_
      refine V_iload_n (i := 3) 0 dX3_fewestFor_46 rfl rfl ?_
      obtain ⟨y8, S9, e10, h⟩ := bp_s h
      refine V_callM_v (n9 := 1) [] hm (v_X3_byNumbers l G hst hm _ e10) rfl rfl (lw_V q2214 q2216 qs50 q90 q2217) (by decide +kernel) (by decide) (Nat.le_of_ble_eq_true rfl) dX3_fewestFor_47 ?_
      cases h
      exact V_iret rfl dX3_fewestFor_50
def f_X3_fewestFor_26 (k6 : Ms → Int32 → Int32 → Option (Int32 × Ms)) : Nat → Ms → Int32 → Int32 → Int32 → Option (Int32 × Ms)
  | 0, _, _, _, _ => none
  | n + 1, S, x3, x2, x1 => f_X3_fewestFor_26_b k6 (f_X3_fewestFor_26 k6 n) S x3 x2 x1
theorem v_X3_fewestFor_26 {l : Launch} {G : Gx} (hst : l.stackTraces = false) (hm : gmo G ≠ 0) {σ0 σe : Hp} {Se : Ms} {r : Int32} {k6 : Ms → Int32 → Int32 → Option (Int32 × Ms)} (hk6 : ∀ (S : Ms) (x2 : Int32) (x1 : Int32), k6 S x2 x1 = some (r, Se) → VV_X3_fewestFor l G σ0 (.inl (some (pI r))) σe Se 6 [(2, pI x2), (0, pR (gmo G)), (1, pI x1)] [] σe S) : ∀ (n : Nat) (S : Ms) (x3 : Int32) (x2 : Int32) (x1 : Int32), f_X3_fewestFor_26 k6 n S x3 x2 x1 = some (r, Se) → VV_X3_fewestFor l G σ0 (.inl (some (pI r))) σe Se 26 [(3, pI x3), (2, pI x2), (0, pR (gmo G)), (1, pI x1)] [] σe S
  | 0, _, _, _, _, h => by cases h
  | n + 1, _, _, _, _, h => v_X3_fewestFor_26_b hst hm hk6 (v_X3_fewestFor_26 hst hm hk6 n) h
def f_X3_fewestFor_6_b (k6 : Ms → Int32 → Int32 → Option (Int32 × Ms)) (S : Ms) (x2 : Int32) (x1 : Int32) : Option (Int32 × Ms) :=
  if (6 : Int32) < x2 then (f_X3_fewestFor_65 S ) else (if (S.1 7) < x2 then (f_X3_fewestFor_65 S ) else (f_X3_fewestFor_26 k6 FU S (((1 : Int32) <<< (x2 &&& 31)) - (1 : Int32)) x2 x1))
set_option maxHeartbeats 4000000 in
theorem v_X3_fewestFor_6_b {l : Launch} {G : Gx} (hst : l.stackTraces = false) (hm : gmo G ≠ 0) {σ0 σe : Hp} {Se : Ms} {r : Int32} {k6 : Ms → Int32 → Int32 → Option (Int32 × Ms)} (hk6 : ∀ (S : Ms) (x2 : Int32) (x1 : Int32), k6 S x2 x1 = some (r, Se) → VV_X3_fewestFor l G σ0 (.inl (some (pI r))) σe Se 6 [(2, pI x2), (0, pR (gmo G)), (1, pI x1)] [] σe S) {S : Ms} {x2 : Int32} {x1 : Int32} (h : f_X3_fewestFor_6_b k6 S x2 x1 = some (r, Se)) : VV_X3_fewestFor l G σ0 (.inl (some (pI r))) σe Se 6 [(2, pI x2), (0, pR (gmo G)), (1, pI x1)] [] σe S := by
  unfold f_X3_fewestFor_6_b at h
  refine V_iload_n (i := 2) 0 dX3_fewestFor_6 rfl rfl ?_
  refine V_bipush (v := 6) dX3_fewestFor_7 (by decide) ?_
  refine V_icmp_gt 65 dX3_fewestFor_9 (by decide) (fun c1 => ?_) (fun c1 => ?_)
  · replace h := it_t c1 h
    refine V_sub [] rfl ?_
    exact v_X3_fewestFor_65 hst hm h
  · replace h := it_f c1 h
    refine V_iload_n (i := 2) 0 dX3_fewestFor_12 rfl rfl ?_
    refine V_aload_n (i := 0) 1 dX3_fewestFor_13 rfl rfl ?_
    refine V_mrdI hm gf_X3_97 (by decide) rfl dX3_fewestFor_14 ?_
    refine V_icmp_gt 65 dX3_fewestFor_17 (by decide) (fun c2 => ?_) (fun c2 => ?_)
    · replace h := it_t c2 h
      refine V_sub [] rfl ?_
      exact v_X3_fewestFor_65 hst hm h
    · replace h := it_f c2 h
      refine V_iconst (v := 1) dX3_fewestFor_20 (by decide) ?_
      refine V_iload_n (i := 2) 0 dX3_fewestFor_21 rfl rfl ?_
      refine V_ishl dX3_fewestFor_22 ?_
      refine V_iconst (v := 1) dX3_fewestFor_23 (by decide) ?_
      refine V_isub dX3_fewestFor_24 ?_
      refine V_istore_n (i := 3) (L' := [(3, pI (((1 : Int32) <<< (x2 &&& 31)) - (1 : Int32))), (2, pI x2), (0, pR (gmo G)), (1, pI x1)]) dX3_fewestFor_25 rfl (by decide) rfl ?_
      refine V_sub [0, 1, 2, 3] rfl ?_
      exact v_X3_fewestFor_26 hst hm hk6 FU _ _ _ _ h
def f_X3_fewestFor_6 : Nat → Ms → Int32 → Int32 → Option (Int32 × Ms)
  | 0, _, _, _ => none
  | n + 1, S, x2, x1 => f_X3_fewestFor_6_b (f_X3_fewestFor_6 n) S x2 x1
theorem v_X3_fewestFor_6 {l : Launch} {G : Gx} (hst : l.stackTraces = false) (hm : gmo G ≠ 0) {σ0 σe : Hp} {Se : Ms} {r : Int32} : ∀ (n : Nat) (S : Ms) (x2 : Int32) (x1 : Int32), f_X3_fewestFor_6 n S x2 x1 = some (r, Se) → VV_X3_fewestFor l G σ0 (.inl (some (pI r))) σe Se 6 [(2, pI x2), (0, pR (gmo G)), (1, pI x1)] [] σe S
  | 0, _, _, _, h => by cases h
  | n + 1, _, _, _, h => v_X3_fewestFor_6_b hst hm (v_X3_fewestFor_6 hst hm n) h
def f_X3_fewestFor (S : Ms) (x1 : Int32) : Option (Int32 × Ms) :=
  bp (f_X3_lookForFree S ) fun e1 S2 => f_X3_fewestFor_6 FU S2 (1 : Int32) x1
set_option maxHeartbeats 4000000 in
theorem v_X3_fewestFor (l : Launch) (G : Gx) (hst : l.stackTraces = false) (hm : gmo G ≠ 0) (σ : Hp) {S Se : Ms} {x1 : Int32} {r : Int32} (h : f_X3_fewestFor S x1 = some (r, Se)) : MT l G yX3_fewestFor (ws_ yX3_fewestFor cX3_fewestFor 4 (some .int)) 4 94 [pR (gmo G), pI x1] σ S (.inl (some (pI r))) σ Se := by
  refine MT_of (own := RX3) (nL := 4) (ini := false) (by decide +kernel) rfl (Nat.le_of_ble_eq_true rfl) (fun h => by cases h) hst ?_
  show VV_X3_fewestFor l G σ (.inl (some (pI r))) σ Se 0 [(0, pR (gmo G)), (1, pI x1)] [] σ S
  unfold f_X3_fewestFor at h
  refine V_aload_n (i := 0) 0 dX3_fewestFor_0 rfl rfl ?_
  obtain ⟨e1, S2, e3, h⟩ := bp_s h
  refine V_callM_0 (n9 := 0) [] hm (v_X3_lookForFree l G hst hm _ e3) rfl rfl (lw_V q2206 q2208 qs48 q90 q2209) (by decide +kernel) (by decide) (Nat.le_of_ble_eq_true rfl) dX3_fewestFor_1 ?_
  refine V_iconst (v := 1) dX3_fewestFor_4 (by decide) ?_
  refine V_istore_n (i := 2) (L' := [(2, pI (1 : Int32)), (0, pR (gmo G)), (1, pI x1)]) dX3_fewestFor_5 rfl (by decide) rfl ?_
  refine V_sub [0, 1, 2] rfl ?_
  exact v_X3_fewestFor_6 hst hm FU _ _ _ h

abbrev VV_X3_makeNow (l : Launch) (G : Gx) (σ0 : Hp) (o : Oc) (σe : Hp) (Se : Ms) := V l G RX3 cX3_makeNow 7 (some .int) [] false 6 140 σ0 o σe Se
def f_X3_makeNow_86 (S : Ms) (x4 : Int32) : Option (Int32 × Ms) :=
  some (x4, S)
set_option maxHeartbeats 4000000 in
theorem v_X3_makeNow_86 {l : Launch} {G : Gx} (hst : l.stackTraces = false) (hm : gmo G ≠ 0) {σ0 σe : Hp} {Se : Ms} {r : Int32} {S : Ms} {x4 : Int32} (h : f_X3_makeNow_86 S x4 = some (r, Se)) : VV_X3_makeNow l G σ0 (.inl (some (pI r))) σe Se 86 [(4, pI x4)] [] σe S := by
  unfold f_X3_makeNow_86 at h
  refine V_iload (i := 4) 0 dX3_makeNow_86 rfl ?_
  cases h
  exact V_iret rfl dX3_makeNow_88
def f_X3_makeNow_80 (k21 : Ms → Int32 → Int32 → Int32 → Int32 → Int32 → Option (Int32 × Ms)) (S : Ms) (x6 : Int32) (x5 : Int32) (x4 : Int32) (x3 : Int32) (x1 : Int32) : Option (Int32 × Ms) :=
  k21 S (x6 + (1 : Int32)) x5 x4 x3 x1
set_option maxHeartbeats 4000000 in
theorem v_X3_makeNow_80 {l : Launch} {G : Gx} (hst : l.stackTraces = false) (hm : gmo G ≠ 0) {σ0 σe : Hp} {Se : Ms} {r : Int32} {k21 : Ms → Int32 → Int32 → Int32 → Int32 → Int32 → Option (Int32 × Ms)} (hk21 : ∀ (S : Ms) (x6 : Int32) (x5 : Int32) (x4 : Int32) (x3 : Int32) (x1 : Int32), k21 S x6 x5 x4 x3 x1 = some (r, Se) → VV_X3_makeNow l G σ0 (.inl (some (pI r))) σe Se 21 [(6, pI x6), (5, pI x5), (4, pI x4), (3, pI x3), (0, pR (gmo G)), (1, pI x1)] [] σe S) {S : Ms} {x6 : Int32} {x5 : Int32} {x4 : Int32} {x3 : Int32} {x1 : Int32} (h : f_X3_makeNow_80 k21 S x6 x5 x4 x3 x1 = some (r, Se)) : VV_X3_makeNow l G σ0 (.inl (some (pI r))) σe Se 80 [(6, pI x6), (5, pI x5), (4, pI x4), (3, pI x3), (0, pR (gmo G)), (1, pI x1)] [] σe S := by
  unfold f_X3_makeNow_80 at h
  refine V_iinc (v := (x6 + (1 : Int32))) (L' := [(6, pI (x6 + (1 : Int32))), (5, pI x5), (4, pI x4), (3, pI x3), (0, pR (gmo G)), (1, pI x1)]) 0 dX3_makeNow_80 rfl rfl (by decide) rfl ?_
  refine V_goto 21 dX3_makeNow_83 (by decide) ?_
  refine V_sub [0, 1, 2, 3, 4, 5] rfl ?_
  exact hk21 _ _ _ _ _ _ h
def f_X3_makeNow_77 (k21 : Ms → Int32 → Int32 → Int32 → Int32 → Int32 → Option (Int32 × Ms)) (S : Ms) (x5 : Int32) (x6 : Int32) (x3 : Int32) (x1 : Int32) (s0 : Int32) (s1 : Int32) : Option (Int32 × Ms) :=
  f_X3_makeNow_80 k21 S x6 x5 (s1 + s0) x3 x1
set_option maxHeartbeats 4000000 in
theorem v_X3_makeNow_77 {l : Launch} {G : Gx} (hst : l.stackTraces = false) (hm : gmo G ≠ 0) {σ0 σe : Hp} {Se : Ms} {r : Int32} {k21 : Ms → Int32 → Int32 → Int32 → Int32 → Int32 → Option (Int32 × Ms)} (hk21 : ∀ (S : Ms) (x6 : Int32) (x5 : Int32) (x4 : Int32) (x3 : Int32) (x1 : Int32), k21 S x6 x5 x4 x3 x1 = some (r, Se) → VV_X3_makeNow l G σ0 (.inl (some (pI r))) σe Se 21 [(6, pI x6), (5, pI x5), (4, pI x4), (3, pI x3), (0, pR (gmo G)), (1, pI x1)] [] σe S) {S : Ms} {x5 : Int32} {x6 : Int32} {x3 : Int32} {x1 : Int32} {s0 : Int32} {s1 : Int32} (h : f_X3_makeNow_77 k21 S x5 x6 x3 x1 s0 s1 = some (r, Se)) : VV_X3_makeNow l G σ0 (.inl (some (pI r))) σe Se 77 [(5, pI x5), (6, pI x6), (3, pI x3), (0, pR (gmo G)), (1, pI x1)] [pI s0, pI s1] σe S := by
  unfold f_X3_makeNow_77 at h
  refine V_iadd dX3_makeNow_77 ?_
  refine V_istore (i := 4) (L' := [(4, pI (s1 + s0)), (5, pI x5), (6, pI x6), (3, pI x3), (0, pR (gmo G)), (1, pI x1)]) dX3_makeNow_78 (by decide) rfl ?_
  refine V_sub [2, 1, 0, 3, 4, 5] rfl ?_
  exact v_X3_makeNow_80 hst hm hk21 h
def f_X3_makeNow_63 (k21 : Ms → Int32 → Int32 → Int32 → Int32 → Int32 → Option (Int32 × Ms)) (S : Ms) (x6 : Int32) (x4 : Int32) (x3 : Int32) (x1 : Int32) (s0 : Int32) : Option (Int32 × Ms) :=
  if s0 = (0 : Int32) then (f_X3_makeNow_77 k21 S s0 x6 x3 x1 (0 : Int32) x4) else (f_X3_makeNow_77 k21 S s0 x6 x3 x1 (1 : Int32) x4)
set_option maxHeartbeats 4000000 in
theorem v_X3_makeNow_63 {l : Launch} {G : Gx} (hst : l.stackTraces = false) (hm : gmo G ≠ 0) {σ0 σe : Hp} {Se : Ms} {r : Int32} {k21 : Ms → Int32 → Int32 → Int32 → Int32 → Int32 → Option (Int32 × Ms)} (hk21 : ∀ (S : Ms) (x6 : Int32) (x5 : Int32) (x4 : Int32) (x3 : Int32) (x1 : Int32), k21 S x6 x5 x4 x3 x1 = some (r, Se) → VV_X3_makeNow l G σ0 (.inl (some (pI r))) σe Se 21 [(6, pI x6), (5, pI x5), (4, pI x4), (3, pI x3), (0, pR (gmo G)), (1, pI x1)] [] σe S) {S : Ms} {x6 : Int32} {x4 : Int32} {x3 : Int32} {x1 : Int32} {s0 : Int32} (h : f_X3_makeNow_63 k21 S x6 x4 x3 x1 s0 = some (r, Se)) : VV_X3_makeNow l G σ0 (.inl (some (pI r))) σe Se 63 [(6, pI x6), (4, pI x4), (3, pI x3), (0, pR (gmo G)), (1, pI x1)] [pI s0] σe S := by
  unfold f_X3_makeNow_63 at h
  refine V_istore (i := 5) (L' := [(5, pI s0), (6, pI x6), (4, pI x4), (3, pI x3), (0, pR (gmo G)), (1, pI x1)]) dX3_makeNow_63 (by decide) rfl ?_
  refine V_iload (i := 4) 2 dX3_makeNow_65 rfl ?_
  refine V_iload (i := 5) 0 dX3_makeNow_67 rfl ?_
  refine V_if_eq 76 dX3_makeNow_69 (by decide) (fun c1 => ?_) (fun c1 => ?_)
  · replace h := it_t c1 h
    refine V_iconst (v := 0) dX3_makeNow_76 (by decide) ?_
    refine V_sub [0, 1, 3, 4, 5] rfl ?_
    exact v_X3_makeNow_77 hst hm hk21 h
  · replace h := it_f c1 h
    refine V_iconst (v := 1) dX3_makeNow_72 (by decide) ?_
    refine V_goto 77 dX3_makeNow_73 (by decide) ?_
    refine V_sub [0, 1, 3, 4, 5] rfl ?_
    exact v_X3_makeNow_77 hst hm hk21 h
def f_X3_makeNow_21_b (k21 : Ms → Int32 → Int32 → Int32 → Int32 → Int32 → Option (Int32 × Ms)) (S : Ms) (x6 : Int32) (x5 : Int32) (x4 : Int32) (x3 : Int32) (x1 : Int32) : Option (Int32 × Ms) :=
  bd (mrd S 0 149 (8 : Int32)) fun y1 => if y1 ≤ x6 then (f_X3_makeNow_86 S x4) else (if x5 = (0 : Int32) then (f_X3_makeNow_86 S x4) else (if ((x3 >>> (x6 &&& 31)) &&& (1 : Int32)) = (1 : Int32) then (bp (f_X3_wringNow S x1 x6) fun y6 S7 => if y6 = (0 : Int32) then (f_X3_makeNow_63 k21 S7 x6 x4 x3 x1 (1 : Int32)) else (f_X3_makeNow_63 k21 S7 x6 x4 x3 x1 (0 : Int32))) else (f_X3_makeNow_80 k21 S x6 x5 x4 x3 x1)))
set_option maxHeartbeats 4000000 in
theorem v_X3_makeNow_21_b {l : Launch} {G : Gx} (hst : l.stackTraces = false) (hm : gmo G ≠ 0) {σ0 σe : Hp} {Se : Ms} {r : Int32} {k21 : Ms → Int32 → Int32 → Int32 → Int32 → Int32 → Option (Int32 × Ms)} (hk21 : ∀ (S : Ms) (x6 : Int32) (x5 : Int32) (x4 : Int32) (x3 : Int32) (x1 : Int32), k21 S x6 x5 x4 x3 x1 = some (r, Se) → VV_X3_makeNow l G σ0 (.inl (some (pI r))) σe Se 21 [(6, pI x6), (5, pI x5), (4, pI x4), (3, pI x3), (0, pR (gmo G)), (1, pI x1)] [] σe S) {S : Ms} {x6 : Int32} {x5 : Int32} {x4 : Int32} {x3 : Int32} {x1 : Int32} (h : f_X3_makeNow_21_b k21 S x6 x5 x4 x3 x1 = some (r, Se)) : VV_X3_makeNow l G σ0 (.inl (some (pI r))) σe Se 21 [(6, pI x6), (5, pI x5), (4, pI x4), (3, pI x3), (0, pR (gmo G)), (1, pI x1)] [] σe S := by
  unfold f_X3_makeNow_21_b at h
  refine V_iload (i := 6) 0 dX3_makeNow_21 rfl ?_
  refine V_aload_n (i := 0) 4 dX3_makeNow_23 rfl rfl ?_
  refine V_mrdA hm gf_X3_7 (by decide) rfl dX3_makeNow_24 ?_
  refine V_bipush (v := 8) dX3_makeNow_27 (by decide) ?_
  obtain ⟨y1, e2, h⟩ := bd_s h
  refine V_mel hm e2 (by decide) rfl (by decide) dX3_makeNow_29 ?_
  refine V_icmp_ge 86 dX3_makeNow_30 (by decide) (fun c3 => ?_) (fun c3 => ?_)
  · replace h := it_t c3 h
    refine V_sub [2] rfl ?_
    exact v_X3_makeNow_86 hst hm h
  · replace h := it_f c3 h
    refine V_iload (i := 5) 1 dX3_makeNow_33 rfl ?_
    refine V_if_eq 86 dX3_makeNow_35 (by decide) (fun c4 => ?_) (fun c4 => ?_)
    · replace h := it_t c4 h
      refine V_sub [2] rfl ?_
      exact v_X3_makeNow_86 hst hm h
    · replace h := it_f c4 h
      refine V_iload_n (i := 3) 3 dX3_makeNow_38 rfl rfl ?_
      refine V_iload (i := 6) 0 dX3_makeNow_39 rfl ?_
      refine V_ishr dX3_makeNow_41 ?_
      refine V_iconst (v := 1) dX3_makeNow_42 (by decide) ?_
      refine V_iand dX3_makeNow_43 ?_
      refine V_iconst (v := 1) dX3_makeNow_44 (by decide) ?_
      refine V_icmp_ne 80 dX3_makeNow_45 (by decide) (fun c5 => ?_) (fun c5 => ?_)
      · replace h := it_f c5 h
        refine V_sub [0, 1, 2, 3, 4, 5] rfl ?_
        exact v_X3_makeNow_80 hst hm hk21 h
      · replace h := it_t c5 h
        refine V_aload_n (i := 0) 4 dX3_makeNow_48 rfl rfl ?_
        refine V_iload_n (i := 1) 5 dX3_makeNow_49 rfl rfl ?_
        refine V_iload (i := 6) 0 dX3_makeNow_50 rfl ?_
        obtain ⟨y6, S7, e8, h⟩ := bp_s h
        refine V_callM_v (n9 := 2) [] hm (v_X3_wringNow l G hst hm _ e8) rfl rfl (lw_V q2162 q2164 qs40 q90 q2165) (by decide +kernel) (by decide) (Nat.le_of_ble_eq_true rfl) dX3_makeNow_52 ?_
        refine V_if_ne 62 dX3_makeNow_55 (by decide) (fun c9 => ?_) (fun c9 => ?_)
        · replace h := it_f c9 h
          refine V_iconst (v := 0) dX3_makeNow_62 (by decide) ?_
          refine V_sub [0, 2, 3, 4, 5] rfl ?_
          exact v_X3_makeNow_63 hst hm hk21 h
        · replace h := it_t c9 h
          refine V_iconst (v := 1) dX3_makeNow_58 (by decide) ?_
          refine V_goto 63 dX3_makeNow_59 (by decide) ?_
          refine V_sub [0, 2, 3, 4, 5] rfl ?_
          exact v_X3_makeNow_63 hst hm hk21 h
def f_X3_makeNow_21 : Nat → Ms → Int32 → Int32 → Int32 → Int32 → Int32 → Option (Int32 × Ms)
  | 0, _, _, _, _, _, _ => none
  | n + 1, S, x6, x5, x4, x3, x1 => f_X3_makeNow_21_b (f_X3_makeNow_21 n) S x6 x5 x4 x3 x1
theorem v_X3_makeNow_21 {l : Launch} {G : Gx} (hst : l.stackTraces = false) (hm : gmo G ≠ 0) {σ0 σe : Hp} {Se : Ms} {r : Int32} : ∀ (n : Nat) (S : Ms) (x6 : Int32) (x5 : Int32) (x4 : Int32) (x3 : Int32) (x1 : Int32), f_X3_makeNow_21 n S x6 x5 x4 x3 x1 = some (r, Se) → VV_X3_makeNow l G σ0 (.inl (some (pI r))) σe Se 21 [(6, pI x6), (5, pI x5), (4, pI x4), (3, pI x3), (0, pR (gmo G)), (1, pI x1)] [] σe S
  | 0, _, _, _, _, _, _, h => by cases h
  | n + 1, _, _, _, _, _, _, h => v_X3_makeNow_21_b hst hm (v_X3_makeNow_21 hst hm n) h
def f_X3_makeNow (S : Ms) (x1 : Int32) (x2 : Int32) : Option (Int32 × Ms) :=
  bp (f_X3_fewestFor S x2) fun y1 S2 => if y1 = (0 : Int32) then (some ((-1 : Int32), S2)) else (f_X3_makeNow_21 FU S2 (0 : Int32) (1 : Int32) (0 : Int32) y1 x1)
set_option maxHeartbeats 4000000 in
theorem v_X3_makeNow (l : Launch) (G : Gx) (hst : l.stackTraces = false) (hm : gmo G ≠ 0) (σ : Hp) {S Se : Ms} {x1 : Int32} {x2 : Int32} {r : Int32} (h : f_X3_makeNow S x1 x2 = some (r, Se)) : MT l G yX3_makeNow (ws_ yX3_makeNow cX3_makeNow 7 (some .int)) 6 140 [pR (gmo G), pI x1, pI x2] σ S (.inl (some (pI r))) σ Se := by
  refine MT_of (own := RX3) (nL := 7) (ini := false) (by decide +kernel) rfl (Nat.le_of_ble_eq_true rfl) (fun h => by cases h) hst ?_
  show VV_X3_makeNow l G σ (.inl (some (pI r))) σ Se 0 [(0, pR (gmo G)), (1, pI x1), (2, pI x2)] [] σ S
  unfold f_X3_makeNow at h
  refine V_aload_n (i := 0) 0 dX3_makeNow_0 rfl rfl ?_
  refine V_iload_n (i := 2) 2 dX3_makeNow_1 rfl rfl ?_
  obtain ⟨y1, S2, e3, h⟩ := bp_s h
  refine V_callM_v (n9 := 1) [] hm (v_X3_fewestFor l G hst hm _ e3) rfl rfl (lw_V q2202 q2204 qs47 q90 q2205) (by decide +kernel) (by decide) (Nat.le_of_ble_eq_true rfl) dX3_makeNow_2 ?_
  refine V_istore_n (i := 3) (L' := [(3, pI y1), (0, pR (gmo G)), (1, pI x1), (2, pI x2)]) dX3_makeNow_5 rfl (by decide) rfl ?_
  refine V_iload_n (i := 3) 0 dX3_makeNow_6 rfl rfl ?_
  refine V_if_ne 12 dX3_makeNow_7 (by decide) (fun c4 => ?_) (fun c4 => ?_)
  · replace h := it_f c4 h
    refine V_iconst (v := 0) dX3_makeNow_12 (by decide) ?_
    refine V_istore (i := 4) (L' := [(4, pI (0 : Int32)), (3, pI y1), (0, pR (gmo G)), (1, pI x1), (2, pI x2)]) dX3_makeNow_13 (by decide) rfl ?_
    refine V_iconst (v := 1) dX3_makeNow_15 (by decide) ?_
    refine V_istore (i := 5) (L' := [(5, pI (1 : Int32)), (4, pI (0 : Int32)), (3, pI y1), (0, pR (gmo G)), (1, pI x1), (2, pI x2)]) dX3_makeNow_16 (by decide) rfl ?_
    refine V_iconst (v := 0) dX3_makeNow_18 (by decide) ?_
    refine V_istore (i := 6) (L' := [(6, pI (0 : Int32)), (5, pI (1 : Int32)), (4, pI (0 : Int32)), (3, pI y1), (0, pR (gmo G)), (1, pI x1), (2, pI x2)]) dX3_makeNow_19 (by decide) rfl ?_
    refine V_sub [0, 1, 2, 3, 4, 5] rfl ?_
    exact v_X3_makeNow_21 hst hm FU _ _ _ _ _ _ h
  · replace h := it_t c4 h
    refine V_iconst (v := (-1)) dX3_makeNow_10 (by decide) ?_
    cases h
    exact V_iret rfl dX3_makeNow_11

abbrev VV_X3_make (l : Launch) (G : Gx) (σ0 : Hp) (o : Oc) (σe : Hp) (Se : Ms) := V l G RX3 cX3_make 3 (some .int) [] false 7 166 σ0 o σe Se
def f_X3_make (S : Ms) (x1 : Int32) (x2 : Int32) : Option (Int32 × Ms) :=
  bd (f_X3_isStack x1) fun y1 => if y1 = (0 : Int32) then (bp (f_X3_fails (sM S 5 (0 : Int32)) (1 : Int32)) fun y23 S24 => some (y23, S24)) else (bd (f_X3_isLength x2) fun y4 => if y4 = (0 : Int32) then (bp (f_X3_fails (sM S 5 (0 : Int32)) (2 : Int32)) fun y20 S21 => some (y20, S21)) else (bp (f_X3_height (sM S 5 (0 : Int32)) x1) fun y7 S8 => if y7 ≤ (0 : Int32) then (bp (f_X3_save S8 ) fun e11 S12 => bp (f_X3_makeNow S12 x1 x2) fun y14 S15 => some (y14, S15)) else (bp (f_X3_fails S8 (3 : Int32)) fun y17 S18 => some (y17, S18))))
set_option maxHeartbeats 4000000 in
theorem v_X3_make (l : Launch) (G : Gx) (hst : l.stackTraces = false) (hm : gmo G ≠ 0) (σ : Hp) {S Se : Ms} {x1 : Int32} {x2 : Int32} {r : Int32} (h : f_X3_make S x1 x2 = some (r, Se)) : MT l G yX3_make (ws_ yX3_make cX3_make 3 (some .int)) 7 166 [pR (gmo G), pI x1, pI x2] σ S (.inl (some (pI r))) σ Se := by
  refine MT_of (own := RX3) (nL := 3) (ini := false) (by decide +kernel) rfl (Nat.le_of_ble_eq_true rfl) (fun h => by cases h) hst ?_
  show VV_X3_make l G σ (.inl (some (pI r))) σ Se 0 [(0, pR (gmo G)), (1, pI x1), (2, pI x2)] [] σ S
  unfold f_X3_make at h
  refine V_aload_n (i := 0) 0 dX3_make_0 rfl rfl ?_
  refine V_iconst (v := 0) dX3_make_1 (by decide) ?_
  refine V_mput hm gw_X3_38 (by decide) rfl dX3_make_2 ?_
  refine V_iload_n (i := 1) 1 dX3_make_5 rfl rfl ?_
  obtain ⟨y1, e2, h⟩ := bd_s h
  refine V_callS_v (n9 := 1) [] (v_X3_isStack l G hst _ _ e2) rfl rfl (lw_S q2159 q2160 q90 q2161) (by decide +kernel) (by decide) (Nat.le_of_ble_eq_true rfl) dX3_make_6 ?_
  refine V_if_ne 18 dX3_make_9 (by decide) (fun c3 => ?_) (fun c3 => ?_)
  · replace h := it_f c3 h
    refine V_iload_n (i := 2) 2 dX3_make_18 rfl rfl ?_
    obtain ⟨y4, e5, h⟩ := bd_s h
    refine V_callS_v (n9 := 1) [] (v_X3_isLength l G hst _ _ e5) rfl rfl (lw_S q2194 q2195 q90 q2196) (by decide +kernel) (by decide) (Nat.le_of_ble_eq_true rfl) dX3_make_19 ?_
    refine V_if_ne 31 dX3_make_22 (by decide) (fun c6 => ?_) (fun c6 => ?_)
    · replace h := it_f c6 h
      refine V_aload_n (i := 0) 0 dX3_make_31 rfl rfl ?_
      refine V_iload_n (i := 1) 1 dX3_make_32 rfl rfl ?_
      obtain ⟨y7, S8, e9, h⟩ := bp_s h
      refine V_callM_v (n9 := 1) [] hm (v_X3_height l G hst hm _ e9) rfl rfl (lw_V q2170 q2172 qs42 q90 q2173) (by decide +kernel) (by decide) (Nat.le_of_ble_eq_true rfl) dX3_make_33 ?_
      refine V_if_le 45 dX3_make_36 (by decide) (fun c10 => ?_) (fun c10 => ?_)
      · replace h := it_t c10 h
        refine V_aload_n (i := 0) 0 dX3_make_45 rfl rfl ?_
        obtain ⟨e11, S12, e13, h⟩ := bp_s h
        refine V_callM_0 (n9 := 0) [] hm (v_X3_save l G hst hm _ e13) rfl rfl (lw_V q2077 q2079 qs29 q90 q2080) (by decide +kernel) (by decide) (Nat.le_of_ble_eq_true rfl) dX3_make_46 ?_
        refine V_aload_n (i := 0) 0 dX3_make_49 rfl rfl ?_
        refine V_iload_n (i := 1) 1 dX3_make_50 rfl rfl ?_
        refine V_iload_n (i := 2) 2 dX3_make_51 rfl rfl ?_
        obtain ⟨y14, S15, e16, h⟩ := bp_s h
        refine V_callM_v (n9 := 2) [] hm (v_X3_makeNow l G hst hm _ e16) rfl rfl (lw_V q2198 q2200 qs46 q90 q2201) (by decide +kernel) (by decide) (Nat.le_of_ble_eq_true rfl) dX3_make_52 ?_
        cases h
        exact V_iret rfl dX3_make_55
      · replace h := it_f c10 h
        refine V_aload_n (i := 0) 0 dX3_make_39 rfl rfl ?_
        refine V_iconst (v := 3) dX3_make_40 (by decide) ?_
        obtain ⟨y17, S18, e19, h⟩ := bp_s h
        refine V_callM_v (n9 := 1) [] hm (v_X3_fails l G hst hm _ e19) rfl rfl (lw_V q2062 q2064 qs28 q90 q2065) (by decide +kernel) (by decide) (Nat.le_of_ble_eq_true rfl) dX3_make_41 ?_
        cases h
        exact V_iret rfl dX3_make_44
    · replace h := it_t c6 h
      refine V_aload_n (i := 0) 0 dX3_make_25 rfl rfl ?_
      refine V_iconst (v := 2) dX3_make_26 (by decide) ?_
      obtain ⟨y20, S21, e22, h⟩ := bp_s h
      refine V_callM_v (n9 := 1) [] hm (v_X3_fails l G hst hm _ e22) rfl rfl (lw_V q2062 q2064 qs28 q90 q2065) (by decide +kernel) (by decide) (Nat.le_of_ble_eq_true rfl) dX3_make_27 ?_
      cases h
      exact V_iret rfl dX3_make_30
  · replace h := it_t c3 h
    refine V_aload_n (i := 0) 0 dX3_make_12 rfl rfl ?_
    refine V_iconst (v := 1) dX3_make_13 (by decide) ?_
    obtain ⟨y23, S24, e25, h⟩ := bp_s h
    refine V_callM_v (n9 := 1) [] hm (v_X3_fails l G hst hm _ e25) rfl rfl (lw_V q2062 q2064 qs28 q90 q2065) (by decide +kernel) (by decide) (Nat.le_of_ble_eq_true rfl) dX3_make_14 ?_
    cases h
    exact V_iret rfl dX3_make_17

abbrev VV_X3_append (l : Launch) (G : Gx) (σ0 : Hp) (o : Oc) (σe : Hp) (Se : Ms) := V l G RX3 cX3_append 2 (some .int) [] false 2 52 σ0 o σe Se
def f_X3_append (S : Ms) (x1 : Int32) : Option (Int32 × Ms) :=
  bd (f_X3_in x1 (33 : Int32) (126 : Int32)) fun y1 => if y1 = (0 : Int32) then (bp (f_X3_fails (sM S 5 (0 : Int32)) (1 : Int32)) fun y10 S11 => some (y10, S11)) else (if ((sM S 5 (0 : Int32)).1 9) = (60 : Int32) then (bp (f_X3_fails (sM S 5 (0 : Int32)) (2 : Int32)) fun y7 S8 => some (y7, S8)) else (bd (mwr (sM S 5 (0 : Int32)) 8 60 ((sM S 5 (0 : Int32)).1 9) x1) fun S5 => some (((sM S5 9 ((S5.1 9) + (1 : Int32))).1 9), (sM S5 9 ((S5.1 9) + (1 : Int32))))))
set_option maxHeartbeats 4000000 in
theorem v_X3_append (l : Launch) (G : Gx) (hst : l.stackTraces = false) (hm : gmo G ≠ 0) (σ : Hp) {S Se : Ms} {x1 : Int32} {r : Int32} (h : f_X3_append S x1 = some (r, Se)) : MT l G yX3_append (ws_ yX3_append cX3_append 2 (some .int)) 2 52 [pR (gmo G), pI x1] σ S (.inl (some (pI r))) σ Se := by
  refine MT_of (own := RX3) (nL := 2) (ini := false) (by decide +kernel) rfl (Nat.le_of_ble_eq_true rfl) (fun h => by cases h) hst ?_
  show VV_X3_append l G σ (.inl (some (pI r))) σ Se 0 [(0, pR (gmo G)), (1, pI x1)] [] σ S
  unfold f_X3_append at h
  refine V_aload_n (i := 0) 0 dX3_append_0 rfl rfl ?_
  refine V_iconst (v := 0) dX3_append_1 (by decide) ?_
  refine V_mput hm gw_X3_38 (by decide) rfl dX3_append_2 ?_
  refine V_iload_n (i := 1) 1 dX3_append_5 rfl rfl ?_
  refine V_bipush (v := 33) dX3_append_6 (by decide) ?_
  refine V_bipush (v := 126) dX3_append_8 (by decide) ?_
  obtain ⟨y1, e2, h⟩ := bd_s h
  refine V_callS_v (n9 := 3) [] (v_X3_in l G hst _ _ e2) rfl rfl (lw_S q2070 q2071 q90 q2072) (by decide +kernel) (by decide) (Nat.le_of_ble_eq_true rfl) dX3_append_10 ?_
  refine V_if_ne 22 dX3_append_13 (by decide) (fun c3 => ?_) (fun c3 => ?_)
  · replace h := it_f c3 h
    refine V_aload_n (i := 0) 0 dX3_append_22 rfl rfl ?_
    refine V_mrdI hm gf_X3_147 (by decide) rfl dX3_append_23 ?_
    refine V_bipush (v := 60) dX3_append_26 (by decide) ?_
    refine V_icmp_ne 37 dX3_append_28 (by decide) (fun c4 => ?_) (fun c4 => ?_)
    · replace h := it_f c4 h
      refine V_aload_n (i := 0) 0 dX3_append_37 rfl rfl ?_
      refine V_mrdA hm gf_X3_26 (by decide) rfl dX3_append_38 ?_
      refine V_aload_n (i := 0) 0 dX3_append_41 rfl rfl ?_
      refine V_mrdI hm gf_X3_147 (by decide) rfl dX3_append_42 ?_
      refine V_iload_n (i := 1) 1 dX3_append_45 rfl rfl ?_
      obtain ⟨S5, e6, h⟩ := bd_s h
      refine V_mst hm e6 (by decide) rfl (by decide) dX3_append_46 ?_
      refine V_aload_n (i := 0) 0 dX3_append_47 rfl rfl ?_
      refine V_dup dX3_append_48 rfl ?_
      refine V_mrdI hm gf_X3_147 (by decide) rfl dX3_append_49 ?_
      refine V_iconst (v := 1) dX3_append_52 (by decide) ?_
      refine V_iadd dX3_append_53 ?_
      refine V_mput hm gw_X3_147 (by decide) rfl dX3_append_54 ?_
      refine V_aload_n (i := 0) 0 dX3_append_57 rfl rfl ?_
      refine V_mrdI hm gf_X3_147 (by decide) rfl dX3_append_58 ?_
      cases h
      exact V_iret rfl dX3_append_61
    · replace h := it_t c4 h
      refine V_aload_n (i := 0) 0 dX3_append_31 rfl rfl ?_
      refine V_iconst (v := 2) dX3_append_32 (by decide) ?_
      obtain ⟨y7, S8, e9, h⟩ := bp_s h
      refine V_callM_v (n9 := 1) [] hm (v_X3_fails l G hst hm _ e9) rfl rfl (lw_V q2062 q2064 qs28 q90 q2065) (by decide +kernel) (by decide) (Nat.le_of_ble_eq_true rfl) dX3_append_33 ?_
      cases h
      exact V_iret rfl dX3_append_36
  · replace h := it_t c3 h
    refine V_aload_n (i := 0) 0 dX3_append_16 rfl rfl ?_
    refine V_iconst (v := 1) dX3_append_17 (by decide) ?_
    obtain ⟨y10, S11, e12, h⟩ := bp_s h
    refine V_callM_v (n9 := 1) [] hm (v_X3_fails l G hst hm _ e12) rfl rfl (lw_V q2062 q2064 qs28 q90 q2065) (by decide +kernel) (by decide) (Nat.le_of_ble_eq_true rfl) dX3_append_18 ?_
    cases h
    exact V_iret rfl dX3_append_21

abbrev VV_X3_clearBuffer (l : Launch) (G : Gx) (σ0 : Hp) (o : Oc) (σe : Hp) (Se : Ms) := V l G RX3 cX3_clearBuffer 2 (some .int) [] false 1 30 σ0 o σe Se
def f_X3_clearBuffer (S : Ms) : Option (Int32 × Ms) :=
  some (((sM S 5 (0 : Int32)).1 9), (sM (sM S 5 (0 : Int32)) 9 (0 : Int32)))
set_option maxHeartbeats 4000000 in
theorem v_X3_clearBuffer (l : Launch) (G : Gx) (hst : l.stackTraces = false) (hm : gmo G ≠ 0) (σ : Hp) {S Se : Ms} {r : Int32} (h : f_X3_clearBuffer S  = some (r, Se)) : MT l G yX3_clearBuffer (ws_ yX3_clearBuffer cX3_clearBuffer 2 (some .int)) 1 30 [pR (gmo G)] σ S (.inl (some (pI r))) σ Se := by
  refine MT_of (own := RX3) (nL := 2) (ini := false) (by decide +kernel) rfl (Nat.le_of_ble_eq_true rfl) (fun h => by cases h) hst ?_
  show VV_X3_clearBuffer l G σ (.inl (some (pI r))) σ Se 0 [(0, pR (gmo G))] [] σ S
  unfold f_X3_clearBuffer at h
  refine V_aload_n (i := 0) 0 dX3_clearBuffer_0 rfl rfl ?_
  refine V_iconst (v := 0) dX3_clearBuffer_1 (by decide) ?_
  refine V_mput hm gw_X3_38 (by decide) rfl dX3_clearBuffer_2 ?_
  refine V_aload_n (i := 0) 0 dX3_clearBuffer_5 rfl rfl ?_
  refine V_mrdI hm gf_X3_147 (by decide) rfl dX3_clearBuffer_6 ?_
  refine V_istore_n (i := 1) (L' := [(1, pI ((sM S 5 (0 : Int32)).1 9)), (0, pR (gmo G))]) dX3_clearBuffer_9 rfl (by decide) rfl ?_
  refine V_aload_n (i := 0) 1 dX3_clearBuffer_10 rfl rfl ?_
  refine V_iconst (v := 0) dX3_clearBuffer_11 (by decide) ?_
  refine V_mput hm gw_X3_147 (by decide) rfl dX3_clearBuffer_12 ?_
  refine V_iload_n (i := 1) 0 dX3_clearBuffer_15 rfl rfl ?_
  cases h
  exact V_iret rfl dX3_clearBuffer_16

abbrev VV_X3_isAt (l : Launch) (G : Gx) (σ0 : Hp) (o : Oc) (σe : Hp) (Se : Ms) := V l G RX3 cX3_isAt 3 (some .boolean) [] false 2 52 σ0 o σe Se
def f_X3_isAt_33 (S : Ms) (s0 : Int32) : Option (Int32 × Ms) :=
  bd (okZ s0) fun e1 => some (s0, S)
set_option maxHeartbeats 4000000 in
theorem v_X3_isAt_33 {l : Launch} {G : Gx} (hst : l.stackTraces = false) (hm : gmo G ≠ 0) {σ0 σe : Hp} {Se : Ms} {r : Int32} {S : Ms} {s0 : Int32} (h : f_X3_isAt_33 S s0 = some (r, Se)) : VV_X3_isAt l G σ0 (.inl (some (pI r))) σe Se 33 [] [pI s0] σe S := by
  unfold f_X3_isAt_33 at h
  obtain ⟨e1, e2, h⟩ := bd_s h
  cases h
  exact V_retZ e2 rfl dX3_isAt_33
def f_X3_isAt_32 (S : Ms) : Option (Int32 × Ms) :=
  f_X3_isAt_33 S (0 : Int32)
set_option maxHeartbeats 4000000 in
theorem v_X3_isAt_32 {l : Launch} {G : Gx} (hst : l.stackTraces = false) (hm : gmo G ≠ 0) {σ0 σe : Hp} {Se : Ms} {r : Int32} {S : Ms} (h : f_X3_isAt_32 S  = some (r, Se)) : VV_X3_isAt l G σ0 (.inl (some (pI r))) σe Se 32 [] [] σe S := by
  unfold f_X3_isAt_32 at h
  refine V_iconst (v := 0) dX3_isAt_32 (by decide) ?_
  refine V_sub [] rfl ?_
  exact v_X3_isAt_33 hst hm h
def f_X3_isAt (S : Ms) (x1 : Int32) (x2 : Int32) : Option (Int32 × Ms) :=
  if (S.1 9) ≤ (S.1 10) then (f_X3_isAt_32 S ) else (bd (mrd S 8 60 (S.1 10)) fun y2 => bd (f_X3_in y2 x1 x2) fun y4 => if y4 = (0 : Int32) then (f_X3_isAt_32 S ) else (f_X3_isAt_33 S (1 : Int32)))
set_option maxHeartbeats 4000000 in
theorem v_X3_isAt (l : Launch) (G : Gx) (hst : l.stackTraces = false) (hm : gmo G ≠ 0) (σ : Hp) {S Se : Ms} {x1 : Int32} {x2 : Int32} {r : Int32} (h : f_X3_isAt S x1 x2 = some (r, Se)) : MT l G yX3_isAt (ws_ yX3_isAt cX3_isAt 3 (some .boolean)) 2 52 [pR (gmo G), pI x1, pI x2] σ S (.inl (some (pI r))) σ Se := by
  refine MT_of (own := RX3) (nL := 3) (ini := false) (by decide +kernel) rfl (Nat.le_of_ble_eq_true rfl) (fun h => by cases h) hst ?_
  show VV_X3_isAt l G σ (.inl (some (pI r))) σ Se 0 [(0, pR (gmo G)), (1, pI x1), (2, pI x2)] [] σ S
  unfold f_X3_isAt at h
  refine V_aload_n (i := 0) 0 dX3_isAt_0 rfl rfl ?_
  refine V_mrdI hm gf_X3_150 (by decide) rfl dX3_isAt_1 ?_
  refine V_aload_n (i := 0) 0 dX3_isAt_4 rfl rfl ?_
  refine V_mrdI hm gf_X3_147 (by decide) rfl dX3_isAt_5 ?_
  refine V_icmp_ge 32 dX3_isAt_8 (by decide) (fun c1 => ?_) (fun c1 => ?_)
  · replace h := it_t c1 h
    refine V_sub [] rfl ?_
    exact v_X3_isAt_32 hst hm h
  · replace h := it_f c1 h
    refine V_aload_n (i := 0) 0 dX3_isAt_11 rfl rfl ?_
    refine V_mrdA hm gf_X3_26 (by decide) rfl dX3_isAt_12 ?_
    refine V_aload_n (i := 0) 0 dX3_isAt_15 rfl rfl ?_
    refine V_mrdI hm gf_X3_150 (by decide) rfl dX3_isAt_16 ?_
    obtain ⟨y2, e3, h⟩ := bd_s h
    refine V_mel hm e3 (by decide) rfl (by decide) dX3_isAt_19 ?_
    refine V_iload_n (i := 1) 1 dX3_isAt_20 rfl rfl ?_
    refine V_iload_n (i := 2) 2 dX3_isAt_21 rfl rfl ?_
    obtain ⟨y4, e5, h⟩ := bd_s h
    refine V_callS_v (n9 := 3) [] (v_X3_in l G hst _ _ e5) rfl rfl (lw_S q2070 q2071 q90 q2072) (by decide +kernel) (by decide) (Nat.le_of_ble_eq_true rfl) dX3_isAt_22 ?_
    refine V_if_eq 32 dX3_isAt_25 (by decide) (fun c6 => ?_) (fun c6 => ?_)
    · replace h := it_t c6 h
      refine V_sub [] rfl ?_
      exact v_X3_isAt_32 hst hm h
    · replace h := it_f c6 h
      refine V_iconst (v := 1) dX3_isAt_28 (by decide) ?_
      refine V_goto 33 dX3_isAt_29 (by decide) ?_
      refine V_sub [] rfl ?_
      exact v_X3_isAt_33 hst hm h

abbrev VV_X3_takes (l : Launch) (G : Gx) (σ0 : Hp) (o : Oc) (σe : Hp) (Se : Ms) := V l G RX3 cX3_takes 3 (some .boolean) [] false 3 74 σ0 o σe Se
def f_X3_takes_21 (S : Ms) (x2 : Int32) (s0 : Int32) (s1 : Int32) : Option (Int32 × Ms) :=
  bd (okZ x2) fun e1 => some (x2, (sM S 10 (s1 + s0)))
set_option maxHeartbeats 4000000 in
theorem v_X3_takes_21 {l : Launch} {G : Gx} (hst : l.stackTraces = false) (hm : gmo G ≠ 0) {σ0 σe : Hp} {Se : Ms} {r : Int32} {S : Ms} {x2 : Int32} {s0 : Int32} {s1 : Int32} (h : f_X3_takes_21 S x2 s0 s1 = some (r, Se)) : VV_X3_takes l G σ0 (.inl (some (pI r))) σe Se 21 [(2, pI x2)] [pI s0, pI s1, pR (gmo G)] σe S := by
  unfold f_X3_takes_21 at h
  refine V_iadd dX3_takes_21 ?_
  refine V_mput hm gw_X3_150 (by decide) rfl dX3_takes_22 ?_
  refine V_iload_n (i := 2) 0 dX3_takes_25 rfl rfl ?_
  obtain ⟨e1, e2, h⟩ := bd_s h
  cases h
  exact V_retZ e2 rfl dX3_takes_26
def f_X3_takes (S : Ms) (x1 : Int32) : Option (Int32 × Ms) :=
  bp (f_X3_isAt S x1 x1) fun y1 S2 => if y1 = (0 : Int32) then (f_X3_takes_21 S2 y1 (0 : Int32) (S2.1 10)) else (f_X3_takes_21 S2 y1 (1 : Int32) (S2.1 10))
set_option maxHeartbeats 4000000 in
theorem v_X3_takes (l : Launch) (G : Gx) (hst : l.stackTraces = false) (hm : gmo G ≠ 0) (σ : Hp) {S Se : Ms} {x1 : Int32} {r : Int32} (h : f_X3_takes S x1 = some (r, Se)) : MT l G yX3_takes (ws_ yX3_takes cX3_takes 3 (some .boolean)) 3 74 [pR (gmo G), pI x1] σ S (.inl (some (pI r))) σ Se := by
  refine MT_of (own := RX3) (nL := 3) (ini := false) (by decide +kernel) rfl (Nat.le_of_ble_eq_true rfl) (fun h => by cases h) hst ?_
  show VV_X3_takes l G σ (.inl (some (pI r))) σ Se 0 [(0, pR (gmo G)), (1, pI x1)] [] σ S
  unfold f_X3_takes at h
  refine V_aload_n (i := 0) 0 dX3_takes_0 rfl rfl ?_
  refine V_iload_n (i := 1) 1 dX3_takes_1 rfl rfl ?_
  refine V_iload_n (i := 1) 1 dX3_takes_2 rfl rfl ?_
  obtain ⟨y1, S2, e3, h⟩ := bp_s h
  refine V_callM_v (n9 := 2) [] hm (v_X3_isAt l G hst hm _ e3) rfl rfl (lw_V q2249 q2251 qs55 q90 q2252) (by decide +kernel) (by decide) (Nat.le_of_ble_eq_true rfl) dX3_takes_3 ?_
  refine V_istore_n (i := 2) (L' := [(2, pI y1), (0, pR (gmo G)), (1, pI x1)]) dX3_takes_6 rfl (by decide) rfl ?_
  refine V_aload_n (i := 0) 1 dX3_takes_7 rfl rfl ?_
  refine V_dup dX3_takes_8 rfl ?_
  refine V_mrdI hm gf_X3_150 (by decide) rfl dX3_takes_9 ?_
  refine V_iload_n (i := 2) 0 dX3_takes_12 rfl rfl ?_
  refine V_if_eq 20 dX3_takes_13 (by decide) (fun c4 => ?_) (fun c4 => ?_)
  · replace h := it_t c4 h
    refine V_iconst (v := 0) dX3_takes_20 (by decide) ?_
    refine V_sub [0] rfl ?_
    exact v_X3_takes_21 hst hm h
  · replace h := it_f c4 h
    refine V_iconst (v := 1) dX3_takes_16 (by decide) ?_
    refine V_goto 21 dX3_takes_17 (by decide) ?_
    refine V_sub [0] rfl ?_
    exact v_X3_takes_21 hst hm h

abbrev VV_X3_reads (l : Launch) (G : Gx) (σ0 : Hp) (o : Oc) (σe : Hp) (Se : Ms) := V l G RX3 cX3_reads 3 (some .boolean) [] false 3 74 σ0 o σe Se
def f_X3_reads_36 (S : Ms) : Option (Int32 × Ms) :=
  bd (okZ (0 : Int32)) fun e1 => some ((0 : Int32), S)
set_option maxHeartbeats 4000000 in
theorem v_X3_reads_36 {l : Launch} {G : Gx} (hst : l.stackTraces = false) (hm : gmo G ≠ 0) {σ0 σe : Hp} {Se : Ms} {r : Int32} {S : Ms} (h : f_X3_reads_36 S  = some (r, Se)) : VV_X3_reads l G σ0 (.inl (some (pI r))) σe Se 36 [] [] σe S := by
  unfold f_X3_reads_36 at h
  refine V_iconst (v := 0) dX3_reads_36 (by decide) ?_
  obtain ⟨e1, e2, h⟩ := bd_s h
  cases h
  exact V_retZ e2 rfl dX3_reads_37
def f_X3_reads_156 (S : Ms) (s0 : Int32) : Option (Int32 × Ms) :=
  bd (okZ s0) fun e1 => some (s0, S)
set_option maxHeartbeats 4000000 in
theorem v_X3_reads_156 {l : Launch} {G : Gx} (hst : l.stackTraces = false) (hm : gmo G ≠ 0) {σ0 σe : Hp} {Se : Ms} {r : Int32} {S : Ms} {s0 : Int32} (h : f_X3_reads_156 S s0 = some (r, Se)) : VV_X3_reads l G σ0 (.inl (some (pI r))) σe Se 156 [] [pI s0] σe S := by
  unfold f_X3_reads_156 at h
  obtain ⟨e1, e2, h⟩ := bd_s h
  cases h
  exact V_retZ e2 rfl dX3_reads_156
def f_X3_reads_143 (S : Ms) (x1 : Int32) : Option (Int32 × Ms) :=
  if (S.1 11) < x1 then (f_X3_reads_156 S (0 : Int32)) else (f_X3_reads_156 S (1 : Int32))
set_option maxHeartbeats 4000000 in
theorem v_X3_reads_143 {l : Launch} {G : Gx} (hst : l.stackTraces = false) (hm : gmo G ≠ 0) {σ0 σe : Hp} {Se : Ms} {r : Int32} {S : Ms} {x1 : Int32} (h : f_X3_reads_143 S x1 = some (r, Se)) : VV_X3_reads l G σ0 (.inl (some (pI r))) σe Se 143 [(0, pR (gmo G)), (1, pI x1)] [] σe S := by
  unfold f_X3_reads_143 at h
  refine V_aload_n (i := 0) 0 dX3_reads_143 rfl rfl ?_
  refine V_mrdI hm gf_X3_156 (by decide) rfl dX3_reads_144 ?_
  refine V_iload_n (i := 1) 1 dX3_reads_147 rfl rfl ?_
  refine V_icmp_lt 155 dX3_reads_148 (by decide) (fun c1 => ?_) (fun c1 => ?_)
  · replace h := it_t c1 h
    refine V_iconst (v := 0) dX3_reads_155 (by decide) ?_
    refine V_sub [] rfl ?_
    exact v_X3_reads_156 hst hm h
  · replace h := it_f c1 h
    refine V_iconst (v := 1) dX3_reads_151 (by decide) ?_
    refine V_goto 156 dX3_reads_152 (by decide) ?_
    refine V_sub [] rfl ?_
    exact v_X3_reads_156 hst hm h
def f_X3_reads_64_b (k64 : Ms → Int32 → Int32 → Option (Int32 × Ms)) (S : Ms) (x1 : Int32) (x2 : Int32) : Option (Int32 × Ms) :=
  if (S.1 11) ≤ (0 : Int32) then (f_X3_reads_143 S x1) else (bp (f_X3_isAt S (48 : Int32) (57 : Int32)) fun y2 S3 => if y2 = (0 : Int32) then (f_X3_reads_143 S3 x1) else (bd (mrd S3 8 60 (S3.1 10)) fun y6 => if x2 < ((((10 : Int32) * (S3.1 11)) + y6) - (48 : Int32)) then (f_X3_reads_143 S3 x1) else (bd (mrd S3 8 60 (S3.1 10)) fun y9 => k64 (sM (sM S3 11 ((((10 : Int32) * (S3.1 11)) + y9) - (48 : Int32))) 10 (((sM S3 11 ((((10 : Int32) * (S3.1 11)) + y9) - (48 : Int32))).1 10) + (1 : Int32))) x1 x2)))
set_option maxHeartbeats 4000000 in
theorem v_X3_reads_64_b {l : Launch} {G : Gx} (hst : l.stackTraces = false) (hm : gmo G ≠ 0) {σ0 σe : Hp} {Se : Ms} {r : Int32} {k64 : Ms → Int32 → Int32 → Option (Int32 × Ms)} (hk64 : ∀ (S : Ms) (x1 : Int32) (x2 : Int32), k64 S x1 x2 = some (r, Se) → VV_X3_reads l G σ0 (.inl (some (pI r))) σe Se 64 [(0, pR (gmo G)), (1, pI x1), (2, pI x2)] [] σe S) {S : Ms} {x1 : Int32} {x2 : Int32} (h : f_X3_reads_64_b k64 S x1 x2 = some (r, Se)) : VV_X3_reads l G σ0 (.inl (some (pI r))) σe Se 64 [(0, pR (gmo G)), (1, pI x1), (2, pI x2)] [] σe S := by
  unfold f_X3_reads_64_b at h
  refine V_aload_n (i := 0) 0 dX3_reads_64 rfl rfl ?_
  refine V_mrdI hm gf_X3_156 (by decide) rfl dX3_reads_65 ?_
  refine V_if_le 143 dX3_reads_68 (by decide) (fun c1 => ?_) (fun c1 => ?_)
  · replace h := it_t c1 h
    refine V_sub [0, 1] rfl ?_
    exact v_X3_reads_143 hst hm h
  · replace h := it_f c1 h
    refine V_aload_n (i := 0) 0 dX3_reads_71 rfl rfl ?_
    refine V_bipush (v := 48) dX3_reads_72 (by decide) ?_
    refine V_bipush (v := 57) dX3_reads_74 (by decide) ?_
    obtain ⟨y2, S3, e4, h⟩ := bp_s h
    refine V_callM_v (n9 := 2) [] hm (v_X3_isAt l G hst hm _ e4) rfl rfl (lw_V q2249 q2251 qs55 q90 q2252) (by decide +kernel) (by decide) (Nat.le_of_ble_eq_true rfl) dX3_reads_76 ?_
    refine V_if_eq 143 dX3_reads_79 (by decide) (fun c5 => ?_) (fun c5 => ?_)
    · replace h := it_t c5 h
      refine V_sub [0, 1] rfl ?_
      exact v_X3_reads_143 hst hm h
    · replace h := it_f c5 h
      refine V_bipush (v := 10) dX3_reads_82 (by decide) ?_
      refine V_aload_n (i := 0) 0 dX3_reads_84 rfl rfl ?_
      refine V_mrdI hm gf_X3_156 (by decide) rfl dX3_reads_85 ?_
      refine V_imul dX3_reads_88 ?_
      refine V_aload_n (i := 0) 0 dX3_reads_89 rfl rfl ?_
      refine V_mrdA hm gf_X3_26 (by decide) rfl dX3_reads_90 ?_
      refine V_aload_n (i := 0) 0 dX3_reads_93 rfl rfl ?_
      refine V_mrdI hm gf_X3_150 (by decide) rfl dX3_reads_94 ?_
      obtain ⟨y6, e7, h⟩ := bd_s h
      refine V_mel hm e7 (by decide) rfl (by decide) dX3_reads_97 ?_
      refine V_iadd dX3_reads_98 ?_
      refine V_bipush (v := 48) dX3_reads_99 (by decide) ?_
      refine V_isub dX3_reads_101 ?_
      refine V_iload_n (i := 2) 2 dX3_reads_102 rfl rfl ?_
      refine V_icmp_gt 143 dX3_reads_103 (by decide) (fun c8 => ?_) (fun c8 => ?_)
      · replace h := it_t c8 h
        refine V_sub [0, 1] rfl ?_
        exact v_X3_reads_143 hst hm h
      · replace h := it_f c8 h
        refine V_aload_n (i := 0) 0 dX3_reads_106 rfl rfl ?_
        refine V_bipush (v := 10) dX3_reads_107 (by decide) ?_
        refine V_aload_n (i := 0) 0 dX3_reads_109 rfl rfl ?_
        refine V_mrdI hm gf_X3_156 (by decide) rfl dX3_reads_110 ?_
        refine V_imul dX3_reads_113 ?_
        refine V_aload_n (i := 0) 0 dX3_reads_114 rfl rfl ?_
        refine V_mrdA hm gf_X3_26 (by decide) rfl dX3_reads_115 ?_
        refine V_aload_n (i := 0) 0 dX3_reads_118 rfl rfl ?_
        refine V_mrdI hm gf_X3_150 (by decide) rfl dX3_reads_119 ?_
        obtain ⟨y9, e10, h⟩ := bd_s h
        refine V_mel hm e10 (by decide) rfl (by decide) dX3_reads_122 ?_
        refine V_iadd dX3_reads_123 ?_
        refine V_bipush (v := 48) dX3_reads_124 (by decide) ?_
        refine V_isub dX3_reads_126 ?_
        refine V_mput hm gw_X3_156 (by decide) rfl dX3_reads_127 ?_
        refine V_aload_n (i := 0) 0 dX3_reads_130 rfl rfl ?_
        refine V_dup dX3_reads_131 rfl ?_
        refine V_mrdI hm gf_X3_150 (by decide) rfl dX3_reads_132 ?_
        refine V_iconst (v := 1) dX3_reads_135 (by decide) ?_
        refine V_iadd dX3_reads_136 ?_
        refine V_mput hm gw_X3_150 (by decide) rfl dX3_reads_137 ?_
        refine V_goto 64 dX3_reads_140 (by decide) ?_
        refine V_sub [0, 1, 2] rfl ?_
        exact hk64 _ _ _ h
def f_X3_reads_64 : Nat → Ms → Int32 → Int32 → Option (Int32 × Ms)
  | 0, _, _, _ => none
  | n + 1, S, x1, x2 => f_X3_reads_64_b (f_X3_reads_64 n) S x1 x2
theorem v_X3_reads_64 {l : Launch} {G : Gx} (hst : l.stackTraces = false) (hm : gmo G ≠ 0) {σ0 σe : Hp} {Se : Ms} {r : Int32} : ∀ (n : Nat) (S : Ms) (x1 : Int32) (x2 : Int32), f_X3_reads_64 n S x1 x2 = some (r, Se) → VV_X3_reads l G σ0 (.inl (some (pI r))) σe Se 64 [(0, pR (gmo G)), (1, pI x1), (2, pI x2)] [] σe S
  | 0, _, _, _, h => by cases h
  | n + 1, _, _, _, h => v_X3_reads_64_b hst hm (v_X3_reads_64 hst hm n) h
def f_X3_reads_12 (S : Ms) (x1 : Int32) (x2 : Int32) (s0 : Int32) : Option (Int32 × Ms) :=
  bp (f_X3_isAt S s0 (57 : Int32)) fun y1 S2 => if y1 = (0 : Int32) then (f_X3_reads_36 S2 ) else (bd (mrd S2 8 60 (S2.1 10)) fun y5 => if (y5 - (48 : Int32)) ≤ x2 then (bd (mrd S2 8 60 (S2.1 10)) fun y8 => f_X3_reads_64 FU (sM (sM S2 11 (y8 - (48 : Int32))) 10 (((sM S2 11 (y8 - (48 : Int32))).1 10) + (1 : Int32))) x1 x2) else (f_X3_reads_36 S2 ))
set_option maxHeartbeats 4000000 in
theorem v_X3_reads_12 {l : Launch} {G : Gx} (hst : l.stackTraces = false) (hm : gmo G ≠ 0) {σ0 σe : Hp} {Se : Ms} {r : Int32} {S : Ms} {x1 : Int32} {x2 : Int32} {s0 : Int32} (h : f_X3_reads_12 S x1 x2 s0 = some (r, Se)) : VV_X3_reads l G σ0 (.inl (some (pI r))) σe Se 12 [(0, pR (gmo G)), (1, pI x1), (2, pI x2)] [pI s0, pR (gmo G)] σe S := by
  unfold f_X3_reads_12 at h
  refine V_bipush (v := 57) dX3_reads_12 (by decide) ?_
  obtain ⟨y1, S2, e3, h⟩ := bp_s h
  refine V_callM_v (n9 := 2) [] hm (v_X3_isAt l G hst hm _ e3) rfl rfl (lw_V q2249 q2251 qs55 q90 q2252) (by decide +kernel) (by decide) (Nat.le_of_ble_eq_true rfl) dX3_reads_14 ?_
  refine V_if_eq 36 dX3_reads_17 (by decide) (fun c4 => ?_) (fun c4 => ?_)
  · replace h := it_t c4 h
    refine V_sub [] rfl ?_
    exact v_X3_reads_36 hst hm h
  · replace h := it_f c4 h
    refine V_aload_n (i := 0) 0 dX3_reads_20 rfl rfl ?_
    refine V_mrdA hm gf_X3_26 (by decide) rfl dX3_reads_21 ?_
    refine V_aload_n (i := 0) 0 dX3_reads_24 rfl rfl ?_
    refine V_mrdI hm gf_X3_150 (by decide) rfl dX3_reads_25 ?_
    obtain ⟨y5, e6, h⟩ := bd_s h
    refine V_mel hm e6 (by decide) rfl (by decide) dX3_reads_28 ?_
    refine V_bipush (v := 48) dX3_reads_29 (by decide) ?_
    refine V_isub dX3_reads_31 ?_
    refine V_iload_n (i := 2) 2 dX3_reads_32 rfl rfl ?_
    refine V_icmp_le 38 dX3_reads_33 (by decide) (fun c7 => ?_) (fun c7 => ?_)
    · replace h := it_t c7 h
      refine V_aload_n (i := 0) 0 dX3_reads_38 rfl rfl ?_
      refine V_aload_n (i := 0) 0 dX3_reads_39 rfl rfl ?_
      refine V_mrdA hm gf_X3_26 (by decide) rfl dX3_reads_40 ?_
      refine V_aload_n (i := 0) 0 dX3_reads_43 rfl rfl ?_
      refine V_mrdI hm gf_X3_150 (by decide) rfl dX3_reads_44 ?_
      obtain ⟨y8, e9, h⟩ := bd_s h
      refine V_mel hm e9 (by decide) rfl (by decide) dX3_reads_47 ?_
      refine V_bipush (v := 48) dX3_reads_48 (by decide) ?_
      refine V_isub dX3_reads_50 ?_
      refine V_mput hm gw_X3_156 (by decide) rfl dX3_reads_51 ?_
      refine V_aload_n (i := 0) 0 dX3_reads_54 rfl rfl ?_
      refine V_dup dX3_reads_55 rfl ?_
      refine V_mrdI hm gf_X3_150 (by decide) rfl dX3_reads_56 ?_
      refine V_iconst (v := 1) dX3_reads_59 (by decide) ?_
      refine V_iadd dX3_reads_60 ?_
      refine V_mput hm gw_X3_150 (by decide) rfl dX3_reads_61 ?_
      refine V_sub [0, 1, 2] rfl ?_
      exact v_X3_reads_64 hst hm FU _ _ _ h
    · replace h := it_f c7 h
      refine V_sub [] rfl ?_
      exact v_X3_reads_36 hst hm h
def f_X3_reads (S : Ms) (x1 : Int32) (x2 : Int32) : Option (Int32 × Ms) :=
  if x1 ≤ (0 : Int32) then (f_X3_reads_12 S x1 x2 (48 : Int32)) else (f_X3_reads_12 S x1 x2 (49 : Int32))
set_option maxHeartbeats 4000000 in
theorem v_X3_reads (l : Launch) (G : Gx) (hst : l.stackTraces = false) (hm : gmo G ≠ 0) (σ : Hp) {S Se : Ms} {x1 : Int32} {x2 : Int32} {r : Int32} (h : f_X3_reads S x1 x2 = some (r, Se)) : MT l G yX3_reads (ws_ yX3_reads cX3_reads 3 (some .boolean)) 3 74 [pR (gmo G), pI x1, pI x2] σ S (.inl (some (pI r))) σ Se := by
  refine MT_of (own := RX3) (nL := 3) (ini := false) (by decide +kernel) rfl (Nat.le_of_ble_eq_true rfl) (fun h => by cases h) hst ?_
  show VV_X3_reads l G σ (.inl (some (pI r))) σ Se 0 [(0, pR (gmo G)), (1, pI x1), (2, pI x2)] [] σ S
  unfold f_X3_reads at h
  refine V_aload_n (i := 0) 0 dX3_reads_0 rfl rfl ?_
  refine V_iload_n (i := 1) 1 dX3_reads_1 rfl rfl ?_
  refine V_if_le 10 dX3_reads_2 (by decide) (fun c1 => ?_) (fun c1 => ?_)
  · replace h := it_t c1 h
    refine V_bipush (v := 48) dX3_reads_10 (by decide) ?_
    refine V_sub [0, 1, 2] rfl ?_
    exact v_X3_reads_12 hst hm h
  · replace h := it_f c1 h
    refine V_bipush (v := 49) dX3_reads_5 (by decide) ?_
    refine V_goto 12 dX3_reads_7 (by decide) ?_
    refine V_sub [0, 1, 2] rfl ?_
    exact v_X3_reads_12 hst hm h

abbrev VV_X3_readNumbers (l : Launch) (G : Gx) (σ0 : Hp) (o : Oc) (σe : Hp) (Se : Ms) := V l G RX3 cX3_readNumbers 2 (some .boolean) [] false 4 96 σ0 o σe Se
def f_X3_readNumbers_167 (S : Ms) (s0 : Int32) : Option (Int32 × Ms) :=
  bd (okZ s0) fun e1 => some (s0, S)
set_option maxHeartbeats 4000000 in
theorem v_X3_readNumbers_167 {l : Launch} {G : Gx} (hst : l.stackTraces = false) (hm : gmo G ≠ 0) {σ0 σe : Hp} {Se : Ms} {r : Int32} {S : Ms} {s0 : Int32} (h : f_X3_readNumbers_167 S s0 = some (r, Se)) : VV_X3_readNumbers l G σ0 (.inl (some (pI r))) σe Se 167 [] [pI s0] σe S := by
  unfold f_X3_readNumbers_167 at h
  obtain ⟨e1, e2, h⟩ := bd_s h
  cases h
  exact V_retZ e2 rfl dX3_readNumbers_167
def f_X3_readNumbers_166 (S : Ms) : Option (Int32 × Ms) :=
  f_X3_readNumbers_167 S (0 : Int32)
set_option maxHeartbeats 4000000 in
theorem v_X3_readNumbers_166 {l : Launch} {G : Gx} (hst : l.stackTraces = false) (hm : gmo G ≠ 0) {σ0 σe : Hp} {Se : Ms} {r : Int32} {S : Ms} (h : f_X3_readNumbers_166 S  = some (r, Se)) : VV_X3_readNumbers l G σ0 (.inl (some (pI r))) σe Se 166 [] [] σe S := by
  unfold f_X3_readNumbers_166 at h
  refine V_iconst (v := 0) dX3_readNumbers_166 (by decide) ?_
  refine V_sub [] rfl ?_
  exact v_X3_readNumbers_167 hst hm h
def f_X3_readNumbers_110 (S : Ms) (s0 : Int32) : Option (Int32 × Ms) :=
  bd (okZ s0) fun e1 => some (s0, S)
set_option maxHeartbeats 4000000 in
theorem v_X3_readNumbers_110 {l : Launch} {G : Gx} (hst : l.stackTraces = false) (hm : gmo G ≠ 0) {σ0 σe : Hp} {Se : Ms} {r : Int32} {S : Ms} {s0 : Int32} (h : f_X3_readNumbers_110 S s0 = some (r, Se)) : VV_X3_readNumbers l G σ0 (.inl (some (pI r))) σe Se 110 [] [pI s0] σe S := by
  unfold f_X3_readNumbers_110 at h
  obtain ⟨e1, e2, h⟩ := bd_s h
  cases h
  exact V_retZ e2 rfl dX3_readNumbers_110
def f_X3_readNumbers_109 (S : Ms) : Option (Int32 × Ms) :=
  f_X3_readNumbers_110 S (0 : Int32)
set_option maxHeartbeats 4000000 in
theorem v_X3_readNumbers_109 {l : Launch} {G : Gx} (hst : l.stackTraces = false) (hm : gmo G ≠ 0) {σ0 σe : Hp} {Se : Ms} {r : Int32} {S : Ms} (h : f_X3_readNumbers_109 S  = some (r, Se)) : VV_X3_readNumbers l G σ0 (.inl (some (pI r))) σe Se 109 [] [] σe S := by
  unfold f_X3_readNumbers_109 at h
  refine V_iconst (v := 0) dX3_readNumbers_109 (by decide) ?_
  refine V_sub [] rfl ?_
  exact v_X3_readNumbers_110 hst hm h
def f_X3_readNumbers (S : Ms) (x1 : Int32) : Option (Int32 × Ms) :=
  if x1 = (98 : Int32) then (bp (f_X3_reads S (500 : Int32) (100000 : Int32)) fun y2 S3 => bd (okZ y2) fun e5 => some (y2, S3)) else (if x1 = (104 : Int32) then (bp (f_X3_reads S (0 : Int32) (19 : Int32)) fun y8 S9 => if y8 = (0 : Int32) then (bd (okZ (0 : Int32)) fun e22 => some ((0 : Int32), S9)) else (bd (mwr S9 14 24 (S9.1 12) (S9.1 11)) fun S12 => bp (f_X3_takes S12 (44 : Int32)) fun y14 S15 => if y14 = (0 : Int32) then (f_X3_readNumbers_166 S15 ) else (bp (f_X3_reads S15 (1 : Int32) (60 : Int32)) fun y18 S19 => if y18 = (0 : Int32) then (f_X3_readNumbers_166 S19 ) else (f_X3_readNumbers_167 S19 (1 : Int32))))) else (if x1 = (114 : Int32) then (bp (f_X3_reads S (1 : Int32) (60 : Int32)) fun y25 S26 => bd (okZ y25) fun e28 => some (y25, S26)) else (if x1 = (117 : Int32) then (bp (f_X3_reads S (0 : Int32) (2 : Int32)) fun y31 S32 => bd (okZ y31) fun e34 => some (y31, S32)) else (if x1 = (119 : Int32) then (bp (f_X3_reads S (0 : Int32) (2 : Int32)) fun y37 S38 => if y37 = (0 : Int32) then (bd (okZ (0 : Int32)) fun e51 => some ((0 : Int32), S38)) else (bd (mwr S38 14 24 (S38.1 12) (S38.1 11)) fun S41 => bp (f_X3_takes S41 (43 : Int32)) fun y43 S44 => if y43 = (0 : Int32) then (f_X3_readNumbers_109 S44 ) else (bp (f_X3_reads S44 (0 : Int32) (19 : Int32)) fun y47 S48 => if y47 = (0 : Int32) then (f_X3_readNumbers_109 S48 ) else (f_X3_readNumbers_110 S48 (1 : Int32))))) else (bd (okZ (0 : Int32)) fun e53 => some ((0 : Int32), S))))))
set_option maxHeartbeats 4000000 in
theorem v_X3_readNumbers (l : Launch) (G : Gx) (hst : l.stackTraces = false) (hm : gmo G ≠ 0) (σ : Hp) {S Se : Ms} {x1 : Int32} {r : Int32} (h : f_X3_readNumbers S x1 = some (r, Se)) : MT l G yX3_readNumbers (ws_ yX3_readNumbers cX3_readNumbers 2 (some .boolean)) 4 96 [pR (gmo G), pI x1] σ S (.inl (some (pI r))) σ Se := by
  refine MT_of (own := RX3) (nL := 2) (ini := false) (by decide +kernel) rfl (Nat.le_of_ble_eq_true rfl) (fun h => by cases h) hst ?_
  show VV_X3_readNumbers l G σ (.inl (some (pI r))) σ Se 0 [(0, pR (gmo G)), (1, pI x1)] [] σ S
  unfold f_X3_readNumbers at h
  refine V_iload_n (i := 1) 1 dX3_readNumbers_0 rfl rfl ?_
  by_cases c1 : x1 = (98 : Int32)
  · replace h := it_t c1 h
    refine V_lookup 52 dX3_readNumbers_1 (by decide) (by rw [c1]; first | done | rfl) (by decide) ?_
    refine V_aload_n (i := 0) 0 dX3_readNumbers_52 rfl rfl ?_
    refine V_sipush (v := 500) dX3_readNumbers_53 (by decide) ?_
    refine V_ldc dX3_readNumbers_56 q2085 ?_
    obtain ⟨y2, S3, e4, h⟩ := bp_s h
    refine V_callM_v (n9 := 2) [] hm (v_X3_reads l G hst hm _ e4) rfl rfl (lw_V q2245 q2247 qs54 q90 q2248) (by decide +kernel) (by decide) (Nat.le_of_ble_eq_true rfl) dX3_readNumbers_58 ?_
    obtain ⟨e5, e6, h⟩ := bd_s h
    cases h
    exact V_retZ e6 rfl dX3_readNumbers_61
  · replace h := it_f c1 h
    by_cases c7 : x1 = (104 : Int32)
    · replace h := it_t c7 h
      refine V_lookup 118 dX3_readNumbers_1 (by decide) (by rw [c7]; first | done | rfl) (by decide) ?_
      refine V_aload_n (i := 0) 0 dX3_readNumbers_118 rfl rfl ?_
      refine V_iconst (v := 0) dX3_readNumbers_119 (by decide) ?_
      refine V_bipush (v := 19) dX3_readNumbers_120 (by decide) ?_
      obtain ⟨y8, S9, e10, h⟩ := bp_s h
      refine V_callM_v (n9 := 2) [] hm (v_X3_reads l G hst hm _ e10) rfl rfl (lw_V q2245 q2247 qs54 q90 q2248) (by decide +kernel) (by decide) (Nat.le_of_ble_eq_true rfl) dX3_readNumbers_122 ?_
      refine V_if_ne 130 dX3_readNumbers_125 (by decide) (fun c11 => ?_) (fun c11 => ?_)
      · replace h := it_f c11 h
        refine V_aload_n (i := 0) 0 dX3_readNumbers_130 rfl rfl ?_
        refine V_mrdA hm gf_X3_32 (by decide) rfl dX3_readNumbers_131 ?_
        refine V_aload_n (i := 0) 0 dX3_readNumbers_134 rfl rfl ?_
        refine V_mrdI hm gf_X3_162 (by decide) rfl dX3_readNumbers_135 ?_
        refine V_aload_n (i := 0) 0 dX3_readNumbers_138 rfl rfl ?_
        refine V_mrdI hm gf_X3_156 (by decide) rfl dX3_readNumbers_139 ?_
        obtain ⟨S12, e13, h⟩ := bd_s h
        refine V_mst hm e13 (by decide) rfl (by decide) dX3_readNumbers_142 ?_
        refine V_aload_n (i := 0) 0 dX3_readNumbers_143 rfl rfl ?_
        refine V_bipush (v := 44) dX3_readNumbers_144 (by decide) ?_
        obtain ⟨y14, S15, e16, h⟩ := bp_s h
        refine V_callM_v (n9 := 1) [] hm (v_X3_takes l G hst hm _ e16) rfl rfl (lw_V q2253 q2255 qs56 q90 q2256) (by decide +kernel) (by decide) (Nat.le_of_ble_eq_true rfl) dX3_readNumbers_146 ?_
        refine V_if_eq 166 dX3_readNumbers_149 (by decide) (fun c17 => ?_) (fun c17 => ?_)
        · replace h := it_t c17 h
          refine V_sub [] rfl ?_
          exact v_X3_readNumbers_166 hst hm h
        · replace h := it_f c17 h
          refine V_aload_n (i := 0) 0 dX3_readNumbers_152 rfl rfl ?_
          refine V_iconst (v := 1) dX3_readNumbers_153 (by decide) ?_
          refine V_bipush (v := 60) dX3_readNumbers_154 (by decide) ?_
          obtain ⟨y18, S19, e20, h⟩ := bp_s h
          refine V_callM_v (n9 := 2) [] hm (v_X3_reads l G hst hm _ e20) rfl rfl (lw_V q2245 q2247 qs54 q90 q2248) (by decide +kernel) (by decide) (Nat.le_of_ble_eq_true rfl) dX3_readNumbers_156 ?_
          refine V_if_eq 166 dX3_readNumbers_159 (by decide) (fun c21 => ?_) (fun c21 => ?_)
          · replace h := it_t c21 h
            refine V_sub [] rfl ?_
            exact v_X3_readNumbers_166 hst hm h
          · replace h := it_f c21 h
            refine V_iconst (v := 1) dX3_readNumbers_162 (by decide) ?_
            refine V_goto 167 dX3_readNumbers_163 (by decide) ?_
            refine V_sub [] rfl ?_
            exact v_X3_readNumbers_167 hst hm h
      · replace h := it_t c11 h
        refine V_iconst (v := 0) dX3_readNumbers_128 (by decide) ?_
        obtain ⟨e22, e23, h⟩ := bd_s h
        cases h
        exact V_retZ e23 rfl dX3_readNumbers_129
    · replace h := it_f c7 h
      by_cases c24 : x1 = (114 : Int32)
      · replace h := it_t c24 h
        refine V_lookup 168 dX3_readNumbers_1 (by decide) (by rw [c24]; first | done | rfl) (by decide) ?_
        refine V_aload_n (i := 0) 0 dX3_readNumbers_168 rfl rfl ?_
        refine V_iconst (v := 1) dX3_readNumbers_169 (by decide) ?_
        refine V_bipush (v := 60) dX3_readNumbers_170 (by decide) ?_
        obtain ⟨y25, S26, e27, h⟩ := bp_s h
        refine V_callM_v (n9 := 2) [] hm (v_X3_reads l G hst hm _ e27) rfl rfl (lw_V q2245 q2247 qs54 q90 q2248) (by decide +kernel) (by decide) (Nat.le_of_ble_eq_true rfl) dX3_readNumbers_172 ?_
        obtain ⟨e28, e29, h⟩ := bd_s h
        cases h
        exact V_retZ e29 rfl dX3_readNumbers_175
      · replace h := it_f c24 h
        by_cases c30 : x1 = (117 : Int32)
        · replace h := it_t c30 h
          refine V_lookup 111 dX3_readNumbers_1 (by decide) (by rw [c30]; first | done | rfl) (by decide) ?_
          refine V_aload_n (i := 0) 0 dX3_readNumbers_111 rfl rfl ?_
          refine V_iconst (v := 0) dX3_readNumbers_112 (by decide) ?_
          refine V_iconst (v := 2) dX3_readNumbers_113 (by decide) ?_
          obtain ⟨y31, S32, e33, h⟩ := bp_s h
          refine V_callM_v (n9 := 2) [] hm (v_X3_reads l G hst hm _ e33) rfl rfl (lw_V q2245 q2247 qs54 q90 q2248) (by decide +kernel) (by decide) (Nat.le_of_ble_eq_true rfl) dX3_readNumbers_114 ?_
          obtain ⟨e34, e35, h⟩ := bd_s h
          cases h
          exact V_retZ e35 rfl dX3_readNumbers_117
        · replace h := it_f c30 h
          by_cases c36 : x1 = (119 : Int32)
          · replace h := it_t c36 h
            refine V_lookup 62 dX3_readNumbers_1 (by decide) (by rw [c36]; first | done | rfl) (by decide) ?_
            refine V_aload_n (i := 0) 0 dX3_readNumbers_62 rfl rfl ?_
            refine V_iconst (v := 0) dX3_readNumbers_63 (by decide) ?_
            refine V_iconst (v := 2) dX3_readNumbers_64 (by decide) ?_
            obtain ⟨y37, S38, e39, h⟩ := bp_s h
            refine V_callM_v (n9 := 2) [] hm (v_X3_reads l G hst hm _ e39) rfl rfl (lw_V q2245 q2247 qs54 q90 q2248) (by decide +kernel) (by decide) (Nat.le_of_ble_eq_true rfl) dX3_readNumbers_65 ?_
            refine V_if_ne 73 dX3_readNumbers_68 (by decide) (fun c40 => ?_) (fun c40 => ?_)
            · replace h := it_f c40 h
              refine V_aload_n (i := 0) 0 dX3_readNumbers_73 rfl rfl ?_
              refine V_mrdA hm gf_X3_32 (by decide) rfl dX3_readNumbers_74 ?_
              refine V_aload_n (i := 0) 0 dX3_readNumbers_77 rfl rfl ?_
              refine V_mrdI hm gf_X3_162 (by decide) rfl dX3_readNumbers_78 ?_
              refine V_aload_n (i := 0) 0 dX3_readNumbers_81 rfl rfl ?_
              refine V_mrdI hm gf_X3_156 (by decide) rfl dX3_readNumbers_82 ?_
              obtain ⟨S41, e42, h⟩ := bd_s h
              refine V_mst hm e42 (by decide) rfl (by decide) dX3_readNumbers_85 ?_
              refine V_aload_n (i := 0) 0 dX3_readNumbers_86 rfl rfl ?_
              refine V_bipush (v := 43) dX3_readNumbers_87 (by decide) ?_
              obtain ⟨y43, S44, e45, h⟩ := bp_s h
              refine V_callM_v (n9 := 1) [] hm (v_X3_takes l G hst hm _ e45) rfl rfl (lw_V q2253 q2255 qs56 q90 q2256) (by decide +kernel) (by decide) (Nat.le_of_ble_eq_true rfl) dX3_readNumbers_89 ?_
              refine V_if_eq 109 dX3_readNumbers_92 (by decide) (fun c46 => ?_) (fun c46 => ?_)
              · replace h := it_t c46 h
                refine V_sub [] rfl ?_
                exact v_X3_readNumbers_109 hst hm h
              · replace h := it_f c46 h
                refine V_aload_n (i := 0) 0 dX3_readNumbers_95 rfl rfl ?_
                refine V_iconst (v := 0) dX3_readNumbers_96 (by decide) ?_
                refine V_bipush (v := 19) dX3_readNumbers_97 (by decide) ?_
                obtain ⟨y47, S48, e49, h⟩ := bp_s h
                refine V_callM_v (n9 := 2) [] hm (v_X3_reads l G hst hm _ e49) rfl rfl (lw_V q2245 q2247 qs54 q90 q2248) (by decide +kernel) (by decide) (Nat.le_of_ble_eq_true rfl) dX3_readNumbers_99 ?_
                refine V_if_eq 109 dX3_readNumbers_102 (by decide) (fun c50 => ?_) (fun c50 => ?_)
                · replace h := it_t c50 h
                  refine V_sub [] rfl ?_
                  exact v_X3_readNumbers_109 hst hm h
                · replace h := it_f c50 h
                  refine V_iconst (v := 1) dX3_readNumbers_105 (by decide) ?_
                  refine V_goto 110 dX3_readNumbers_106 (by decide) ?_
                  refine V_sub [] rfl ?_
                  exact v_X3_readNumbers_110 hst hm h
            · replace h := it_t c40 h
              refine V_iconst (v := 0) dX3_readNumbers_71 (by decide) ?_
              obtain ⟨e51, e52, h⟩ := bd_s h
              cases h
              exact V_retZ e52 rfl dX3_readNumbers_72
          · replace h := it_f c36 h
            refine V_lookup (off := 175) 176 dX3_readNumbers_1 (by decide) ((lv_osw c1 rfl).trans ((lv_osw c7 rfl).trans ((lv_osw c24 rfl).trans ((lv_osw c30 rfl).trans ((lv_osw c36 rfl).trans rfl))))) (by decide) ?_
            refine V_iconst (v := 0) dX3_readNumbers_176 (by decide) ?_
            obtain ⟨e53, e54, h⟩ := bd_s h
            cases h
            exact V_retZ e54 rfl dX3_readNumbers_177

abbrev VV_X3_readOrder (l : Launch) (G : Gx) (σ0 : Hp) (o : Oc) (σe : Hp) (Se : Ms) := V l G RX3 cX3_readOrder 3 (some .boolean) [] false 5 117 σ0 o σe Se
def f_X3_readOrder_91 (S : Ms) : Option (Int32 × Ms) :=
  bd (okZ (0 : Int32)) fun e1 => some ((0 : Int32), S)
set_option maxHeartbeats 4000000 in
theorem v_X3_readOrder_91 {l : Launch} {G : Gx} (hst : l.stackTraces = false) (hm : gmo G ≠ 0) {σ0 σe : Hp} {Se : Ms} {r : Int32} {S : Ms} (h : f_X3_readOrder_91 S  = some (r, Se)) : VV_X3_readOrder l G σ0 (.inl (some (pI r))) σe Se 91 [] [] σe S := by
  unfold f_X3_readOrder_91 at h
  refine V_iconst (v := 0) dX3_readOrder_91 (by decide) ?_
  obtain ⟨e1, e2, h⟩ := bd_s h
  cases h
  exact V_retZ e2 rfl dX3_readOrder_92
def f_X3_readOrder_75 (S : Ms) (x2 : Int32) (x1 : Int32) (s0 : Int32) (s1 : Int32) : Option (Int32 × Ms) :=
  if x2 = (0 : Int32) then (f_X3_readOrder_91 (sM S 10 (s1 + s0)) ) else (bp (f_X3_readNumbers (sM S 10 (s1 + s0)) x1) fun y2 S3 => if y2 = (0 : Int32) then (f_X3_readOrder_91 S3 ) else (bd (mwr S3 13 24 (S3.1 12) x1) fun S6 => bd (mwr S6 15 24 (S6.1 12) (S6.1 11)) fun S8 => bd (okZ (1 : Int32)) fun e10 => some ((1 : Int32), (sM S8 12 ((S8.1 12) + (1 : Int32))))))
set_option maxHeartbeats 4000000 in
theorem v_X3_readOrder_75 {l : Launch} {G : Gx} (hst : l.stackTraces = false) (hm : gmo G ≠ 0) {σ0 σe : Hp} {Se : Ms} {r : Int32} {S : Ms} {x2 : Int32} {x1 : Int32} {s0 : Int32} {s1 : Int32} (h : f_X3_readOrder_75 S x2 x1 s0 s1 = some (r, Se)) : VV_X3_readOrder l G σ0 (.inl (some (pI r))) σe Se 75 [(2, pI x2), (1, pI x1), (0, pR (gmo G))] [pI s0, pI s1, pR (gmo G)] σe S := by
  unfold f_X3_readOrder_75 at h
  refine V_iadd dX3_readOrder_75 ?_
  refine V_mput hm gw_X3_150 (by decide) rfl dX3_readOrder_76 ?_
  refine V_iload_n (i := 2) 0 dX3_readOrder_79 rfl rfl ?_
  refine V_if_eq 91 dX3_readOrder_80 (by decide) (fun c1 => ?_) (fun c1 => ?_)
  · replace h := it_t c1 h
    refine V_sub [] rfl ?_
    exact v_X3_readOrder_91 hst hm h
  · replace h := it_f c1 h
    refine V_aload_n (i := 0) 2 dX3_readOrder_83 rfl rfl ?_
    refine V_iload_n (i := 1) 1 dX3_readOrder_84 rfl rfl ?_
    obtain ⟨y2, S3, e4, h⟩ := bp_s h
    refine V_callM_v (n9 := 1) [] hm (v_X3_readNumbers l G hst hm _ e4) rfl rfl (lw_V q2241 q2243 qs53 q90 q2244) (by decide +kernel) (by decide) (Nat.le_of_ble_eq_true rfl) dX3_readOrder_85 ?_
    refine V_if_ne 93 dX3_readOrder_88 (by decide) (fun c5 => ?_) (fun c5 => ?_)
    · replace h := it_f c5 h
      refine V_aload_n (i := 0) 2 dX3_readOrder_93 rfl rfl ?_
      refine V_mrdA hm gf_X3_29 (by decide) rfl dX3_readOrder_94 ?_
      refine V_aload_n (i := 0) 2 dX3_readOrder_97 rfl rfl ?_
      refine V_mrdI hm gf_X3_162 (by decide) rfl dX3_readOrder_98 ?_
      refine V_iload_n (i := 1) 1 dX3_readOrder_101 rfl rfl ?_
      obtain ⟨S6, e7, h⟩ := bd_s h
      refine V_mst hm e7 (by decide) rfl (by decide) dX3_readOrder_102 ?_
      refine V_aload_n (i := 0) 2 dX3_readOrder_103 rfl rfl ?_
      refine V_mrdA hm gf_X3_35 (by decide) rfl dX3_readOrder_104 ?_
      refine V_aload_n (i := 0) 2 dX3_readOrder_107 rfl rfl ?_
      refine V_mrdI hm gf_X3_162 (by decide) rfl dX3_readOrder_108 ?_
      refine V_aload_n (i := 0) 2 dX3_readOrder_111 rfl rfl ?_
      refine V_mrdI hm gf_X3_156 (by decide) rfl dX3_readOrder_112 ?_
      obtain ⟨S8, e9, h⟩ := bd_s h
      refine V_mst hm e9 (by decide) rfl (by decide) dX3_readOrder_115 ?_
      refine V_aload_n (i := 0) 2 dX3_readOrder_116 rfl rfl ?_
      refine V_dup dX3_readOrder_117 rfl ?_
      refine V_mrdI hm gf_X3_162 (by decide) rfl dX3_readOrder_118 ?_
      refine V_iconst (v := 1) dX3_readOrder_121 (by decide) ?_
      refine V_iadd dX3_readOrder_122 ?_
      refine V_mput hm gw_X3_162 (by decide) rfl dX3_readOrder_123 ?_
      refine V_iconst (v := 1) dX3_readOrder_126 (by decide) ?_
      obtain ⟨e10, e11, h⟩ := bd_s h
      cases h
      exact V_retZ e11 rfl dX3_readOrder_127
    · replace h := it_t c5 h
      refine V_sub [] rfl ?_
      exact v_X3_readOrder_91 hst hm h
def f_X3_readOrder_60 (S : Ms) (x1 : Int32) (s0 : Int32) : Option (Int32 × Ms) :=
  if s0 = (0 : Int32) then (f_X3_readOrder_75 S s0 x1 (0 : Int32) (S.1 10)) else (f_X3_readOrder_75 S s0 x1 (1 : Int32) (S.1 10))
set_option maxHeartbeats 4000000 in
theorem v_X3_readOrder_60 {l : Launch} {G : Gx} (hst : l.stackTraces = false) (hm : gmo G ≠ 0) {σ0 σe : Hp} {Se : Ms} {r : Int32} {S : Ms} {x1 : Int32} {s0 : Int32} (h : f_X3_readOrder_60 S x1 s0 = some (r, Se)) : VV_X3_readOrder l G σ0 (.inl (some (pI r))) σe Se 60 [(1, pI x1), (0, pR (gmo G))] [pI s0] σe S := by
  unfold f_X3_readOrder_60 at h
  refine V_istore_n (i := 2) (L' := [(2, pI s0), (1, pI x1), (0, pR (gmo G))]) dX3_readOrder_60 rfl (by decide) rfl ?_
  refine V_aload_n (i := 0) 2 dX3_readOrder_61 rfl rfl ?_
  refine V_dup dX3_readOrder_62 rfl ?_
  refine V_mrdI hm gf_X3_150 (by decide) rfl dX3_readOrder_63 ?_
  refine V_iload_n (i := 2) 0 dX3_readOrder_66 rfl rfl ?_
  refine V_if_eq 74 dX3_readOrder_67 (by decide) (fun c1 => ?_) (fun c1 => ?_)
  · replace h := it_t c1 h
    refine V_iconst (v := 0) dX3_readOrder_74 (by decide) ?_
    refine V_sub [0, 1, 2] rfl ?_
    exact v_X3_readOrder_75 hst hm h
  · replace h := it_f c1 h
    refine V_iconst (v := 1) dX3_readOrder_70 (by decide) ?_
    refine V_goto 75 dX3_readOrder_71 (by decide) ?_
    refine V_sub [0, 1, 2] rfl ?_
    exact v_X3_readOrder_75 hst hm h
def f_X3_readOrder_55 (S : Ms) (x1 : Int32) : Option (Int32 × Ms) :=
  f_X3_readOrder_60 S x1 (1 : Int32)
set_option maxHeartbeats 4000000 in
theorem v_X3_readOrder_55 {l : Launch} {G : Gx} (hst : l.stackTraces = false) (hm : gmo G ≠ 0) {σ0 σe : Hp} {Se : Ms} {r : Int32} {S : Ms} {x1 : Int32} (h : f_X3_readOrder_55 S x1 = some (r, Se)) : VV_X3_readOrder l G σ0 (.inl (some (pI r))) σe Se 55 [(1, pI x1), (0, pR (gmo G))] [] σe S := by
  unfold f_X3_readOrder_55 at h
  refine V_iconst (v := 1) dX3_readOrder_55 (by decide) ?_
  refine V_goto 60 dX3_readOrder_56 (by decide) ?_
  refine V_sub [0, 1] rfl ?_
  exact v_X3_readOrder_60 hst hm h
def f_X3_readOrder_24 (S : Ms) (s0 : Int32) : Option (Int32 × Ms) :=
  if s0 = (98 : Int32) then (f_X3_readOrder_55 S s0) else (if s0 = (119 : Int32) then (f_X3_readOrder_55 S s0) else (if s0 = (117 : Int32) then (f_X3_readOrder_55 S s0) else (if s0 = (104 : Int32) then (f_X3_readOrder_55 S s0) else (if s0 = (114 : Int32) then (f_X3_readOrder_55 S s0) else (f_X3_readOrder_60 S s0 (0 : Int32))))))
set_option maxHeartbeats 4000000 in
theorem v_X3_readOrder_24 {l : Launch} {G : Gx} (hst : l.stackTraces = false) (hm : gmo G ≠ 0) {σ0 σe : Hp} {Se : Ms} {r : Int32} {S : Ms} {s0 : Int32} (h : f_X3_readOrder_24 S s0 = some (r, Se)) : VV_X3_readOrder l G σ0 (.inl (some (pI r))) σe Se 24 [(0, pR (gmo G))] [pI s0] σe S := by
  unfold f_X3_readOrder_24 at h
  refine V_istore_n (i := 1) (L' := [(1, pI s0), (0, pR (gmo G))]) dX3_readOrder_24 rfl (by decide) rfl ?_
  refine V_iload_n (i := 1) 0 dX3_readOrder_25 rfl rfl ?_
  refine V_bipush (v := 98) dX3_readOrder_26 (by decide) ?_
  refine V_icmp_eq 55 dX3_readOrder_28 (by decide) (fun c1 => ?_) (fun c1 => ?_)
  · replace h := it_t c1 h
    refine V_sub [0, 1] rfl ?_
    exact v_X3_readOrder_55 hst hm h
  · replace h := it_f c1 h
    refine V_iload_n (i := 1) 0 dX3_readOrder_31 rfl rfl ?_
    refine V_bipush (v := 119) dX3_readOrder_32 (by decide) ?_
    refine V_icmp_eq 55 dX3_readOrder_34 (by decide) (fun c2 => ?_) (fun c2 => ?_)
    · replace h := it_t c2 h
      refine V_sub [0, 1] rfl ?_
      exact v_X3_readOrder_55 hst hm h
    · replace h := it_f c2 h
      refine V_iload_n (i := 1) 0 dX3_readOrder_37 rfl rfl ?_
      refine V_bipush (v := 117) dX3_readOrder_38 (by decide) ?_
      refine V_icmp_eq 55 dX3_readOrder_40 (by decide) (fun c3 => ?_) (fun c3 => ?_)
      · replace h := it_t c3 h
        refine V_sub [0, 1] rfl ?_
        exact v_X3_readOrder_55 hst hm h
      · replace h := it_f c3 h
        refine V_iload_n (i := 1) 0 dX3_readOrder_43 rfl rfl ?_
        refine V_bipush (v := 104) dX3_readOrder_44 (by decide) ?_
        refine V_icmp_eq 55 dX3_readOrder_46 (by decide) (fun c4 => ?_) (fun c4 => ?_)
        · replace h := it_t c4 h
          refine V_sub [0, 1] rfl ?_
          exact v_X3_readOrder_55 hst hm h
        · replace h := it_f c4 h
          refine V_iload_n (i := 1) 0 dX3_readOrder_49 rfl rfl ?_
          refine V_bipush (v := 114) dX3_readOrder_50 (by decide) ?_
          refine V_icmp_ne 59 dX3_readOrder_52 (by decide) (fun c5 => ?_) (fun c5 => ?_)
          · replace h := it_f c5 h
            refine V_iconst (v := 0) dX3_readOrder_59 (by decide) ?_
            refine V_sub [0, 1] rfl ?_
            exact v_X3_readOrder_60 hst hm h
          · replace h := it_t c5 h
            refine V_sub [0, 1] rfl ?_
            exact v_X3_readOrder_55 hst hm h
def f_X3_readOrder (S : Ms) : Option (Int32 × Ms) :=
  if (S.1 9) ≤ (S.1 10) then (f_X3_readOrder_24 S (0 : Int32)) else (bd (mrd S 8 60 (S.1 10)) fun y2 => f_X3_readOrder_24 S y2)
set_option maxHeartbeats 4000000 in
theorem v_X3_readOrder (l : Launch) (G : Gx) (hst : l.stackTraces = false) (hm : gmo G ≠ 0) (σ : Hp) {S Se : Ms} {r : Int32} (h : f_X3_readOrder S  = some (r, Se)) : MT l G yX3_readOrder (ws_ yX3_readOrder cX3_readOrder 3 (some .boolean)) 5 117 [pR (gmo G)] σ S (.inl (some (pI r))) σ Se := by
  refine MT_of (own := RX3) (nL := 3) (ini := false) (by decide +kernel) rfl (Nat.le_of_ble_eq_true rfl) (fun h => by cases h) hst ?_
  show VV_X3_readOrder l G σ (.inl (some (pI r))) σ Se 0 [(0, pR (gmo G))] [] σ S
  unfold f_X3_readOrder at h
  refine V_aload_n (i := 0) 0 dX3_readOrder_0 rfl rfl ?_
  refine V_mrdI hm gf_X3_150 (by decide) rfl dX3_readOrder_1 ?_
  refine V_aload_n (i := 0) 0 dX3_readOrder_4 rfl rfl ?_
  refine V_mrdI hm gf_X3_147 (by decide) rfl dX3_readOrder_5 ?_
  refine V_icmp_ge 23 dX3_readOrder_8 (by decide) (fun c1 => ?_) (fun c1 => ?_)
  · replace h := it_t c1 h
    refine V_iconst (v := 0) dX3_readOrder_23 (by decide) ?_
    refine V_sub [0] rfl ?_
    exact v_X3_readOrder_24 hst hm h
  · replace h := it_f c1 h
    refine V_aload_n (i := 0) 0 dX3_readOrder_11 rfl rfl ?_
    refine V_mrdA hm gf_X3_26 (by decide) rfl dX3_readOrder_12 ?_
    refine V_aload_n (i := 0) 0 dX3_readOrder_15 rfl rfl ?_
    refine V_mrdI hm gf_X3_150 (by decide) rfl dX3_readOrder_16 ?_
    obtain ⟨y2, e3, h⟩ := bd_s h
    refine V_mel hm e3 (by decide) rfl (by decide) dX3_readOrder_19 ?_
    refine V_goto 24 dX3_readOrder_20 (by decide) ?_
    refine V_sub [0] rfl ?_
    exact v_X3_readOrder_24 hst hm h

abbrev VV_X3_isComplete (l : Launch) (G : Gx) (σ0 : Hp) (o : Oc) (σe : Hp) (Se : Ms) := V l G RX3 cX3_isComplete 2 (some .boolean) [] false 6 139 σ0 o σe Se
def f_X3_isComplete_56 (S : Ms) (s0 : Int32) : Option (Int32 × Ms) :=
  bd (okZ s0) fun e1 => some (s0, S)
set_option maxHeartbeats 4000000 in
theorem v_X3_isComplete_56 {l : Launch} {G : Gx} (hst : l.stackTraces = false) (hm : gmo G ≠ 0) {σ0 σe : Hp} {Se : Ms} {r : Int32} {S : Ms} {s0 : Int32} (h : f_X3_isComplete_56 S s0 = some (r, Se)) : VV_X3_isComplete l G σ0 (.inl (some (pI r))) σe Se 56 [] [pI s0] σe S := by
  unfold f_X3_isComplete_56 at h
  obtain ⟨e1, e2, h⟩ := bd_s h
  cases h
  exact V_retZ e2 rfl dX3_isComplete_56
def f_X3_isComplete_55 (S : Ms) : Option (Int32 × Ms) :=
  f_X3_isComplete_56 S (0 : Int32)
set_option maxHeartbeats 4000000 in
theorem v_X3_isComplete_55 {l : Launch} {G : Gx} (hst : l.stackTraces = false) (hm : gmo G ≠ 0) {σ0 σe : Hp} {Se : Ms} {r : Int32} {S : Ms} (h : f_X3_isComplete_55 S  = some (r, Se)) : VV_X3_isComplete l G σ0 (.inl (some (pI r))) σe Se 55 [] [] σe S := by
  unfold f_X3_isComplete_55 at h
  refine V_iconst (v := 0) dX3_isComplete_55 (by decide) ?_
  refine V_sub [] rfl ?_
  exact v_X3_isComplete_56 hst hm h
def f_X3_isComplete_36 (S : Ms) (x1 : Int32) : Option (Int32 × Ms) :=
  if x1 = (0 : Int32) then (f_X3_isComplete_55 S ) else (if (S.1 10) = (S.1 9) then (f_X3_isComplete_56 S (1 : Int32)) else (f_X3_isComplete_55 S ))
set_option maxHeartbeats 4000000 in
theorem v_X3_isComplete_36 {l : Launch} {G : Gx} (hst : l.stackTraces = false) (hm : gmo G ≠ 0) {σ0 σe : Hp} {Se : Ms} {r : Int32} {S : Ms} {x1 : Int32} (h : f_X3_isComplete_36 S x1 = some (r, Se)) : VV_X3_isComplete l G σ0 (.inl (some (pI r))) σe Se 36 [(1, pI x1), (0, pR (gmo G))] [] σe S := by
  unfold f_X3_isComplete_36 at h
  refine V_iload_n (i := 1) 0 dX3_isComplete_36 rfl rfl ?_
  refine V_if_eq 55 dX3_isComplete_37 (by decide) (fun c1 => ?_) (fun c1 => ?_)
  · replace h := it_t c1 h
    refine V_sub [] rfl ?_
    exact v_X3_isComplete_55 hst hm h
  · replace h := it_f c1 h
    refine V_aload_n (i := 0) 1 dX3_isComplete_40 rfl rfl ?_
    refine V_mrdI hm gf_X3_150 (by decide) rfl dX3_isComplete_41 ?_
    refine V_aload_n (i := 0) 1 dX3_isComplete_44 rfl rfl ?_
    refine V_mrdI hm gf_X3_147 (by decide) rfl dX3_isComplete_45 ?_
    refine V_icmp_ne 55 dX3_isComplete_48 (by decide) (fun c2 => ?_) (fun c2 => ?_)
    · replace h := it_f c2 h
      refine V_sub [] rfl ?_
      exact v_X3_isComplete_55 hst hm h
    · replace h := it_t c2 h
      refine V_iconst (v := 1) dX3_isComplete_51 (by decide) ?_
      refine V_goto 56 dX3_isComplete_52 (by decide) ?_
      refine V_sub [] rfl ?_
      exact v_X3_isComplete_56 hst hm h
def f_X3_isComplete_15_b (k15 : Ms → Int32 → Option (Int32 × Ms)) (S : Ms) (x1 : Int32) : Option (Int32 × Ms) :=
  if x1 = (0 : Int32) then (f_X3_isComplete_36 S x1) else (bp (f_X3_takes S (59 : Int32)) fun y2 S3 => if y2 = (0 : Int32) then (f_X3_isComplete_36 S3 x1) else (bp (f_X3_readOrder S3 ) fun y6 S7 => k15 S7 y6))
set_option maxHeartbeats 4000000 in
theorem v_X3_isComplete_15_b {l : Launch} {G : Gx} (hst : l.stackTraces = false) (hm : gmo G ≠ 0) {σ0 σe : Hp} {Se : Ms} {r : Int32} {k15 : Ms → Int32 → Option (Int32 × Ms)} (hk15 : ∀ (S : Ms) (x1 : Int32), k15 S x1 = some (r, Se) → VV_X3_isComplete l G σ0 (.inl (some (pI r))) σe Se 15 [(1, pI x1), (0, pR (gmo G))] [] σe S) {S : Ms} {x1 : Int32} (h : f_X3_isComplete_15_b k15 S x1 = some (r, Se)) : VV_X3_isComplete l G σ0 (.inl (some (pI r))) σe Se 15 [(1, pI x1), (0, pR (gmo G))] [] σe S := by
  unfold f_X3_isComplete_15_b at h
  refine V_iload_n (i := 1) 0 dX3_isComplete_15 rfl rfl ?_
  refine V_if_eq 36 dX3_isComplete_16 (by decide) (fun c1 => ?_) (fun c1 => ?_)
  · replace h := it_t c1 h
    refine V_sub [0, 1] rfl ?_
    exact v_X3_isComplete_36 hst hm h
  · replace h := it_f c1 h
    refine V_aload_n (i := 0) 1 dX3_isComplete_19 rfl rfl ?_
    refine V_bipush (v := 59) dX3_isComplete_20 (by decide) ?_
    obtain ⟨y2, S3, e4, h⟩ := bp_s h
    refine V_callM_v (n9 := 1) [] hm (v_X3_takes l G hst hm _ e4) rfl rfl (lw_V q2253 q2255 qs56 q90 q2256) (by decide +kernel) (by decide) (Nat.le_of_ble_eq_true rfl) dX3_isComplete_22 ?_
    refine V_if_eq 36 dX3_isComplete_25 (by decide) (fun c5 => ?_) (fun c5 => ?_)
    · replace h := it_t c5 h
      refine V_sub [0, 1] rfl ?_
      exact v_X3_isComplete_36 hst hm h
    · replace h := it_f c5 h
      refine V_aload_n (i := 0) 1 dX3_isComplete_28 rfl rfl ?_
      obtain ⟨y6, S7, e8, h⟩ := bp_s h
      refine V_callM_v (n9 := 0) [] hm (v_X3_readOrder l G hst hm _ e8) rfl rfl (lw_V q2237 q2239 qs52 q90 q2240) (by decide +kernel) (by decide) (Nat.le_of_ble_eq_true rfl) dX3_isComplete_29 ?_
      refine V_istore_n (i := 1) (L' := [(1, pI y6), (0, pR (gmo G))]) dX3_isComplete_32 rfl (by decide) rfl ?_
      refine V_goto 15 dX3_isComplete_33 (by decide) ?_
      refine V_sub [0, 1] rfl ?_
      exact hk15 _ _ h
def f_X3_isComplete_15 : Nat → Ms → Int32 → Option (Int32 × Ms)
  | 0, _, _ => none
  | n + 1, S, x1 => f_X3_isComplete_15_b (f_X3_isComplete_15 n) S x1
theorem v_X3_isComplete_15 {l : Launch} {G : Gx} (hst : l.stackTraces = false) (hm : gmo G ≠ 0) {σ0 σe : Hp} {Se : Ms} {r : Int32} : ∀ (n : Nat) (S : Ms) (x1 : Int32), f_X3_isComplete_15 n S x1 = some (r, Se) → VV_X3_isComplete l G σ0 (.inl (some (pI r))) σe Se 15 [(1, pI x1), (0, pR (gmo G))] [] σe S
  | 0, _, _, h => by cases h
  | n + 1, _, _, h => v_X3_isComplete_15_b hst hm (v_X3_isComplete_15 hst hm n) h
def f_X3_isComplete (S : Ms) : Option (Int32 × Ms) :=
  bp (f_X3_readOrder (sM (sM S 10 (0 : Int32)) 12 (0 : Int32)) ) fun y1 S2 => f_X3_isComplete_15 FU S2 y1
set_option maxHeartbeats 4000000 in
theorem v_X3_isComplete (l : Launch) (G : Gx) (hst : l.stackTraces = false) (hm : gmo G ≠ 0) (σ : Hp) {S Se : Ms} {r : Int32} (h : f_X3_isComplete S  = some (r, Se)) : MT l G yX3_isComplete (ws_ yX3_isComplete cX3_isComplete 2 (some .boolean)) 6 139 [pR (gmo G)] σ S (.inl (some (pI r))) σ Se := by
  refine MT_of (own := RX3) (nL := 2) (ini := false) (by decide +kernel) rfl (Nat.le_of_ble_eq_true rfl) (fun h => by cases h) hst ?_
  show VV_X3_isComplete l G σ (.inl (some (pI r))) σ Se 0 [(0, pR (gmo G))] [] σ S
  unfold f_X3_isComplete at h
  refine V_aload_n (i := 0) 0 dX3_isComplete_0 rfl rfl ?_
  refine V_iconst (v := 0) dX3_isComplete_1 (by decide) ?_
  refine V_mput hm gw_X3_150 (by decide) rfl dX3_isComplete_2 ?_
  refine V_aload_n (i := 0) 0 dX3_isComplete_5 rfl rfl ?_
  refine V_iconst (v := 0) dX3_isComplete_6 (by decide) ?_
  refine V_mput hm gw_X3_162 (by decide) rfl dX3_isComplete_7 ?_
  refine V_aload_n (i := 0) 0 dX3_isComplete_10 rfl rfl ?_
  obtain ⟨y1, S2, e3, h⟩ := bp_s h
  refine V_callM_v (n9 := 0) [] hm (v_X3_readOrder l G hst hm _ e3) rfl rfl (lw_V q2237 q2239 qs52 q90 q2240) (by decide +kernel) (by decide) (Nat.le_of_ble_eq_true rfl) dX3_isComplete_11 ?_
  refine V_istore_n (i := 1) (L' := [(1, pI y1), (0, pR (gmo G))]) dX3_isComplete_14 rfl (by decide) rfl ?_
  refine V_sub [0, 1] rfl ?_
  exact v_X3_isComplete_15 hst hm FU _ _ h

abbrev VV_X3_firstError (l : Launch) (G : Gx) (σ0 : Hp) (o : Oc) (σe : Hp) (Se : Ms) := V l G RX3 cX3_firstError 1 (some .int) [] false 7 160 σ0 o σe Se
def f_X3_firstError_23 (S : Ms) (s0 : Int32) : Option (Int32 × Ms) :=
  some (s0, S)
set_option maxHeartbeats 4000000 in
theorem v_X3_firstError_23 {l : Launch} {G : Gx} (hst : l.stackTraces = false) (hm : gmo G ≠ 0) {σ0 σe : Hp} {Se : Ms} {r : Int32} {S : Ms} {s0 : Int32} (h : f_X3_firstError_23 S s0 = some (r, Se)) : VV_X3_firstError l G σ0 (.inl (some (pI r))) σe Se 23 [] [pI s0] σe S := by
  unfold f_X3_firstError_23 at h
  cases h
  exact V_iret rfl dX3_firstError_23
def f_X3_firstError (S : Ms) : Option (Int32 × Ms) :=
  bp (f_X3_isComplete (sM S 5 (0 : Int32)) ) fun y1 S2 => if y1 = (0 : Int32) then (f_X3_firstError_23 S2 (S2.1 10)) else (f_X3_firstError_23 S2 (S2.1 9))
set_option maxHeartbeats 4000000 in
theorem v_X3_firstError (l : Launch) (G : Gx) (hst : l.stackTraces = false) (hm : gmo G ≠ 0) (σ : Hp) {S Se : Ms} {r : Int32} (h : f_X3_firstError S  = some (r, Se)) : MT l G yX3_firstError (ws_ yX3_firstError cX3_firstError 1 (some .int)) 7 160 [pR (gmo G)] σ S (.inl (some (pI r))) σ Se := by
  refine MT_of (own := RX3) (nL := 1) (ini := false) (by decide +kernel) rfl (Nat.le_of_ble_eq_true rfl) (fun h => by cases h) hst ?_
  show VV_X3_firstError l G σ (.inl (some (pI r))) σ Se 0 [(0, pR (gmo G))] [] σ S
  unfold f_X3_firstError at h
  refine V_aload_n (i := 0) 0 dX3_firstError_0 rfl rfl ?_
  refine V_iconst (v := 0) dX3_firstError_1 (by decide) ?_
  refine V_mput hm gw_X3_38 (by decide) rfl dX3_firstError_2 ?_
  refine V_aload_n (i := 0) 0 dX3_firstError_5 rfl rfl ?_
  obtain ⟨y1, S2, e3, h⟩ := bp_s h
  refine V_callM_v (n9 := 0) [] hm (v_X3_isComplete l G hst hm _ e3) rfl rfl (lw_V q2233 q2235 qs51 q90 q2236) (by decide +kernel) (by decide) (Nat.le_of_ble_eq_true rfl) dX3_firstError_6 ?_
  refine V_if_eq 19 dX3_firstError_9 (by decide) (fun c4 => ?_) (fun c4 => ?_)
  · replace h := it_t c4 h
    refine V_aload_n (i := 0) 0 dX3_firstError_19 rfl rfl ?_
    refine V_mrdI hm gf_X3_150 (by decide) rfl dX3_firstError_20 ?_
    refine V_sub [] rfl ?_
    exact v_X3_firstError_23 hst hm h
  · replace h := it_f c4 h
    refine V_aload_n (i := 0) 0 dX3_firstError_12 rfl rfl ?_
    refine V_mrdI hm gf_X3_147 (by decide) rfl dX3_firstError_13 ?_
    refine V_goto 23 dX3_firstError_16 (by decide) ?_
    refine V_sub [] rfl ?_
    exact v_X3_firstError_23 hst hm h

abbrev VV_X3_isDone (l : Launch) (G : Gx) (σ0 : Hp) (o : Oc) (σe : Hp) (Se : Ms) := V l G RX3 cX3_isDone 3 (some .boolean) [] false 6 140 σ0 o σe Se
def f_X3_isDone_82 (S : Ms) (s0 : Int32) : Option (Int32 × Ms) :=
  bd (okZ s0) fun e1 => some (s0, S)
set_option maxHeartbeats 4000000 in
theorem v_X3_isDone_82 {l : Launch} {G : Gx} (hst : l.stackTraces = false) (hm : gmo G ≠ 0) {σ0 σe : Hp} {Se : Ms} {r : Int32} {S : Ms} {s0 : Int32} (h : f_X3_isDone_82 S s0 = some (r, Se)) : VV_X3_isDone l G σ0 (.inl (some (pI r))) σe Se 82 [] [pI s0] σe S := by
  unfold f_X3_isDone_82 at h
  obtain ⟨e1, e2, h⟩ := bd_s h
  cases h
  exact V_retZ e2 rfl dX3_isDone_82
def f_X3_isDone_81 (S : Ms) : Option (Int32 × Ms) :=
  f_X3_isDone_82 S (0 : Int32)
set_option maxHeartbeats 4000000 in
theorem v_X3_isDone_81 {l : Launch} {G : Gx} (hst : l.stackTraces = false) (hm : gmo G ≠ 0) {σ0 σe : Hp} {Se : Ms} {r : Int32} {S : Ms} (h : f_X3_isDone_81 S  = some (r, Se)) : VV_X3_isDone l G σ0 (.inl (some (pI r))) σe Se 81 [] [] σe S := by
  unfold f_X3_isDone_81 at h
  refine V_iconst (v := 0) dX3_isDone_81 (by decide) ?_
  refine V_sub [] rfl ?_
  exact v_X3_isDone_82 hst hm h
def f_X3_isDone_165 (S : Ms) (s0 : Int32) : Option (Int32 × Ms) :=
  bd (okZ s0) fun e1 => some (s0, S)
set_option maxHeartbeats 4000000 in
theorem v_X3_isDone_165 {l : Launch} {G : Gx} (hst : l.stackTraces = false) (hm : gmo G ≠ 0) {σ0 σe : Hp} {Se : Ms} {r : Int32} {S : Ms} {s0 : Int32} (h : f_X3_isDone_165 S s0 = some (r, Se)) : VV_X3_isDone l G σ0 (.inl (some (pI r))) σe Se 165 [] [pI s0] σe S := by
  unfold f_X3_isDone_165 at h
  obtain ⟨e1, e2, h⟩ := bd_s h
  cases h
  exact V_retZ e2 rfl dX3_isDone_165
def f_X3_isDone_164 (S : Ms) : Option (Int32 × Ms) :=
  f_X3_isDone_165 S (0 : Int32)
set_option maxHeartbeats 4000000 in
theorem v_X3_isDone_164 {l : Launch} {G : Gx} (hst : l.stackTraces = false) (hm : gmo G ≠ 0) {σ0 σe : Hp} {Se : Ms} {r : Int32} {S : Ms} (h : f_X3_isDone_164 S  = some (r, Se)) : VV_X3_isDone l G σ0 (.inl (some (pI r))) σe Se 164 [] [] σe S := by
  unfold f_X3_isDone_164 at h
  refine V_iconst (v := 0) dX3_isDone_164 (by decide) ?_
  refine V_sub [] rfl ?_
  exact v_X3_isDone_165 hst hm h
def f_X3_isDone_132 (S : Ms) (s0 : Int32) : Option (Int32 × Ms) :=
  bd (okZ s0) fun e1 => some (s0, S)
set_option maxHeartbeats 4000000 in
theorem v_X3_isDone_132 {l : Launch} {G : Gx} (hst : l.stackTraces = false) (hm : gmo G ≠ 0) {σ0 σe : Hp} {Se : Ms} {r : Int32} {S : Ms} {s0 : Int32} (h : f_X3_isDone_132 S s0 = some (r, Se)) : VV_X3_isDone l G σ0 (.inl (some (pI r))) σe Se 132 [] [pI s0] σe S := by
  unfold f_X3_isDone_132 at h
  obtain ⟨e1, e2, h⟩ := bd_s h
  cases h
  exact V_retZ e2 rfl dX3_isDone_132
def f_X3_isDone_131 (S : Ms) : Option (Int32 × Ms) :=
  f_X3_isDone_132 S (0 : Int32)
set_option maxHeartbeats 4000000 in
theorem v_X3_isDone_131 {l : Launch} {G : Gx} (hst : l.stackTraces = false) (hm : gmo G ≠ 0) {σ0 σe : Hp} {Se : Ms} {r : Int32} {S : Ms} (h : f_X3_isDone_131 S  = some (r, Se)) : VV_X3_isDone l G σ0 (.inl (some (pI r))) σe Se 131 [] [] σe S := by
  unfold f_X3_isDone_131 at h
  refine V_iconst (v := 0) dX3_isDone_131 (by decide) ?_
  refine V_sub [] rfl ?_
  exact v_X3_isDone_132 hst hm h
def f_X3_isDone_110 (S : Ms) (s0 : Int32) : Option (Int32 × Ms) :=
  bd (okZ s0) fun e1 => some (s0, S)
set_option maxHeartbeats 4000000 in
theorem v_X3_isDone_110 {l : Launch} {G : Gx} (hst : l.stackTraces = false) (hm : gmo G ≠ 0) {σ0 σe : Hp} {Se : Ms} {r : Int32} {S : Ms} {s0 : Int32} (h : f_X3_isDone_110 S s0 = some (r, Se)) : VV_X3_isDone l G σ0 (.inl (some (pI r))) σe Se 110 [] [pI s0] σe S := by
  unfold f_X3_isDone_110 at h
  obtain ⟨e1, e2, h⟩ := bd_s h
  cases h
  exact V_retZ e2 rfl dX3_isDone_110
def f_X3_isDone_109 (S : Ms) : Option (Int32 × Ms) :=
  f_X3_isDone_110 S (0 : Int32)
set_option maxHeartbeats 4000000 in
theorem v_X3_isDone_109 {l : Launch} {G : Gx} (hst : l.stackTraces = false) (hm : gmo G ≠ 0) {σ0 σe : Hp} {Se : Ms} {r : Int32} {S : Ms} (h : f_X3_isDone_109 S  = some (r, Se)) : VV_X3_isDone l G σ0 (.inl (some (pI r))) σe Se 109 [] [] σe S := by
  unfold f_X3_isDone_109 at h
  refine V_iconst (v := 0) dX3_isDone_109 (by decide) ?_
  refine V_sub [] rfl ?_
  exact v_X3_isDone_110 hst hm h
def f_X3_isDone_179 (S : Ms) (s0 : Int32) : Option (Int32 × Ms) :=
  bd (okZ s0) fun e1 => some (s0, S)
set_option maxHeartbeats 4000000 in
theorem v_X3_isDone_179 {l : Launch} {G : Gx} (hst : l.stackTraces = false) (hm : gmo G ≠ 0) {σ0 σe : Hp} {Se : Ms} {r : Int32} {S : Ms} {s0 : Int32} (h : f_X3_isDone_179 S s0 = some (r, Se)) : VV_X3_isDone l G σ0 (.inl (some (pI r))) σe Se 179 [] [pI s0] σe S := by
  unfold f_X3_isDone_179 at h
  obtain ⟨e1, e2, h⟩ := bd_s h
  cases h
  exact V_retZ e2 rfl dX3_isDone_179
def f_X3_isDone (S : Ms) (x1 : Int32) : Option (Int32 × Ms) :=
  bd (mrd S 15 24 x1) fun y1 => bd (mrd S 13 24 x1) fun y3 => if y3 = (98 : Int32) then (bd (mrd S 0 149 (8 : Int32)) fun y6 => if (20 : Int32) ≤ y6 then (f_X3_isDone_81 S ) else (bp (f_X3_addBlock S y1 (0 : Int32)) fun y9 S10 => if y9 < (0 : Int32) then (f_X3_isDone_81 S10 ) else (f_X3_isDone_82 S10 (1 : Int32)))) else (if y3 = (104 : Int32) then (bd (mrd S 14 24 x1) fun y14 => bp (f_X3_isBlock S y14) fun y16 S17 => if y16 = (0 : Int32) then (f_X3_isDone_164 S17 ) else (bd (mrd S17 14 24 x1) fun y20 => bp (f_X3_holdNow S17 y20 y1) fun y22 S23 => if y22 < (0 : Int32) then (f_X3_isDone_164 S23 ) else (f_X3_isDone_165 S23 (1 : Int32)))) else (if y3 = (117 : Int32) then (bp (f_X3_height S y1) fun y27 S28 => if y27 ≤ (0 : Int32) then (f_X3_isDone_131 S28 ) else (bp (f_X3_takeNow S28 y1) fun y31 S32 => if y31 < (0 : Int32) then (f_X3_isDone_131 S32 ) else (f_X3_isDone_132 S32 (1 : Int32)))) else (if y3 = (119 : Int32) then (bp (f_X3_isBlock S y1) fun y36 S37 => if y36 = (0 : Int32) then (f_X3_isDone_109 S37 ) else (bd (mrd S37 14 24 x1) fun y40 => bp (f_X3_wringNow S37 y40 y1) fun y42 S43 => if y42 = (0 : Int32) then (f_X3_isDone_110 S43 (1 : Int32)) else (f_X3_isDone_109 S43 ))) else (bp (f_X3_restNow S y1) fun y46 S47 => if y46 < (0 : Int32) then (f_X3_isDone_179 S47 (0 : Int32)) else (f_X3_isDone_179 S47 (1 : Int32))))))
set_option maxHeartbeats 4000000 in
theorem v_X3_isDone (l : Launch) (G : Gx) (hst : l.stackTraces = false) (hm : gmo G ≠ 0) (σ : Hp) {S Se : Ms} {x1 : Int32} {r : Int32} (h : f_X3_isDone S x1 = some (r, Se)) : MT l G yX3_isDone (ws_ yX3_isDone cX3_isDone 3 (some .boolean)) 6 140 [pR (gmo G), pI x1] σ S (.inl (some (pI r))) σ Se := by
  refine MT_of (own := RX3) (nL := 3) (ini := false) (by decide +kernel) rfl (Nat.le_of_ble_eq_true rfl) (fun h => by cases h) hst ?_
  show VV_X3_isDone l G σ (.inl (some (pI r))) σ Se 0 [(0, pR (gmo G)), (1, pI x1)] [] σ S
  unfold f_X3_isDone at h
  refine V_aload_n (i := 0) 0 dX3_isDone_0 rfl rfl ?_
  refine V_mrdA hm gf_X3_35 (by decide) rfl dX3_isDone_1 ?_
  refine V_iload_n (i := 1) 1 dX3_isDone_4 rfl rfl ?_
  obtain ⟨y1, e2, h⟩ := bd_s h
  refine V_mel hm e2 (by decide) rfl (by decide) dX3_isDone_5 ?_
  refine V_istore_n (i := 2) (L' := [(2, pI y1), (0, pR (gmo G)), (1, pI x1)]) dX3_isDone_6 rfl (by decide) rfl ?_
  refine V_aload_n (i := 0) 1 dX3_isDone_7 rfl rfl ?_
  refine V_mrdA hm gf_X3_29 (by decide) rfl dX3_isDone_8 ?_
  refine V_iload_n (i := 1) 2 dX3_isDone_11 rfl rfl ?_
  obtain ⟨y3, e4, h⟩ := bd_s h
  refine V_mel hm e4 (by decide) rfl (by decide) dX3_isDone_12 ?_
  by_cases c5 : y3 = (98 : Int32)
  · replace h := it_t c5 h
    refine V_lookup 56 dX3_isDone_13 (by decide) (by rw [c5]; first | done | rfl) (by decide) ?_
    refine V_aload_n (i := 0) 1 dX3_isDone_56 rfl rfl ?_
    refine V_mrdA hm gf_X3_7 (by decide) rfl dX3_isDone_57 ?_
    refine V_bipush (v := 8) dX3_isDone_60 (by decide) ?_
    obtain ⟨y6, e7, h⟩ := bd_s h
    refine V_mel hm e7 (by decide) rfl (by decide) dX3_isDone_62 ?_
    refine V_bipush (v := 20) dX3_isDone_63 (by decide) ?_
    refine V_icmp_ge 81 dX3_isDone_65 (by decide) (fun c8 => ?_) (fun c8 => ?_)
    · replace h := it_t c8 h
      refine V_sub [] rfl ?_
      exact v_X3_isDone_81 hst hm h
    · replace h := it_f c8 h
      refine V_aload_n (i := 0) 1 dX3_isDone_68 rfl rfl ?_
      refine V_iload_n (i := 2) 0 dX3_isDone_69 rfl rfl ?_
      refine V_iconst (v := 0) dX3_isDone_70 (by decide) ?_
      obtain ⟨y9, S10, e11, h⟩ := bp_s h
      refine V_callM_v (n9 := 2) [] hm (v_X3_addBlock l G hst hm _ e11) rfl rfl (lw_V q2086 q2088 qs30 q90 q2089) (by decide +kernel) (by decide) (Nat.le_of_ble_eq_true rfl) dX3_isDone_71 ?_
      refine V_if_lt 81 dX3_isDone_74 (by decide) (fun c12 => ?_) (fun c12 => ?_)
      · replace h := it_t c12 h
        refine V_sub [] rfl ?_
        exact v_X3_isDone_81 hst hm h
      · replace h := it_f c12 h
        refine V_iconst (v := 1) dX3_isDone_77 (by decide) ?_
        refine V_goto 82 dX3_isDone_78 (by decide) ?_
        refine V_sub [] rfl ?_
        exact v_X3_isDone_82 hst hm h
  · replace h := it_f c5 h
    by_cases c13 : y3 = (104 : Int32)
    · replace h := it_t c13 h
      refine V_lookup 133 dX3_isDone_13 (by decide) (by rw [c13]; first | done | rfl) (by decide) ?_
      refine V_aload_n (i := 0) 1 dX3_isDone_133 rfl rfl ?_
      refine V_aload_n (i := 0) 1 dX3_isDone_134 rfl rfl ?_
      refine V_mrdA hm gf_X3_32 (by decide) rfl dX3_isDone_135 ?_
      refine V_iload_n (i := 1) 2 dX3_isDone_138 rfl rfl ?_
      obtain ⟨y14, e15, h⟩ := bd_s h
      refine V_mel hm e15 (by decide) rfl (by decide) dX3_isDone_139 ?_
      obtain ⟨y16, S17, e18, h⟩ := bp_s h
      refine V_callM_v (n9 := 1) [] hm (v_X3_isBlock l G hst hm _ e18) rfl rfl (lw_V q2098 q2100 qs32 q90 q2101) (by decide +kernel) (by decide) (Nat.le_of_ble_eq_true rfl) dX3_isDone_140 ?_
      refine V_if_eq 164 dX3_isDone_143 (by decide) (fun c19 => ?_) (fun c19 => ?_)
      · replace h := it_t c19 h
        refine V_sub [] rfl ?_
        exact v_X3_isDone_164 hst hm h
      · replace h := it_f c19 h
        refine V_aload_n (i := 0) 1 dX3_isDone_146 rfl rfl ?_
        refine V_aload_n (i := 0) 1 dX3_isDone_147 rfl rfl ?_
        refine V_mrdA hm gf_X3_32 (by decide) rfl dX3_isDone_148 ?_
        refine V_iload_n (i := 1) 2 dX3_isDone_151 rfl rfl ?_
        obtain ⟨y20, e21, h⟩ := bd_s h
        refine V_mel hm e21 (by decide) rfl (by decide) dX3_isDone_152 ?_
        refine V_iload_n (i := 2) 0 dX3_isDone_153 rfl rfl ?_
        obtain ⟨y22, S23, e24, h⟩ := bp_s h
        refine V_callM_v (n9 := 2) [] hm (v_X3_holdNow l G hst hm _ e24) rfl rfl (lw_V q2129 q2131 qs37 q90 q2132) (by decide +kernel) (by decide) (Nat.le_of_ble_eq_true rfl) dX3_isDone_154 ?_
        refine V_if_lt 164 dX3_isDone_157 (by decide) (fun c25 => ?_) (fun c25 => ?_)
        · replace h := it_t c25 h
          refine V_sub [] rfl ?_
          exact v_X3_isDone_164 hst hm h
        · replace h := it_f c25 h
          refine V_iconst (v := 1) dX3_isDone_160 (by decide) ?_
          refine V_goto 165 dX3_isDone_161 (by decide) ?_
          refine V_sub [] rfl ?_
          exact v_X3_isDone_165 hst hm h
    · replace h := it_f c13 h
      by_cases c26 : y3 = (117 : Int32)
      · replace h := it_t c26 h
        refine V_lookup 111 dX3_isDone_13 (by decide) (by rw [c26]; first | done | rfl) (by decide) ?_
        refine V_aload_n (i := 0) 1 dX3_isDone_111 rfl rfl ?_
        refine V_iload_n (i := 2) 0 dX3_isDone_112 rfl rfl ?_
        obtain ⟨y27, S28, e29, h⟩ := bp_s h
        refine V_callM_v (n9 := 1) [] hm (v_X3_height l G hst hm _ e29) rfl rfl (lw_V q2170 q2172 qs42 q90 q2173) (by decide +kernel) (by decide) (Nat.le_of_ble_eq_true rfl) dX3_isDone_113 ?_
        refine V_if_le 131 dX3_isDone_116 (by decide) (fun c30 => ?_) (fun c30 => ?_)
        · replace h := it_t c30 h
          refine V_sub [] rfl ?_
          exact v_X3_isDone_131 hst hm h
        · replace h := it_f c30 h
          refine V_aload_n (i := 0) 1 dX3_isDone_119 rfl rfl ?_
          refine V_iload_n (i := 2) 0 dX3_isDone_120 rfl rfl ?_
          obtain ⟨y31, S32, e33, h⟩ := bp_s h
          refine V_callM_v (n9 := 1) [] hm (v_X3_takeNow l G hst hm _ e33) rfl rfl (lw_V q2186 q2188 qs45 q90 q2189) (by decide +kernel) (by decide) (Nat.le_of_ble_eq_true rfl) dX3_isDone_121 ?_
          refine V_if_lt 131 dX3_isDone_124 (by decide) (fun c34 => ?_) (fun c34 => ?_)
          · replace h := it_t c34 h
            refine V_sub [] rfl ?_
            exact v_X3_isDone_131 hst hm h
          · replace h := it_f c34 h
            refine V_iconst (v := 1) dX3_isDone_127 (by decide) ?_
            refine V_goto 132 dX3_isDone_128 (by decide) ?_
            refine V_sub [] rfl ?_
            exact v_X3_isDone_132 hst hm h
      · replace h := it_f c26 h
        by_cases c35 : y3 = (119 : Int32)
        · replace h := it_t c35 h
          refine V_lookup 83 dX3_isDone_13 (by decide) (by rw [c35]; first | done | rfl) (by decide) ?_
          refine V_aload_n (i := 0) 1 dX3_isDone_83 rfl rfl ?_
          refine V_iload_n (i := 2) 0 dX3_isDone_84 rfl rfl ?_
          obtain ⟨y36, S37, e38, h⟩ := bp_s h
          refine V_callM_v (n9 := 1) [] hm (v_X3_isBlock l G hst hm _ e38) rfl rfl (lw_V q2098 q2100 qs32 q90 q2101) (by decide +kernel) (by decide) (Nat.le_of_ble_eq_true rfl) dX3_isDone_85 ?_
          refine V_if_eq 109 dX3_isDone_88 (by decide) (fun c39 => ?_) (fun c39 => ?_)
          · replace h := it_t c39 h
            refine V_sub [] rfl ?_
            exact v_X3_isDone_109 hst hm h
          · replace h := it_f c39 h
            refine V_aload_n (i := 0) 1 dX3_isDone_91 rfl rfl ?_
            refine V_aload_n (i := 0) 1 dX3_isDone_92 rfl rfl ?_
            refine V_mrdA hm gf_X3_32 (by decide) rfl dX3_isDone_93 ?_
            refine V_iload_n (i := 1) 2 dX3_isDone_96 rfl rfl ?_
            obtain ⟨y40, e41, h⟩ := bd_s h
            refine V_mel hm e41 (by decide) rfl (by decide) dX3_isDone_97 ?_
            refine V_iload_n (i := 2) 0 dX3_isDone_98 rfl rfl ?_
            obtain ⟨y42, S43, e44, h⟩ := bp_s h
            refine V_callM_v (n9 := 2) [] hm (v_X3_wringNow l G hst hm _ e44) rfl rfl (lw_V q2162 q2164 qs40 q90 q2165) (by decide +kernel) (by decide) (Nat.le_of_ble_eq_true rfl) dX3_isDone_99 ?_
            refine V_if_ne 109 dX3_isDone_102 (by decide) (fun c45 => ?_) (fun c45 => ?_)
            · replace h := it_f c45 h
              refine V_sub [] rfl ?_
              exact v_X3_isDone_109 hst hm h
            · replace h := it_t c45 h
              refine V_iconst (v := 1) dX3_isDone_105 (by decide) ?_
              refine V_goto 110 dX3_isDone_106 (by decide) ?_
              refine V_sub [] rfl ?_
              exact v_X3_isDone_110 hst hm h
        · replace h := it_f c35 h
          refine V_lookup (off := 153) 166 dX3_isDone_13 (by decide) ((lv_osw c5 rfl).trans ((lv_osw c13 rfl).trans ((lv_osw c26 rfl).trans ((lv_osw c35 rfl).trans rfl)))) (by decide) ?_
          refine V_aload_n (i := 0) 1 dX3_isDone_166 rfl rfl ?_
          refine V_iload_n (i := 2) 0 dX3_isDone_167 rfl rfl ?_
          obtain ⟨y46, S47, e48, h⟩ := bp_s h
          refine V_callM_v (n9 := 1) [] hm (v_X3_restNow l G hst hm _ e48) rfl rfl (lw_V q2141 q2143 qs39 q90 q2144) (by decide +kernel) (by decide) (Nat.le_of_ble_eq_true rfl) dX3_isDone_168 ?_
          refine V_if_lt 178 dX3_isDone_171 (by decide) (fun c49 => ?_) (fun c49 => ?_)
          · replace h := it_t c49 h
            refine V_iconst (v := 0) dX3_isDone_178 (by decide) ?_
            refine V_sub [] rfl ?_
            exact v_X3_isDone_179 hst hm h
          · replace h := it_f c49 h
            refine V_iconst (v := 1) dX3_isDone_174 (by decide) ?_
            refine V_goto 179 dX3_isDone_175 (by decide) ?_
            refine V_sub [] rfl ?_
            exact v_X3_isDone_179 hst hm h

abbrev VV_X3_execute (l : Launch) (G : Gx) (σ0 : Hp) (o : Oc) (σe : Hp) (Se : Ms) := V l G RX3 cX3_execute 2 (some .int) [] false 7 162 σ0 o σe Se
def f_X3_execute_46 (S : Ms) (x1 : Int32) : Option (Int32 × Ms) :=
  some (x1, (sM S 9 (0 : Int32)))
set_option maxHeartbeats 4000000 in
theorem v_X3_execute_46 {l : Launch} {G : Gx} (hst : l.stackTraces = false) (hm : gmo G ≠ 0) {σ0 σe : Hp} {Se : Ms} {r : Int32} {S : Ms} {x1 : Int32} (h : f_X3_execute_46 S x1 = some (r, Se)) : VV_X3_execute l G σ0 (.inl (some (pI r))) σe Se 46 [(1, pI x1), (0, pR (gmo G))] [] σe S := by
  unfold f_X3_execute_46 at h
  refine V_aload_n (i := 0) 1 dX3_execute_46 rfl rfl ?_
  refine V_iconst (v := 0) dX3_execute_47 (by decide) ?_
  refine V_mput hm gw_X3_147 (by decide) rfl dX3_execute_48 ?_
  refine V_iload_n (i := 1) 0 dX3_execute_51 rfl rfl ?_
  cases h
  exact V_iret rfl dX3_execute_52
def f_X3_execute_24_b (k24 : Ms → Int32 → Option (Int32 × Ms)) (S : Ms) (x1 : Int32) : Option (Int32 × Ms) :=
  if (S.1 12) ≤ x1 then (f_X3_execute_46 S x1) else (bp (f_X3_isDone S x1) fun y2 S3 => if y2 = (0 : Int32) then (f_X3_execute_46 S3 x1) else (k24 S3 (x1 + (1 : Int32))))
set_option maxHeartbeats 4000000 in
theorem v_X3_execute_24_b {l : Launch} {G : Gx} (hst : l.stackTraces = false) (hm : gmo G ≠ 0) {σ0 σe : Hp} {Se : Ms} {r : Int32} {k24 : Ms → Int32 → Option (Int32 × Ms)} (hk24 : ∀ (S : Ms) (x1 : Int32), k24 S x1 = some (r, Se) → VV_X3_execute l G σ0 (.inl (some (pI r))) σe Se 24 [(1, pI x1), (0, pR (gmo G))] [] σe S) {S : Ms} {x1 : Int32} (h : f_X3_execute_24_b k24 S x1 = some (r, Se)) : VV_X3_execute l G σ0 (.inl (some (pI r))) σe Se 24 [(1, pI x1), (0, pR (gmo G))] [] σe S := by
  unfold f_X3_execute_24_b at h
  refine V_iload_n (i := 1) 0 dX3_execute_24 rfl rfl ?_
  refine V_aload_n (i := 0) 1 dX3_execute_25 rfl rfl ?_
  refine V_mrdI hm gf_X3_162 (by decide) rfl dX3_execute_26 ?_
  refine V_icmp_ge 46 dX3_execute_29 (by decide) (fun c1 => ?_) (fun c1 => ?_)
  · replace h := it_t c1 h
    refine V_sub [0, 1] rfl ?_
    exact v_X3_execute_46 hst hm h
  · replace h := it_f c1 h
    refine V_aload_n (i := 0) 1 dX3_execute_32 rfl rfl ?_
    refine V_iload_n (i := 1) 0 dX3_execute_33 rfl rfl ?_
    obtain ⟨y2, S3, e4, h⟩ := bp_s h
    refine V_callM_v (n9 := 1) [] hm (v_X3_isDone l G hst hm _ e4) rfl rfl (lw_V q2261 q2263 qs57 q90 q2264) (by decide +kernel) (by decide) (Nat.le_of_ble_eq_true rfl) dX3_execute_34 ?_
    refine V_if_eq 46 dX3_execute_37 (by decide) (fun c5 => ?_) (fun c5 => ?_)
    · replace h := it_t c5 h
      refine V_sub [0, 1] rfl ?_
      exact v_X3_execute_46 hst hm h
    · replace h := it_f c5 h
      refine V_iinc (v := (x1 + (1 : Int32))) (L' := [(1, pI (x1 + (1 : Int32))), (0, pR (gmo G))]) 0 dX3_execute_40 rfl rfl (by decide) rfl ?_
      refine V_goto 24 dX3_execute_43 (by decide) ?_
      refine V_sub [0, 1] rfl ?_
      exact hk24 _ _ h
def f_X3_execute_24 : Nat → Ms → Int32 → Option (Int32 × Ms)
  | 0, _, _ => none
  | n + 1, S, x1 => f_X3_execute_24_b (f_X3_execute_24 n) S x1
theorem v_X3_execute_24 {l : Launch} {G : Gx} (hst : l.stackTraces = false) (hm : gmo G ≠ 0) {σ0 σe : Hp} {Se : Ms} {r : Int32} : ∀ (n : Nat) (S : Ms) (x1 : Int32), f_X3_execute_24 n S x1 = some (r, Se) → VV_X3_execute l G σ0 (.inl (some (pI r))) σe Se 24 [(1, pI x1), (0, pR (gmo G))] [] σe S
  | 0, _, _, h => by cases h
  | n + 1, _, _, h => v_X3_execute_24_b hst hm (v_X3_execute_24 hst hm n) h
def f_X3_execute (S : Ms) : Option (Int32 × Ms) :=
  bp (f_X3_isComplete (sM S 5 (0 : Int32)) ) fun y1 S2 => if y1 = (0 : Int32) then (bp (f_X3_fails S2 (1 : Int32)) fun y8 S9 => some (y8, S9)) else (bp (f_X3_save S2 ) fun e5 S6 => f_X3_execute_24 FU S6 (0 : Int32))
set_option maxHeartbeats 4000000 in
theorem v_X3_execute (l : Launch) (G : Gx) (hst : l.stackTraces = false) (hm : gmo G ≠ 0) (σ : Hp) {S Se : Ms} {r : Int32} (h : f_X3_execute S  = some (r, Se)) : MT l G yX3_execute (ws_ yX3_execute cX3_execute 2 (some .int)) 7 162 [pR (gmo G)] σ S (.inl (some (pI r))) σ Se := by
  refine MT_of (own := RX3) (nL := 2) (ini := false) (by decide +kernel) rfl (Nat.le_of_ble_eq_true rfl) (fun h => by cases h) hst ?_
  show VV_X3_execute l G σ (.inl (some (pI r))) σ Se 0 [(0, pR (gmo G))] [] σ S
  unfold f_X3_execute at h
  refine V_aload_n (i := 0) 0 dX3_execute_0 rfl rfl ?_
  refine V_iconst (v := 0) dX3_execute_1 (by decide) ?_
  refine V_mput hm gw_X3_38 (by decide) rfl dX3_execute_2 ?_
  refine V_aload_n (i := 0) 0 dX3_execute_5 rfl rfl ?_
  obtain ⟨y1, S2, e3, h⟩ := bp_s h
  refine V_callM_v (n9 := 0) [] hm (v_X3_isComplete l G hst hm _ e3) rfl rfl (lw_V q2233 q2235 qs51 q90 q2236) (by decide +kernel) (by decide) (Nat.le_of_ble_eq_true rfl) dX3_execute_6 ?_
  refine V_if_ne 18 dX3_execute_9 (by decide) (fun c4 => ?_) (fun c4 => ?_)
  · replace h := it_f c4 h
    refine V_aload_n (i := 0) 0 dX3_execute_18 rfl rfl ?_
    obtain ⟨e5, S6, e7, h⟩ := bp_s h
    refine V_callM_0 (n9 := 0) [] hm (v_X3_save l G hst hm _ e7) rfl rfl (lw_V q2077 q2079 qs29 q90 q2080) (by decide +kernel) (by decide) (Nat.le_of_ble_eq_true rfl) dX3_execute_19 ?_
    refine V_iconst (v := 0) dX3_execute_22 (by decide) ?_
    refine V_istore_n (i := 1) (L' := [(1, pI (0 : Int32)), (0, pR (gmo G))]) dX3_execute_23 rfl (by decide) rfl ?_
    refine V_sub [0, 1] rfl ?_
    exact v_X3_execute_24 hst hm FU _ _ h
  · replace h := it_t c4 h
    refine V_aload_n (i := 0) 0 dX3_execute_12 rfl rfl ?_
    refine V_iconst (v := 1) dX3_execute_13 (by decide) ?_
    obtain ⟨y8, S9, e10, h⟩ := bp_s h
    refine V_callM_v (n9 := 1) [] hm (v_X3_fails l G hst hm _ e10) rfl rfl (lw_V q2062 q2064 qs28 q90 q2065) (by decide +kernel) (by decide) (Nat.le_of_ble_eq_true rfl) dX3_execute_14 ?_
    cases h
    exact V_iret rfl dX3_execute_17

abbrev VV_X3_trueLength (l : Launch) (G : Gx) (σ0 : Hp) (o : Oc) (σe : Hp) (Se : Ms) := V l G RX3 cX3_trueLength 4 (some .int) [] false 3 73 σ0 o σe Se
def f_X3_trueLength (S : Ms) (x1 : Int32) (x2 : Int32) : Option (Int32 × Ms) :=
  bp (f_X3_of S x1 (0 : Int32)) fun y1 S2 => bp (f_X3_error S2 x1) fun y4 S5 => bd (dvI (y1 * x2) (1000 : Int32)) fun y7 => bd (dvI (y7 * (115 : Int32)) (1000 : Int32)) fun y9 => some (((((1000 : Int32) * y1) + y4) + y9), S5)
set_option maxHeartbeats 4000000 in
theorem v_X3_trueLength (l : Launch) (G : Gx) (hst : l.stackTraces = false) (hm : gmo G ≠ 0) (σ : Hp) {S Se : Ms} {x1 : Int32} {x2 : Int32} {r : Int32} (h : f_X3_trueLength S x1 x2 = some (r, Se)) : MT l G yX3_trueLength (ws_ yX3_trueLength cX3_trueLength 4 (some .int)) 3 73 [pR (gmo G), pI x1, pI x2] σ S (.inl (some (pI r))) σ Se := by
  refine MT_of (own := RX3) (nL := 4) (ini := false) (by decide +kernel) rfl (Nat.le_of_ble_eq_true rfl) (fun h => by cases h) hst ?_
  show VV_X3_trueLength l G σ (.inl (some (pI r))) σ Se 0 [(0, pR (gmo G)), (1, pI x1), (2, pI x2)] [] σ S
  unfold f_X3_trueLength at h
  refine V_aload_n (i := 0) 0 dX3_trueLength_0 rfl rfl ?_
  refine V_iload_n (i := 1) 1 dX3_trueLength_1 rfl rfl ?_
  refine V_iconst (v := 0) dX3_trueLength_2 (by decide) ?_
  obtain ⟨y1, S2, e3, h⟩ := bp_s h
  refine V_callM_v (n9 := 2) [] hm (v_X3_of l G hst hm _ e3) rfl rfl (lw_V q2106 q2108 qs34 q90 q2109) (by decide +kernel) (by decide) (Nat.le_of_ble_eq_true rfl) dX3_trueLength_3 ?_
  refine V_istore_n (i := 3) (L' := [(3, pI y1), (0, pR (gmo G)), (1, pI x1), (2, pI x2)]) dX3_trueLength_6 rfl (by decide) rfl ?_
  refine V_sipush (v := 1000) dX3_trueLength_7 (by decide) ?_
  refine V_iload_n (i := 3) 0 dX3_trueLength_10 rfl rfl ?_
  refine V_imul dX3_trueLength_11 ?_
  refine V_aload_n (i := 0) 1 dX3_trueLength_12 rfl rfl ?_
  refine V_iload_n (i := 1) 2 dX3_trueLength_13 rfl rfl ?_
  obtain ⟨y4, S5, e6, h⟩ := bp_s h
  refine V_callM_v (n9 := 1) [pI ((1000 : Int32) * y1)] hm (v_X3_error l G hst hm _ e6) rfl rfl (lw_V q2114 q2116 qs35 q90 q2117) (by decide +kernel) (by decide) (Nat.le_of_ble_eq_true rfl) dX3_trueLength_14 ?_
  refine V_iadd dX3_trueLength_17 ?_
  refine V_iload_n (i := 3) 0 dX3_trueLength_18 rfl rfl ?_
  refine V_iload_n (i := 2) 3 dX3_trueLength_19 rfl rfl ?_
  refine V_imul dX3_trueLength_20 ?_
  refine V_sipush (v := 1000) dX3_trueLength_21 (by decide) ?_
  obtain ⟨y7, e8, h⟩ := bd_s h
  refine V_div e8 dX3_trueLength_24 ?_
  refine V_bipush (v := 115) dX3_trueLength_25 (by decide) ?_
  refine V_imul dX3_trueLength_27 ?_
  refine V_sipush (v := 1000) dX3_trueLength_28 (by decide) ?_
  obtain ⟨y9, e10, h⟩ := bd_s h
  refine V_div e10 dX3_trueLength_31 ?_
  refine V_iadd dX3_trueLength_32 ?_
  cases h
  exact V_iret rfl dX3_trueLength_33

abbrev VV_X3_ofBlock (l : Launch) (G : Gx) (σ0 : Hp) (o : Oc) (σe : Hp) (Se : Ms) := V l G RX3 cX3_ofBlock 3 (some .int) [] false 4 96 σ0 o σe Se
def f_X3_ofBlock (S : Ms) (x1 : Int32) (x2 : Int32) : Option (Int32 × Ms) :=
  if x2 = (0 : Int32) then (bp (f_X3_of S x1 (0 : Int32)) fun y2 S3 => some (y2, S3)) else (if x2 = (1 : Int32) then (bp (f_X3_error S x1) fun y6 S7 => some ((y6 + (10000 : Int32)), S7)) else (if x2 = (2 : Int32) then (bp (f_X3_of S x1 (2 : Int32)) fun y10 S11 => some (y10, S11)) else (if x2 = (3 : Int32) then (bp (f_X3_of S x1 (3 : Int32)) fun y14 S15 => some (y14, S15)) else (if x2 = (4 : Int32) then (bp (f_X3_grade S x1) fun y18 S19 => some (y18, S19)) else (if x2 = (5 : Int32) then (bp (f_X3_of S x1 (3 : Int32)) fun y22 S23 => bp (f_X3_trueLength S23 x1 y22) fun y25 S26 => some (y25, S26)) else (if x2 = (6 : Int32) then (bp (f_X3_of S x1 (4 : Int32)) fun y29 S30 => some (y29, S30)) else (if x2 = (7 : Int32) then (bp (f_X3_of S x1 (5 : Int32)) fun y33 S34 => some (y33, S34)) else (bp (f_X3_of S x1 (6 : Int32)) fun y36 S37 => some (y36, S37)))))))))
set_option maxHeartbeats 4000000 in
theorem v_X3_ofBlock (l : Launch) (G : Gx) (hst : l.stackTraces = false) (hm : gmo G ≠ 0) (σ : Hp) {S Se : Ms} {x1 : Int32} {x2 : Int32} {r : Int32} (h : f_X3_ofBlock S x1 x2 = some (r, Se)) : MT l G yX3_ofBlock (ws_ yX3_ofBlock cX3_ofBlock 3 (some .int)) 4 96 [pR (gmo G), pI x1, pI x2] σ S (.inl (some (pI r))) σ Se := by
  refine MT_of (own := RX3) (nL := 3) (ini := false) (by decide +kernel) rfl (Nat.le_of_ble_eq_true rfl) (fun h => by cases h) hst ?_
  show VV_X3_ofBlock l G σ (.inl (some (pI r))) σ Se 0 [(0, pR (gmo G)), (1, pI x1), (2, pI x2)] [] σ S
  unfold f_X3_ofBlock at h
  refine V_iload_n (i := 2) 2 dX3_ofBlock_0 rfl rfl ?_
  by_cases c1 : x2 = (0 : Int32)
  · replace h := it_t c1 h
    refine V_tableIn 48 dX3_ofBlock_1 (by rw [c1]; decide) (by rw [c1]; decide) (by rw [c1]; first | done | rfl) (by decide) ?_
    refine V_aload_n (i := 0) 0 dX3_ofBlock_48 rfl rfl ?_
    refine V_iload_n (i := 1) 1 dX3_ofBlock_49 rfl rfl ?_
    refine V_iconst (v := 0) dX3_ofBlock_50 (by decide) ?_
    obtain ⟨y2, S3, e4, h⟩ := bp_s h
    refine V_callM_v (n9 := 2) [] hm (v_X3_of l G hst hm _ e4) rfl rfl (lw_V q2106 q2108 qs34 q90 q2109) (by decide +kernel) (by decide) (Nat.le_of_ble_eq_true rfl) dX3_ofBlock_51 ?_
    cases h
    exact V_iret rfl dX3_ofBlock_54
  · replace h := it_f c1 h
    by_cases c5 : x2 = (1 : Int32)
    · replace h := it_t c5 h
      refine V_tableIn 55 dX3_ofBlock_1 (by rw [c5]; decide) (by rw [c5]; decide) (by rw [c5]; first | done | rfl) (by decide) ?_
      refine V_aload_n (i := 0) 0 dX3_ofBlock_55 rfl rfl ?_
      refine V_iload_n (i := 1) 1 dX3_ofBlock_56 rfl rfl ?_
      obtain ⟨y6, S7, e8, h⟩ := bp_s h
      refine V_callM_v (n9 := 1) [] hm (v_X3_error l G hst hm _ e8) rfl rfl (lw_V q2114 q2116 qs35 q90 q2117) (by decide +kernel) (by decide) (Nat.le_of_ble_eq_true rfl) dX3_ofBlock_57 ?_
      refine V_sipush (v := 10000) dX3_ofBlock_60 (by decide) ?_
      refine V_iadd dX3_ofBlock_63 ?_
      cases h
      exact V_iret rfl dX3_ofBlock_64
    · replace h := it_f c5 h
      by_cases c9 : x2 = (2 : Int32)
      · replace h := it_t c9 h
        refine V_tableIn 65 dX3_ofBlock_1 (by rw [c9]; decide) (by rw [c9]; decide) (by rw [c9]; first | done | rfl) (by decide) ?_
        refine V_aload_n (i := 0) 0 dX3_ofBlock_65 rfl rfl ?_
        refine V_iload_n (i := 1) 1 dX3_ofBlock_66 rfl rfl ?_
        refine V_iconst (v := 2) dX3_ofBlock_67 (by decide) ?_
        obtain ⟨y10, S11, e12, h⟩ := bp_s h
        refine V_callM_v (n9 := 2) [] hm (v_X3_of l G hst hm _ e12) rfl rfl (lw_V q2106 q2108 qs34 q90 q2109) (by decide +kernel) (by decide) (Nat.le_of_ble_eq_true rfl) dX3_ofBlock_68 ?_
        cases h
        exact V_iret rfl dX3_ofBlock_71
      · replace h := it_f c9 h
        by_cases c13 : x2 = (3 : Int32)
        · replace h := it_t c13 h
          refine V_tableIn 72 dX3_ofBlock_1 (by rw [c13]; decide) (by rw [c13]; decide) (by rw [c13]; first | done | rfl) (by decide) ?_
          refine V_aload_n (i := 0) 0 dX3_ofBlock_72 rfl rfl ?_
          refine V_iload_n (i := 1) 1 dX3_ofBlock_73 rfl rfl ?_
          refine V_iconst (v := 3) dX3_ofBlock_74 (by decide) ?_
          obtain ⟨y14, S15, e16, h⟩ := bp_s h
          refine V_callM_v (n9 := 2) [] hm (v_X3_of l G hst hm _ e16) rfl rfl (lw_V q2106 q2108 qs34 q90 q2109) (by decide +kernel) (by decide) (Nat.le_of_ble_eq_true rfl) dX3_ofBlock_75 ?_
          cases h
          exact V_iret rfl dX3_ofBlock_78
        · replace h := it_f c13 h
          by_cases c17 : x2 = (4 : Int32)
          · replace h := it_t c17 h
            refine V_tableIn 79 dX3_ofBlock_1 (by rw [c17]; decide) (by rw [c17]; decide) (by rw [c17]; first | done | rfl) (by decide) ?_
            refine V_aload_n (i := 0) 0 dX3_ofBlock_79 rfl rfl ?_
            refine V_iload_n (i := 1) 1 dX3_ofBlock_80 rfl rfl ?_
            obtain ⟨y18, S19, e20, h⟩ := bp_s h
            refine V_callM_v (n9 := 1) [] hm (v_X3_grade l G hst hm _ e20) rfl rfl (lw_V q2118 q2120 qs36 q90 q2121) (by decide +kernel) (by decide) (Nat.le_of_ble_eq_true rfl) dX3_ofBlock_81 ?_
            cases h
            exact V_iret rfl dX3_ofBlock_84
          · replace h := it_f c17 h
            by_cases c21 : x2 = (5 : Int32)
            · replace h := it_t c21 h
              refine V_tableIn 85 dX3_ofBlock_1 (by rw [c21]; decide) (by rw [c21]; decide) (by rw [c21]; first | done | rfl) (by decide) ?_
              refine V_aload_n (i := 0) 0 dX3_ofBlock_85 rfl rfl ?_
              refine V_iload_n (i := 1) 1 dX3_ofBlock_86 rfl rfl ?_
              refine V_aload_n (i := 0) 0 dX3_ofBlock_87 rfl rfl ?_
              refine V_iload_n (i := 1) 1 dX3_ofBlock_88 rfl rfl ?_
              refine V_iconst (v := 3) dX3_ofBlock_89 (by decide) ?_
              obtain ⟨y22, S23, e24, h⟩ := bp_s h
              refine V_callM_v (n9 := 2) [pI x1, pR (gmo G)] hm (v_X3_of l G hst hm _ e24) rfl rfl (lw_V q2106 q2108 qs34 q90 q2109) (by decide +kernel) (by decide) (Nat.le_of_ble_eq_true rfl) dX3_ofBlock_90 ?_
              obtain ⟨y25, S26, e27, h⟩ := bp_s h
              refine V_callM_v (n9 := 2) [] hm (v_X3_trueLength l G hst hm _ e27) rfl rfl (lw_V q2273 q2275 qs59 q90 q2276) (by decide +kernel) (by decide) (Nat.le_of_ble_eq_true rfl) dX3_ofBlock_93 ?_
              cases h
              exact V_iret rfl dX3_ofBlock_96
            · replace h := it_f c21 h
              by_cases c28 : x2 = (6 : Int32)
              · replace h := it_t c28 h
                refine V_tableIn 97 dX3_ofBlock_1 (by rw [c28]; decide) (by rw [c28]; decide) (by rw [c28]; first | done | rfl) (by decide) ?_
                refine V_aload_n (i := 0) 0 dX3_ofBlock_97 rfl rfl ?_
                refine V_iload_n (i := 1) 1 dX3_ofBlock_98 rfl rfl ?_
                refine V_iconst (v := 4) dX3_ofBlock_99 (by decide) ?_
                obtain ⟨y29, S30, e31, h⟩ := bp_s h
                refine V_callM_v (n9 := 2) [] hm (v_X3_of l G hst hm _ e31) rfl rfl (lw_V q2106 q2108 qs34 q90 q2109) (by decide +kernel) (by decide) (Nat.le_of_ble_eq_true rfl) dX3_ofBlock_100 ?_
                cases h
                exact V_iret rfl dX3_ofBlock_103
              · replace h := it_f c28 h
                by_cases c32 : x2 = (7 : Int32)
                · replace h := it_t c32 h
                  refine V_tableIn 104 dX3_ofBlock_1 (by rw [c32]; decide) (by rw [c32]; decide) (by rw [c32]; first | done | rfl) (by decide) ?_
                  refine V_aload_n (i := 0) 0 dX3_ofBlock_104 rfl rfl ?_
                  refine V_iload_n (i := 1) 1 dX3_ofBlock_105 rfl rfl ?_
                  refine V_iconst (v := 5) dX3_ofBlock_106 (by decide) ?_
                  obtain ⟨y33, S34, e35, h⟩ := bp_s h
                  refine V_callM_v (n9 := 2) [] hm (v_X3_of l G hst hm _ e35) rfl rfl (lw_V q2106 q2108 qs34 q90 q2109) (by decide +kernel) (by decide) (Nat.le_of_ble_eq_true rfl) dX3_ofBlock_107 ?_
                  cases h
                  exact V_iret rfl dX3_ofBlock_110
                · replace h := it_f c32 h
                  refine V_tableOut 111 dX3_ofBlock_1 (by have z0 := ne_int (a := 0) c1 (by decide); have z1 := ne_int (a := 1) c5 (by decide); have z2 := ne_int (a := 2) c9 (by decide); have z3 := ne_int (a := 3) c13 (by decide); have z4 := ne_int (a := 4) c17 (by decide); have z5 := ne_int (a := 5) c21 (by decide); have z6 := ne_int (a := 6) c28 (by decide); have z7 := ne_int (a := 7) c32 (by decide); omega) (by decide) ?_
                  refine V_aload_n (i := 0) 0 dX3_ofBlock_111 rfl rfl ?_
                  refine V_iload_n (i := 1) 1 dX3_ofBlock_112 rfl rfl ?_
                  refine V_bipush (v := 6) dX3_ofBlock_113 (by decide) ?_
                  obtain ⟨y36, S37, e38, h⟩ := bp_s h
                  refine V_callM_v (n9 := 2) [] hm (v_X3_of l G hst hm _ e38) rfl rfl (lw_V q2106 q2108 qs34 q90 q2109) (by decide +kernel) (by decide) (Nat.le_of_ble_eq_true rfl) dX3_ofBlock_115 ?_
                  cases h
                  exact V_iret rfl dX3_ofBlock_118

abbrev VV_X3_blockOf (l : Launch) (G : Gx) (σ0 : Hp) (o : Oc) (σe : Hp) (Se : Ms) := V l G RX3 cX3_blockOf 3 (some .int) [] false 5 118 σ0 o σe Se
def f_X3_blockOf_43 (S : Ms) (s0 : Int32) : Option (Int32 × Ms) :=
  some (s0, S)
set_option maxHeartbeats 4000000 in
theorem v_X3_blockOf_43 {l : Launch} {G : Gx} (hst : l.stackTraces = false) (hm : gmo G ≠ 0) {σ0 σe : Hp} {Se : Ms} {r : Int32} {S : Ms} {s0 : Int32} (h : f_X3_blockOf_43 S s0 = some (r, Se)) : VV_X3_blockOf l G σ0 (.inl (some (pI r))) σe Se 43 [] [pI s0] σe S := by
  unfold f_X3_blockOf_43 at h
  cases h
  exact V_iret rfl dX3_blockOf_43
def f_X3_blockOf (S : Ms) (x1 : Int32) (x2 : Int32) : Option (Int32 × Ms) :=
  bp (f_X3_isBlock (sM S 5 (0 : Int32)) x1) fun y1 S2 => if y1 = (0 : Int32) then (bp (f_X3_fails S2 (1 : Int32)) fun y14 S15 => some (y14, S15)) else (bd (f_X3_in x2 (0 : Int32) (8 : Int32)) fun y5 => if y5 = (0 : Int32) then (bp (f_X3_fails S2 (2 : Int32)) fun y8 S9 => f_X3_blockOf_43 S9 y8) else (bp (f_X3_ofBlock S2 x1 x2) fun y11 S12 => f_X3_blockOf_43 S12 y11))
set_option maxHeartbeats 4000000 in
theorem v_X3_blockOf (l : Launch) (G : Gx) (hst : l.stackTraces = false) (hm : gmo G ≠ 0) (σ : Hp) {S Se : Ms} {x1 : Int32} {x2 : Int32} {r : Int32} (h : f_X3_blockOf S x1 x2 = some (r, Se)) : MT l G yX3_blockOf (ws_ yX3_blockOf cX3_blockOf 3 (some .int)) 5 118 [pR (gmo G), pI x1, pI x2] σ S (.inl (some (pI r))) σ Se := by
  refine MT_of (own := RX3) (nL := 3) (ini := false) (by decide +kernel) rfl (Nat.le_of_ble_eq_true rfl) (fun h => by cases h) hst ?_
  show VV_X3_blockOf l G σ (.inl (some (pI r))) σ Se 0 [(0, pR (gmo G)), (1, pI x1), (2, pI x2)] [] σ S
  unfold f_X3_blockOf at h
  refine V_aload_n (i := 0) 0 dX3_blockOf_0 rfl rfl ?_
  refine V_iconst (v := 0) dX3_blockOf_1 (by decide) ?_
  refine V_mput hm gw_X3_38 (by decide) rfl dX3_blockOf_2 ?_
  refine V_aload_n (i := 0) 0 dX3_blockOf_5 rfl rfl ?_
  refine V_iload_n (i := 1) 1 dX3_blockOf_6 rfl rfl ?_
  obtain ⟨y1, S2, e3, h⟩ := bp_s h
  refine V_callM_v (n9 := 1) [] hm (v_X3_isBlock l G hst hm _ e3) rfl rfl (lw_V q2098 q2100 qs32 q90 q2101) (by decide +kernel) (by decide) (Nat.le_of_ble_eq_true rfl) dX3_blockOf_7 ?_
  refine V_if_ne 19 dX3_blockOf_10 (by decide) (fun c4 => ?_) (fun c4 => ?_)
  · replace h := it_f c4 h
    refine V_iload_n (i := 2) 2 dX3_blockOf_19 rfl rfl ?_
    refine V_iconst (v := 0) dX3_blockOf_20 (by decide) ?_
    refine V_bipush (v := 8) dX3_blockOf_21 (by decide) ?_
    obtain ⟨y5, e6, h⟩ := bd_s h
    refine V_callS_v (n9 := 3) [] (v_X3_in l G hst _ _ e6) rfl rfl (lw_S q2070 q2071 q90 q2072) (by decide +kernel) (by decide) (Nat.le_of_ble_eq_true rfl) dX3_blockOf_23 ?_
    refine V_if_eq 38 dX3_blockOf_26 (by decide) (fun c7 => ?_) (fun c7 => ?_)
    · replace h := it_t c7 h
      refine V_aload_n (i := 0) 0 dX3_blockOf_38 rfl rfl ?_
      refine V_iconst (v := 2) dX3_blockOf_39 (by decide) ?_
      obtain ⟨y8, S9, e10, h⟩ := bp_s h
      refine V_callM_v (n9 := 1) [] hm (v_X3_fails l G hst hm _ e10) rfl rfl (lw_V q2062 q2064 qs28 q90 q2065) (by decide +kernel) (by decide) (Nat.le_of_ble_eq_true rfl) dX3_blockOf_40 ?_
      refine V_sub [] rfl ?_
      exact v_X3_blockOf_43 hst hm h
    · replace h := it_f c7 h
      refine V_aload_n (i := 0) 0 dX3_blockOf_29 rfl rfl ?_
      refine V_iload_n (i := 1) 1 dX3_blockOf_30 rfl rfl ?_
      refine V_iload_n (i := 2) 2 dX3_blockOf_31 rfl rfl ?_
      obtain ⟨y11, S12, e13, h⟩ := bp_s h
      refine V_callM_v (n9 := 2) [] hm (v_X3_ofBlock l G hst hm _ e13) rfl rfl (lw_V q2269 q2271 qs58 q90 q2272) (by decide +kernel) (by decide) (Nat.le_of_ble_eq_true rfl) dX3_blockOf_32 ?_
      refine V_goto 43 dX3_blockOf_35 (by decide) ?_
      refine V_sub [] rfl ?_
      exact v_X3_blockOf_43 hst hm h
  · replace h := it_t c4 h
    refine V_aload_n (i := 0) 0 dX3_blockOf_13 rfl rfl ?_
    refine V_iconst (v := 1) dX3_blockOf_14 (by decide) ?_
    obtain ⟨y14, S15, e16, h⟩ := bp_s h
    refine V_callM_v (n9 := 1) [] hm (v_X3_fails l G hst hm _ e16) rfl rfl (lw_V q2062 q2064 qs28 q90 q2065) (by decide +kernel) (by decide) (Nat.le_of_ble_eq_true rfl) dX3_blockOf_15 ?_
    cases h
    exact V_iret rfl dX3_blockOf_18

abbrev VV_X3_together (l : Launch) (G : Gx) (σ0 : Hp) (o : Oc) (σe : Hp) (Se : Ms) := V l G RX3 cX3_together 6 (some .int) [] false 4 95 σ0 o σe Se
def f_X3_together_88 (k14 : Ms → Int32 → Int32 → Int32 → Int32 → Option (Int32 × Ms)) (S : Ms) (x4 : Int32) (x3 : Int32) (x1 : Int32) (x2 : Int32) : Option (Int32 × Ms) :=
  k14 S (x4 + (1 : Int32)) x3 x1 x2
set_option maxHeartbeats 4000000 in
theorem v_X3_together_88 {l : Launch} {G : Gx} (hst : l.stackTraces = false) (hm : gmo G ≠ 0) {σ0 σe : Hp} {Se : Ms} {r : Int32} {k14 : Ms → Int32 → Int32 → Int32 → Int32 → Option (Int32 × Ms)} (hk14 : ∀ (S : Ms) (x4 : Int32) (x3 : Int32) (x1 : Int32) (x2 : Int32), k14 S x4 x3 x1 x2 = some (r, Se) → VV_X3_together l G σ0 (.inl (some (pI r))) σe Se 14 [(4, pI x4), (3, pI x3), (0, pR (gmo G)), (1, pI x1), (2, pI x2)] [] σe S) {S : Ms} {x4 : Int32} {x3 : Int32} {x1 : Int32} {x2 : Int32} (h : f_X3_together_88 k14 S x4 x3 x1 x2 = some (r, Se)) : VV_X3_together l G σ0 (.inl (some (pI r))) σe Se 88 [(4, pI x4), (3, pI x3), (0, pR (gmo G)), (1, pI x1), (2, pI x2)] [] σe S := by
  unfold f_X3_together_88 at h
  refine V_iinc (v := (x4 + (1 : Int32))) (L' := [(4, pI (x4 + (1 : Int32))), (3, pI x3), (0, pR (gmo G)), (1, pI x1), (2, pI x2)]) 0 dX3_together_88 rfl rfl (by decide) rfl ?_
  refine V_goto 14 dX3_together_91 (by decide) ?_
  refine V_sub [0, 1, 2, 3, 4] rfl ?_
  exact hk14 _ _ _ _ _ h
def f_X3_together_87 (k14 : Ms → Int32 → Int32 → Int32 → Int32 → Option (Int32 × Ms)) (S : Ms) (x4 : Int32) (x1 : Int32) (x2 : Int32) (s0 : Int32) : Option (Int32 × Ms) :=
  f_X3_together_88 k14 S x4 s0 x1 x2
set_option maxHeartbeats 4000000 in
theorem v_X3_together_87 {l : Launch} {G : Gx} (hst : l.stackTraces = false) (hm : gmo G ≠ 0) {σ0 σe : Hp} {Se : Ms} {r : Int32} {k14 : Ms → Int32 → Int32 → Int32 → Int32 → Option (Int32 × Ms)} (hk14 : ∀ (S : Ms) (x4 : Int32) (x3 : Int32) (x1 : Int32) (x2 : Int32), k14 S x4 x3 x1 x2 = some (r, Se) → VV_X3_together l G σ0 (.inl (some (pI r))) σe Se 14 [(4, pI x4), (3, pI x3), (0, pR (gmo G)), (1, pI x1), (2, pI x2)] [] σe S) {S : Ms} {x4 : Int32} {x1 : Int32} {x2 : Int32} {s0 : Int32} (h : f_X3_together_87 k14 S x4 x1 x2 s0 = some (r, Se)) : VV_X3_together l G σ0 (.inl (some (pI r))) σe Se 87 [(4, pI x4), (0, pR (gmo G)), (1, pI x1), (2, pI x2)] [pI s0] σe S := by
  unfold f_X3_together_87 at h
  refine V_istore_n (i := 3) (L' := [(3, pI s0), (4, pI x4), (0, pR (gmo G)), (1, pI x1), (2, pI x2)]) dX3_together_87 rfl (by decide) rfl ?_
  refine V_sub [1, 0, 2, 3, 4] rfl ?_
  exact v_X3_together_88 hst hm hk14 h
def f_X3_together_14_b (k14 : Ms → Int32 → Int32 → Int32 → Int32 → Option (Int32 × Ms)) (S : Ms) (x4 : Int32) (x3 : Int32) (x1 : Int32) (x2 : Int32) : Option (Int32 × Ms) :=
  bd (mrd S 0 149 (8 : Int32)) fun y1 => if y1 ≤ x4 then (some (x3, S)) else (bp (f_X3_of S x4 (4 : Int32)) fun y4 S5 => if y4 = x1 then (bp (f_X3_grade S5 x4) fun y8 S9 => if x2 = (0 : Int32) then (bp (f_X3_of S9 x4 (0 : Int32)) fun y14 S15 => f_X3_together_87 k14 S15 x4 x1 x2 (x3 + y14)) else (if x2 = (1 : Int32) then (f_X3_together_87 k14 S9 x4 x1 x2 (x3 ||| ((1 : Int32) <<< (x4 &&& 31)))) else (if y8 ≤ x3 then (f_X3_together_87 k14 S9 x4 x1 x2 x3) else (f_X3_together_87 k14 S9 x4 x1 x2 y8)))) else (f_X3_together_88 k14 S5 x4 x3 x1 x2))
set_option maxHeartbeats 4000000 in
theorem v_X3_together_14_b {l : Launch} {G : Gx} (hst : l.stackTraces = false) (hm : gmo G ≠ 0) {σ0 σe : Hp} {Se : Ms} {r : Int32} {k14 : Ms → Int32 → Int32 → Int32 → Int32 → Option (Int32 × Ms)} (hk14 : ∀ (S : Ms) (x4 : Int32) (x3 : Int32) (x1 : Int32) (x2 : Int32), k14 S x4 x3 x1 x2 = some (r, Se) → VV_X3_together l G σ0 (.inl (some (pI r))) σe Se 14 [(4, pI x4), (3, pI x3), (0, pR (gmo G)), (1, pI x1), (2, pI x2)] [] σe S) {S : Ms} {x4 : Int32} {x3 : Int32} {x1 : Int32} {x2 : Int32} (h : f_X3_together_14_b k14 S x4 x3 x1 x2 = some (r, Se)) : VV_X3_together l G σ0 (.inl (some (pI r))) σe Se 14 [(4, pI x4), (3, pI x3), (0, pR (gmo G)), (1, pI x1), (2, pI x2)] [] σe S := by
  unfold f_X3_together_14_b at h
  refine V_iload (i := 4) 0 dX3_together_14 rfl ?_
  refine V_aload_n (i := 0) 2 dX3_together_16 rfl rfl ?_
  refine V_mrdA hm gf_X3_7 (by decide) rfl dX3_together_17 ?_
  refine V_bipush (v := 8) dX3_together_20 (by decide) ?_
  obtain ⟨y1, e2, h⟩ := bd_s h
  refine V_mel hm e2 (by decide) rfl (by decide) dX3_together_22 ?_
  refine V_icmp_ge 94 dX3_together_23 (by decide) (fun c3 => ?_) (fun c3 => ?_)
  · replace h := it_t c3 h
    refine V_iload_n (i := 3) 1 dX3_together_94 rfl rfl ?_
    cases h
    exact V_iret rfl dX3_together_95
  · replace h := it_f c3 h
    refine V_aload_n (i := 0) 2 dX3_together_26 rfl rfl ?_
    refine V_iload (i := 4) 0 dX3_together_27 rfl ?_
    refine V_iconst (v := 4) dX3_together_29 (by decide) ?_
    obtain ⟨y4, S5, e6, h⟩ := bp_s h
    refine V_callM_v (n9 := 2) [] hm (v_X3_of l G hst hm _ e6) rfl rfl (lw_V q2106 q2108 qs34 q90 q2109) (by decide +kernel) (by decide) (Nat.le_of_ble_eq_true rfl) dX3_together_30 ?_
    refine V_iload_n (i := 1) 3 dX3_together_33 rfl rfl ?_
    refine V_icmp_ne 88 dX3_together_34 (by decide) (fun c7 => ?_) (fun c7 => ?_)
    · replace h := it_f c7 h
      refine V_sub [0, 1, 2, 3, 4] rfl ?_
      exact v_X3_together_88 hst hm hk14 h
    · replace h := it_t c7 h
      refine V_aload_n (i := 0) 2 dX3_together_37 rfl rfl ?_
      refine V_iload (i := 4) 0 dX3_together_38 rfl ?_
      obtain ⟨y8, S9, e10, h⟩ := bp_s h
      refine V_callM_v (n9 := 1) [] hm (v_X3_grade l G hst hm _ e10) rfl rfl (lw_V q2118 q2120 qs36 q90 q2121) (by decide +kernel) (by decide) (Nat.le_of_ble_eq_true rfl) dX3_together_40 ?_
      refine V_istore (i := 5) (L' := [(5, pI y8), (4, pI x4), (3, pI x3), (0, pR (gmo G)), (1, pI x1), (2, pI x2)]) dX3_together_43 (by decide) rfl ?_
      refine V_iload_n (i := 2) 5 dX3_together_45 rfl rfl ?_
      refine V_if_ne 61 dX3_together_46 (by decide) (fun c11 => ?_) (fun c11 => ?_)
      · replace h := it_f c11 h
        refine V_iload_n (i := 2) 5 dX3_together_61 rfl rfl ?_
        refine V_iconst (v := 1) dX3_together_62 (by decide) ?_
        refine V_icmp_ne 75 dX3_together_63 (by decide) (fun c12 => ?_) (fun c12 => ?_)
        · replace h := it_f c12 h
          refine V_iload (i := 5) 0 dX3_together_75 rfl ?_
          refine V_iload_n (i := 3) 2 dX3_together_77 rfl rfl ?_
          refine V_icmp_le 86 dX3_together_78 (by decide) (fun c13 => ?_) (fun c13 => ?_)
          · replace h := it_t c13 h
            refine V_iload_n (i := 3) 2 dX3_together_86 rfl rfl ?_
            refine V_sub [1, 3, 4, 5] rfl ?_
            exact v_X3_together_87 hst hm hk14 h
          · replace h := it_f c13 h
            refine V_iload (i := 5) 0 dX3_together_81 rfl ?_
            refine V_goto 87 dX3_together_83 (by decide) ?_
            refine V_sub [1, 3, 4, 5] rfl ?_
            exact v_X3_together_87 hst hm hk14 h
        · replace h := it_t c12 h
          refine V_iload_n (i := 3) 2 dX3_together_66 rfl rfl ?_
          refine V_iconst (v := 1) dX3_together_67 (by decide) ?_
          refine V_iload (i := 4) 1 dX3_together_68 rfl ?_
          refine V_ishl dX3_together_70 ?_
          refine V_ior dX3_together_71 ?_
          refine V_goto 87 dX3_together_72 (by decide) ?_
          refine V_sub [1, 3, 4, 5] rfl ?_
          exact v_X3_together_87 hst hm hk14 h
      · replace h := it_t c11 h
        refine V_iload_n (i := 3) 2 dX3_together_49 rfl rfl ?_
        refine V_aload_n (i := 0) 3 dX3_together_50 rfl rfl ?_
        refine V_iload (i := 4) 1 dX3_together_51 rfl ?_
        refine V_iconst (v := 0) dX3_together_53 (by decide) ?_
        obtain ⟨y14, S15, e16, h⟩ := bp_s h
        refine V_callM_v (n9 := 2) [pI x3] hm (v_X3_of l G hst hm _ e16) rfl rfl (lw_V q2106 q2108 qs34 q90 q2109) (by decide +kernel) (by decide) (Nat.le_of_ble_eq_true rfl) dX3_together_54 ?_
        refine V_iadd dX3_together_57 ?_
        refine V_goto 87 dX3_together_58 (by decide) ?_
        refine V_sub [1, 3, 4, 5] rfl ?_
        exact v_X3_together_87 hst hm hk14 h
def f_X3_together_14 : Nat → Ms → Int32 → Int32 → Int32 → Int32 → Option (Int32 × Ms)
  | 0, _, _, _, _, _ => none
  | n + 1, S, x4, x3, x1, x2 => f_X3_together_14_b (f_X3_together_14 n) S x4 x3 x1 x2
theorem v_X3_together_14 {l : Launch} {G : Gx} (hst : l.stackTraces = false) (hm : gmo G ≠ 0) {σ0 σe : Hp} {Se : Ms} {r : Int32} : ∀ (n : Nat) (S : Ms) (x4 : Int32) (x3 : Int32) (x1 : Int32) (x2 : Int32), f_X3_together_14 n S x4 x3 x1 x2 = some (r, Se) → VV_X3_together l G σ0 (.inl (some (pI r))) σe Se 14 [(4, pI x4), (3, pI x3), (0, pR (gmo G)), (1, pI x1), (2, pI x2)] [] σe S
  | 0, _, _, _, _, _, h => by cases h
  | n + 1, _, _, _, _, _, h => v_X3_together_14_b hst hm (v_X3_together_14 hst hm n) h
def f_X3_together_10 (S : Ms) (x1 : Int32) (x2 : Int32) (s0 : Int32) : Option (Int32 × Ms) :=
  f_X3_together_14 FU S (0 : Int32) s0 x1 x2
set_option maxHeartbeats 4000000 in
theorem v_X3_together_10 {l : Launch} {G : Gx} (hst : l.stackTraces = false) (hm : gmo G ≠ 0) {σ0 σe : Hp} {Se : Ms} {r : Int32} {S : Ms} {x1 : Int32} {x2 : Int32} {s0 : Int32} (h : f_X3_together_10 S x1 x2 s0 = some (r, Se)) : VV_X3_together l G σ0 (.inl (some (pI r))) σe Se 10 [(0, pR (gmo G)), (1, pI x1), (2, pI x2)] [pI s0] σe S := by
  unfold f_X3_together_10 at h
  refine V_istore_n (i := 3) (L' := [(3, pI s0), (0, pR (gmo G)), (1, pI x1), (2, pI x2)]) dX3_together_10 rfl (by decide) rfl ?_
  refine V_iconst (v := 0) dX3_together_11 (by decide) ?_
  refine V_istore (i := 4) (L' := [(4, pI (0 : Int32)), (3, pI s0), (0, pR (gmo G)), (1, pI x1), (2, pI x2)]) dX3_together_12 (by decide) rfl ?_
  refine V_sub [0, 1, 2, 3, 4] rfl ?_
  exact v_X3_together_14 hst hm FU _ _ _ _ _ h
def f_X3_together (S : Ms) (x1 : Int32) (x2 : Int32) : Option (Int32 × Ms) :=
  if x2 = (2 : Int32) then (f_X3_together_10 S x1 x2 (-1 : Int32)) else (f_X3_together_10 S x1 x2 (0 : Int32))
set_option maxHeartbeats 4000000 in
theorem v_X3_together (l : Launch) (G : Gx) (hst : l.stackTraces = false) (hm : gmo G ≠ 0) (σ : Hp) {S Se : Ms} {x1 : Int32} {x2 : Int32} {r : Int32} (h : f_X3_together S x1 x2 = some (r, Se)) : MT l G yX3_together (ws_ yX3_together cX3_together 6 (some .int)) 4 95 [pR (gmo G), pI x1, pI x2] σ S (.inl (some (pI r))) σ Se := by
  refine MT_of (own := RX3) (nL := 6) (ini := false) (by decide +kernel) rfl (Nat.le_of_ble_eq_true rfl) (fun h => by cases h) hst ?_
  show VV_X3_together l G σ (.inl (some (pI r))) σ Se 0 [(0, pR (gmo G)), (1, pI x1), (2, pI x2)] [] σ S
  unfold f_X3_together at h
  refine V_iload_n (i := 2) 2 dX3_together_0 rfl rfl ?_
  refine V_iconst (v := 2) dX3_together_1 (by decide) ?_
  refine V_icmp_ne 9 dX3_together_2 (by decide) (fun c1 => ?_) (fun c1 => ?_)
  · replace h := it_f c1 h
    refine V_iconst (v := 0) dX3_together_9 (by decide) ?_
    refine V_sub [0, 1, 2] rfl ?_
    exact v_X3_together_10 hst hm h
  · replace h := it_t c1 h
    refine V_iconst (v := (-1)) dX3_together_5 (by decide) ?_
    refine V_goto 10 dX3_together_6 (by decide) ?_
    refine V_sub [0, 1, 2] rfl ?_
    exact v_X3_together_10 hst hm h

abbrev VV_X3_lengthBehind (l : Launch) (G : Gx) (σ0 : Hp) (o : Oc) (σe : Hp) (Se : Ms) := V l G RX3 cX3_lengthBehind 7 (some .int) [] false 4 96 σ0 o σe Se
def f_X3_lengthBehind_91 (k5 : Ms → Int32 → Int32 → Int32 → Int32 → Option (Int32 × Ms)) (S : Ms) (x4 : Int32) (x3 : Int32) (x1 : Int32) (x2 : Int32) : Option (Int32 × Ms) :=
  k5 S (x4 + (1 : Int32)) x3 x1 x2
set_option maxHeartbeats 4000000 in
theorem v_X3_lengthBehind_91 {l : Launch} {G : Gx} (hst : l.stackTraces = false) (hm : gmo G ≠ 0) {σ0 σe : Hp} {Se : Ms} {r : Int32} {k5 : Ms → Int32 → Int32 → Int32 → Int32 → Option (Int32 × Ms)} (hk5 : ∀ (S : Ms) (x4 : Int32) (x3 : Int32) (x1 : Int32) (x2 : Int32), k5 S x4 x3 x1 x2 = some (r, Se) → VV_X3_lengthBehind l G σ0 (.inl (some (pI r))) σe Se 5 [(4, pI x4), (3, pI x3), (0, pR (gmo G)), (1, pI x1), (2, pI x2)] [] σe S) {S : Ms} {x4 : Int32} {x3 : Int32} {x1 : Int32} {x2 : Int32} (h : f_X3_lengthBehind_91 k5 S x4 x3 x1 x2 = some (r, Se)) : VV_X3_lengthBehind l G σ0 (.inl (some (pI r))) σe Se 91 [(4, pI x4), (3, pI x3), (0, pR (gmo G)), (1, pI x1), (2, pI x2)] [] σe S := by
  unfold f_X3_lengthBehind_91 at h
  refine V_iinc (v := (x4 + (1 : Int32))) (L' := [(4, pI (x4 + (1 : Int32))), (3, pI x3), (0, pR (gmo G)), (1, pI x1), (2, pI x2)]) 0 dX3_lengthBehind_91 rfl rfl (by decide) rfl ?_
  refine V_goto 5 dX3_lengthBehind_94 (by decide) ?_
  refine V_sub [0, 1, 2, 3, 4] rfl ?_
  exact hk5 _ _ _ _ _ h
def f_X3_lengthBehind_88 (k5 : Ms → Int32 → Int32 → Int32 → Int32 → Option (Int32 × Ms)) (S : Ms) (x4 : Int32) (x1 : Int32) (x2 : Int32) (s0 : Int32) (s1 : Int32) (s2 : Int32) : Option (Int32 × Ms) :=
  f_X3_lengthBehind_91 k5 S x4 (s2 + (s1 + s0)) x1 x2
set_option maxHeartbeats 4000000 in
theorem v_X3_lengthBehind_88 {l : Launch} {G : Gx} (hst : l.stackTraces = false) (hm : gmo G ≠ 0) {σ0 σe : Hp} {Se : Ms} {r : Int32} {k5 : Ms → Int32 → Int32 → Int32 → Int32 → Option (Int32 × Ms)} (hk5 : ∀ (S : Ms) (x4 : Int32) (x3 : Int32) (x1 : Int32) (x2 : Int32), k5 S x4 x3 x1 x2 = some (r, Se) → VV_X3_lengthBehind l G σ0 (.inl (some (pI r))) σe Se 5 [(4, pI x4), (3, pI x3), (0, pR (gmo G)), (1, pI x1), (2, pI x2)] [] σe S) {S : Ms} {x4 : Int32} {x1 : Int32} {x2 : Int32} {s0 : Int32} {s1 : Int32} {s2 : Int32} (h : f_X3_lengthBehind_88 k5 S x4 x1 x2 s0 s1 s2 = some (r, Se)) : VV_X3_lengthBehind l G σ0 (.inl (some (pI r))) σe Se 88 [(4, pI x4), (0, pR (gmo G)), (1, pI x1), (2, pI x2)] [pI s0, pI s1, pI s2] σe S := by
  unfold f_X3_lengthBehind_88 at h
  refine V_iadd dX3_lengthBehind_88 ?_
  refine V_iadd dX3_lengthBehind_89 ?_
  refine V_istore_n (i := 3) (L' := [(3, pI (s2 + (s1 + s0))), (4, pI x4), (0, pR (gmo G)), (1, pI x1), (2, pI x2)]) dX3_lengthBehind_90 rfl (by decide) rfl ?_
  refine V_sub [1, 0, 2, 3, 4] rfl ?_
  exact v_X3_lengthBehind_91 hst hm hk5 h
def f_X3_lengthBehind_40_b (k5 : Ms → Int32 → Int32 → Int32 → Int32 → Option (Int32 × Ms)) (k40 : Ms → Int32 → Int32 → Int32 → Int32 → Int32 → Int32 → Option (Int32 × Ms)) (S : Ms) (x6 : Int32) (x5 : Int32) (x4 : Int32) (x3 : Int32) (x1 : Int32) (x2 : Int32) : Option (Int32 × Ms) :=
  if x2 ≤ x6 then (bp (f_X3_trueLength S x4 x5) fun y2 S3 => bp (f_X3_of S3 x4 (5 : Int32)) fun y5 S6 => if y5 ≤ (0 : Int32) then (f_X3_lengthBehind_88 k5 S6 x4 x1 x2 (0 : Int32) y2 x3) else (bd (mrd S6 0 149 (0 : Int32)) fun y9 => f_X3_lengthBehind_88 k5 S6 x4 x1 x2 y9 y2 x3)) else (bd (f_X3_cooled x5) fun y11 => k40 S (x6 + (1 : Int32)) y11 x4 x3 x1 x2)
set_option maxHeartbeats 4000000 in
theorem v_X3_lengthBehind_40_b {l : Launch} {G : Gx} (hst : l.stackTraces = false) (hm : gmo G ≠ 0) {σ0 σe : Hp} {Se : Ms} {r : Int32} {k5 : Ms → Int32 → Int32 → Int32 → Int32 → Option (Int32 × Ms)} {k40 : Ms → Int32 → Int32 → Int32 → Int32 → Int32 → Int32 → Option (Int32 × Ms)} (hk5 : ∀ (S : Ms) (x4 : Int32) (x3 : Int32) (x1 : Int32) (x2 : Int32), k5 S x4 x3 x1 x2 = some (r, Se) → VV_X3_lengthBehind l G σ0 (.inl (some (pI r))) σe Se 5 [(4, pI x4), (3, pI x3), (0, pR (gmo G)), (1, pI x1), (2, pI x2)] [] σe S) (hk40 : ∀ (S : Ms) (x6 : Int32) (x5 : Int32) (x4 : Int32) (x3 : Int32) (x1 : Int32) (x2 : Int32), k40 S x6 x5 x4 x3 x1 x2 = some (r, Se) → VV_X3_lengthBehind l G σ0 (.inl (some (pI r))) σe Se 40 [(6, pI x6), (5, pI x5), (4, pI x4), (3, pI x3), (0, pR (gmo G)), (1, pI x1), (2, pI x2)] [] σe S) {S : Ms} {x6 : Int32} {x5 : Int32} {x4 : Int32} {x3 : Int32} {x1 : Int32} {x2 : Int32} (h : f_X3_lengthBehind_40_b k5 k40 S x6 x5 x4 x3 x1 x2 = some (r, Se)) : VV_X3_lengthBehind l G σ0 (.inl (some (pI r))) σe Se 40 [(6, pI x6), (5, pI x5), (4, pI x4), (3, pI x3), (0, pR (gmo G)), (1, pI x1), (2, pI x2)] [] σe S := by
  unfold f_X3_lengthBehind_40_b at h
  refine V_iload (i := 6) 0 dX3_lengthBehind_40 rfl ?_
  refine V_iload_n (i := 2) 6 dX3_lengthBehind_42 rfl rfl ?_
  refine V_icmp_ge 59 dX3_lengthBehind_43 (by decide) (fun c1 => ?_) (fun c1 => ?_)
  · replace h := it_t c1 h
    refine V_iload_n (i := 3) 3 dX3_lengthBehind_59 rfl rfl ?_
    refine V_aload_n (i := 0) 4 dX3_lengthBehind_60 rfl rfl ?_
    refine V_iload (i := 4) 2 dX3_lengthBehind_61 rfl ?_
    refine V_iload (i := 5) 1 dX3_lengthBehind_63 rfl ?_
    obtain ⟨y2, S3, e4, h⟩ := bp_s h
    refine V_callM_v (n9 := 2) [pI x3] hm (v_X3_trueLength l G hst hm _ e4) rfl rfl (lw_V q2273 q2275 qs59 q90 q2276) (by decide +kernel) (by decide) (Nat.le_of_ble_eq_true rfl) dX3_lengthBehind_65 ?_
    refine V_aload_n (i := 0) 4 dX3_lengthBehind_68 rfl rfl ?_
    refine V_iload (i := 4) 2 dX3_lengthBehind_69 rfl ?_
    refine V_iconst (v := 5) dX3_lengthBehind_71 (by decide) ?_
    obtain ⟨y5, S6, e7, h⟩ := bp_s h
    refine V_callM_v (n9 := 2) [pI y2, pI x3] hm (v_X3_of l G hst hm _ e7) rfl rfl (lw_V q2106 q2108 qs34 q90 q2109) (by decide +kernel) (by decide) (Nat.le_of_ble_eq_true rfl) dX3_lengthBehind_72 ?_
    refine V_if_le 87 dX3_lengthBehind_75 (by decide) (fun c8 => ?_) (fun c8 => ?_)
    · replace h := it_t c8 h
      refine V_iconst (v := 0) dX3_lengthBehind_87 (by decide) ?_
      refine V_sub [2, 4, 5, 6] rfl ?_
      exact v_X3_lengthBehind_88 hst hm hk5 h
    · replace h := it_f c8 h
      refine V_aload_n (i := 0) 4 dX3_lengthBehind_78 rfl rfl ?_
      refine V_mrdA hm gf_X3_7 (by decide) rfl dX3_lengthBehind_79 ?_
      refine V_iconst (v := 0) dX3_lengthBehind_82 (by decide) ?_
      obtain ⟨y9, e10, h⟩ := bd_s h
      refine V_mel hm e10 (by decide) rfl (by decide) dX3_lengthBehind_83 ?_
      refine V_goto 88 dX3_lengthBehind_84 (by decide) ?_
      refine V_sub [2, 4, 5, 6] rfl ?_
      exact v_X3_lengthBehind_88 hst hm hk5 h
  · replace h := it_f c1 h
    refine V_iload (i := 5) 1 dX3_lengthBehind_46 rfl ?_
    obtain ⟨y11, e12, h⟩ := bd_s h
    refine V_callS_v (n9 := 1) [] (v_X3_cooled l G hst _ _ e12) rfl rfl (lw_S q2145 q2146 q90 q2147) (by decide +kernel) (by decide) (Nat.le_of_ble_eq_true rfl) dX3_lengthBehind_48 ?_
    refine V_istore (i := 5) (L' := [(5, pI y11), (6, pI x6), (4, pI x4), (3, pI x3), (0, pR (gmo G)), (1, pI x1), (2, pI x2)]) dX3_lengthBehind_51 (by decide) rfl ?_
    refine V_iinc (v := (x6 + (1 : Int32))) (L' := [(6, pI (x6 + (1 : Int32))), (5, pI y11), (4, pI x4), (3, pI x3), (0, pR (gmo G)), (1, pI x1), (2, pI x2)]) 1 dX3_lengthBehind_53 rfl rfl (by decide) rfl ?_
    refine V_goto 40 dX3_lengthBehind_56 (by decide) ?_
    refine V_sub [0, 1, 2, 3, 4, 5, 6] rfl ?_
    exact hk40 _ _ _ _ _ _ _ h
def f_X3_lengthBehind_40 (k5 : Ms → Int32 → Int32 → Int32 → Int32 → Option (Int32 × Ms)) : Nat → Ms → Int32 → Int32 → Int32 → Int32 → Int32 → Int32 → Option (Int32 × Ms)
  | 0, _, _, _, _, _, _, _ => none
  | n + 1, S, x6, x5, x4, x3, x1, x2 => f_X3_lengthBehind_40_b k5 (f_X3_lengthBehind_40 k5 n) S x6 x5 x4 x3 x1 x2
theorem v_X3_lengthBehind_40 {l : Launch} {G : Gx} (hst : l.stackTraces = false) (hm : gmo G ≠ 0) {σ0 σe : Hp} {Se : Ms} {r : Int32} {k5 : Ms → Int32 → Int32 → Int32 → Int32 → Option (Int32 × Ms)} (hk5 : ∀ (S : Ms) (x4 : Int32) (x3 : Int32) (x1 : Int32) (x2 : Int32), k5 S x4 x3 x1 x2 = some (r, Se) → VV_X3_lengthBehind l G σ0 (.inl (some (pI r))) σe Se 5 [(4, pI x4), (3, pI x3), (0, pR (gmo G)), (1, pI x1), (2, pI x2)] [] σe S) : ∀ (n : Nat) (S : Ms) (x6 : Int32) (x5 : Int32) (x4 : Int32) (x3 : Int32) (x1 : Int32) (x2 : Int32), f_X3_lengthBehind_40 k5 n S x6 x5 x4 x3 x1 x2 = some (r, Se) → VV_X3_lengthBehind l G σ0 (.inl (some (pI r))) σe Se 40 [(6, pI x6), (5, pI x5), (4, pI x4), (3, pI x3), (0, pR (gmo G)), (1, pI x1), (2, pI x2)] [] σe S
  | 0, _, _, _, _, _, _, _, h => by cases h
  | n + 1, _, _, _, _, _, _, _, h => v_X3_lengthBehind_40_b hst hm hk5 (v_X3_lengthBehind_40 hst hm hk5 n) h
def f_X3_lengthBehind_5_b (k5 : Ms → Int32 → Int32 → Int32 → Int32 → Option (Int32 × Ms)) (S : Ms) (x4 : Int32) (x3 : Int32) (x1 : Int32) (x2 : Int32) : Option (Int32 × Ms) :=
  bd (mrd S 0 149 (8 : Int32)) fun y1 => if y1 ≤ x4 then (some (x3, S)) else (bp (f_X3_of S x4 (4 : Int32)) fun y4 S5 => if y4 = x1 then (bp (f_X3_of S5 x4 (3 : Int32)) fun y8 S9 => f_X3_lengthBehind_40 k5 FU S9 (0 : Int32) y8 x4 x3 x1 x2) else (f_X3_lengthBehind_91 k5 S5 x4 x3 x1 x2))
set_option maxHeartbeats 4000000 in
theorem v_X3_lengthBehind_5_b {l : Launch} {G : Gx} (hst : l.stackTraces = false) (hm : gmo G ≠ 0) {σ0 σe : Hp} {Se : Ms} {r : Int32} {k5 : Ms → Int32 → Int32 → Int32 → Int32 → Option (Int32 × Ms)} (hk5 : ∀ (S : Ms) (x4 : Int32) (x3 : Int32) (x1 : Int32) (x2 : Int32), k5 S x4 x3 x1 x2 = some (r, Se) → VV_X3_lengthBehind l G σ0 (.inl (some (pI r))) σe Se 5 [(4, pI x4), (3, pI x3), (0, pR (gmo G)), (1, pI x1), (2, pI x2)] [] σe S) {S : Ms} {x4 : Int32} {x3 : Int32} {x1 : Int32} {x2 : Int32} (h : f_X3_lengthBehind_5_b k5 S x4 x3 x1 x2 = some (r, Se)) : VV_X3_lengthBehind l G σ0 (.inl (some (pI r))) σe Se 5 [(4, pI x4), (3, pI x3), (0, pR (gmo G)), (1, pI x1), (2, pI x2)] [] σe S := by
  unfold f_X3_lengthBehind_5_b at h
  refine V_iload (i := 4) 0 dX3_lengthBehind_5 rfl ?_
  refine V_aload_n (i := 0) 2 dX3_lengthBehind_7 rfl rfl ?_
  refine V_mrdA hm gf_X3_7 (by decide) rfl dX3_lengthBehind_8 ?_
  refine V_bipush (v := 8) dX3_lengthBehind_11 (by decide) ?_
  obtain ⟨y1, e2, h⟩ := bd_s h
  refine V_mel hm e2 (by decide) rfl (by decide) dX3_lengthBehind_13 ?_
  refine V_icmp_ge 97 dX3_lengthBehind_14 (by decide) (fun c3 => ?_) (fun c3 => ?_)
  · replace h := it_t c3 h
    refine V_iload_n (i := 3) 1 dX3_lengthBehind_97 rfl rfl ?_
    cases h
    exact V_iret rfl dX3_lengthBehind_98
  · replace h := it_f c3 h
    refine V_aload_n (i := 0) 2 dX3_lengthBehind_17 rfl rfl ?_
    refine V_iload (i := 4) 0 dX3_lengthBehind_18 rfl ?_
    refine V_iconst (v := 4) dX3_lengthBehind_20 (by decide) ?_
    obtain ⟨y4, S5, e6, h⟩ := bp_s h
    refine V_callM_v (n9 := 2) [] hm (v_X3_of l G hst hm _ e6) rfl rfl (lw_V q2106 q2108 qs34 q90 q2109) (by decide +kernel) (by decide) (Nat.le_of_ble_eq_true rfl) dX3_lengthBehind_21 ?_
    refine V_iload_n (i := 1) 3 dX3_lengthBehind_24 rfl rfl ?_
    refine V_icmp_ne 91 dX3_lengthBehind_25 (by decide) (fun c7 => ?_) (fun c7 => ?_)
    · replace h := it_f c7 h
      refine V_sub [0, 1, 2, 3, 4] rfl ?_
      exact v_X3_lengthBehind_91 hst hm hk5 h
    · replace h := it_t c7 h
      refine V_aload_n (i := 0) 2 dX3_lengthBehind_28 rfl rfl ?_
      refine V_iload (i := 4) 0 dX3_lengthBehind_29 rfl ?_
      refine V_iconst (v := 3) dX3_lengthBehind_31 (by decide) ?_
      obtain ⟨y8, S9, e10, h⟩ := bp_s h
      refine V_callM_v (n9 := 2) [] hm (v_X3_of l G hst hm _ e10) rfl rfl (lw_V q2106 q2108 qs34 q90 q2109) (by decide +kernel) (by decide) (Nat.le_of_ble_eq_true rfl) dX3_lengthBehind_32 ?_
      refine V_istore (i := 5) (L' := [(5, pI y8), (4, pI x4), (3, pI x3), (0, pR (gmo G)), (1, pI x1), (2, pI x2)]) dX3_lengthBehind_35 (by decide) rfl ?_
      refine V_iconst (v := 0) dX3_lengthBehind_37 (by decide) ?_
      refine V_istore (i := 6) (L' := [(6, pI (0 : Int32)), (5, pI y8), (4, pI x4), (3, pI x3), (0, pR (gmo G)), (1, pI x1), (2, pI x2)]) dX3_lengthBehind_38 (by decide) rfl ?_
      refine V_sub [0, 1, 2, 3, 4, 5, 6] rfl ?_
      exact v_X3_lengthBehind_40 hst hm hk5 FU _ _ _ _ _ _ _ h
def f_X3_lengthBehind_5 : Nat → Ms → Int32 → Int32 → Int32 → Int32 → Option (Int32 × Ms)
  | 0, _, _, _, _, _ => none
  | n + 1, S, x4, x3, x1, x2 => f_X3_lengthBehind_5_b (f_X3_lengthBehind_5 n) S x4 x3 x1 x2
theorem v_X3_lengthBehind_5 {l : Launch} {G : Gx} (hst : l.stackTraces = false) (hm : gmo G ≠ 0) {σ0 σe : Hp} {Se : Ms} {r : Int32} : ∀ (n : Nat) (S : Ms) (x4 : Int32) (x3 : Int32) (x1 : Int32) (x2 : Int32), f_X3_lengthBehind_5 n S x4 x3 x1 x2 = some (r, Se) → VV_X3_lengthBehind l G σ0 (.inl (some (pI r))) σe Se 5 [(4, pI x4), (3, pI x3), (0, pR (gmo G)), (1, pI x1), (2, pI x2)] [] σe S
  | 0, _, _, _, _, _, h => by cases h
  | n + 1, _, _, _, _, _, h => v_X3_lengthBehind_5_b hst hm (v_X3_lengthBehind_5 hst hm n) h
def f_X3_lengthBehind (S : Ms) (x1 : Int32) (x2 : Int32) : Option (Int32 × Ms) :=
  f_X3_lengthBehind_5 FU S (0 : Int32) (0 : Int32) x1 x2
set_option maxHeartbeats 4000000 in
theorem v_X3_lengthBehind (l : Launch) (G : Gx) (hst : l.stackTraces = false) (hm : gmo G ≠ 0) (σ : Hp) {S Se : Ms} {x1 : Int32} {x2 : Int32} {r : Int32} (h : f_X3_lengthBehind S x1 x2 = some (r, Se)) : MT l G yX3_lengthBehind (ws_ yX3_lengthBehind cX3_lengthBehind 7 (some .int)) 4 96 [pR (gmo G), pI x1, pI x2] σ S (.inl (some (pI r))) σ Se := by
  refine MT_of (own := RX3) (nL := 7) (ini := false) (by decide +kernel) rfl (Nat.le_of_ble_eq_true rfl) (fun h => by cases h) hst ?_
  show VV_X3_lengthBehind l G σ (.inl (some (pI r))) σ Se 0 [(0, pR (gmo G)), (1, pI x1), (2, pI x2)] [] σ S
  unfold f_X3_lengthBehind at h
  refine V_iconst (v := 0) dX3_lengthBehind_0 (by decide) ?_
  refine V_istore_n (i := 3) (L' := [(3, pI (0 : Int32)), (0, pR (gmo G)), (1, pI x1), (2, pI x2)]) dX3_lengthBehind_1 rfl (by decide) rfl ?_
  refine V_iconst (v := 0) dX3_lengthBehind_2 (by decide) ?_
  refine V_istore (i := 4) (L' := [(4, pI (0 : Int32)), (3, pI (0 : Int32)), (0, pR (gmo G)), (1, pI x1), (2, pI x2)]) dX3_lengthBehind_3 (by decide) rfl ?_
  refine V_sub [0, 1, 2, 3, 4] rfl ?_
  exact v_X3_lengthBehind_5 hst hm FU _ _ _ _ _ h

abbrev VV_X3_ofStack (l : Launch) (G : Gx) (σ0 : Hp) (o : Oc) (σe : Hp) (Se : Ms) := V l G RX3 cX3_ofStack 3 (some .int) [] false 5 122 σ0 o σe Se
def f_X3_ofStack (S : Ms) (x1 : Int32) (x2 : Int32) : Option (Int32 × Ms) :=
  if x2 = (0 : Int32) then (bp (f_X3_height S x1) fun y2 S3 => some (y2, S3)) else (if x2 = (1 : Int32) then (bp (f_X3_together S x1 (0 : Int32)) fun y6 S7 => some (y6, S7)) else (if x2 = (2 : Int32) then (bp (f_X3_lengthBehind S x1 (0 : Int32)) fun y10 S11 => some (y10, S11)) else (if x2 = (3 : Int32) then (bp (f_X3_together S x1 (1 : Int32)) fun y14 S15 => some (y14, S15)) else (if x2 = (4 : Int32) then (bp (f_X3_height S x1) fun y18 S19 => bp (f_X3_blockAt S19 x1 (y18 - (1 : Int32))) fun y21 S22 => some (y21, S22)) else (if x2 = (5 : Int32) then (bp (f_X3_together S x1 (2 : Int32)) fun y25 S26 => some (y25, S26)) else (bp (f_X3_lengthBehind S x1 (0 : Int32)) fun y28 S29 => bp (f_X3_together S29 x1 (0 : Int32)) fun y31 S32 => bd (f_X3_size (y28 - ((1000 : Int32) * y31))) fun y34 => some (y34, S32)))))))
set_option maxHeartbeats 4000000 in
theorem v_X3_ofStack (l : Launch) (G : Gx) (hst : l.stackTraces = false) (hm : gmo G ≠ 0) (σ : Hp) {S Se : Ms} {x1 : Int32} {x2 : Int32} {r : Int32} (h : f_X3_ofStack S x1 x2 = some (r, Se)) : MT l G yX3_ofStack (ws_ yX3_ofStack cX3_ofStack 3 (some .int)) 5 122 [pR (gmo G), pI x1, pI x2] σ S (.inl (some (pI r))) σ Se := by
  refine MT_of (own := RX3) (nL := 3) (ini := false) (by decide +kernel) rfl (Nat.le_of_ble_eq_true rfl) (fun h => by cases h) hst ?_
  show VV_X3_ofStack l G σ (.inl (some (pI r))) σ Se 0 [(0, pR (gmo G)), (1, pI x1), (2, pI x2)] [] σ S
  unfold f_X3_ofStack at h
  refine V_iload_n (i := 2) 2 dX3_ofStack_0 rfl rfl ?_
  by_cases c1 : x2 = (0 : Int32)
  · replace h := it_t c1 h
    refine V_tableIn 40 dX3_ofStack_1 (by rw [c1]; decide) (by rw [c1]; decide) (by rw [c1]; first | done | rfl) (by decide) ?_
    refine V_aload_n (i := 0) 0 dX3_ofStack_40 rfl rfl ?_
    refine V_iload_n (i := 1) 1 dX3_ofStack_41 rfl rfl ?_
    obtain ⟨y2, S3, e4, h⟩ := bp_s h
    refine V_callM_v (n9 := 1) [] hm (v_X3_height l G hst hm _ e4) rfl rfl (lw_V q2170 q2172 qs42 q90 q2173) (by decide +kernel) (by decide) (Nat.le_of_ble_eq_true rfl) dX3_ofStack_42 ?_
    cases h
    exact V_iret rfl dX3_ofStack_45
  · replace h := it_f c1 h
    by_cases c5 : x2 = (1 : Int32)
    · replace h := it_t c5 h
      refine V_tableIn 46 dX3_ofStack_1 (by rw [c5]; decide) (by rw [c5]; decide) (by rw [c5]; first | done | rfl) (by decide) ?_
      refine V_aload_n (i := 0) 0 dX3_ofStack_46 rfl rfl ?_
      refine V_iload_n (i := 1) 1 dX3_ofStack_47 rfl rfl ?_
      refine V_iconst (v := 0) dX3_ofStack_48 (by decide) ?_
      obtain ⟨y6, S7, e8, h⟩ := bp_s h
      refine V_callM_v (n9 := 2) [] hm (v_X3_together l G hst hm _ e8) rfl rfl (lw_V q2285 q2287 qs61 q90 q2288) (by decide +kernel) (by decide) (Nat.le_of_ble_eq_true rfl) dX3_ofStack_49 ?_
      cases h
      exact V_iret rfl dX3_ofStack_52
    · replace h := it_f c5 h
      by_cases c9 : x2 = (2 : Int32)
      · replace h := it_t c9 h
        refine V_tableIn 53 dX3_ofStack_1 (by rw [c9]; decide) (by rw [c9]; decide) (by rw [c9]; first | done | rfl) (by decide) ?_
        refine V_aload_n (i := 0) 0 dX3_ofStack_53 rfl rfl ?_
        refine V_iload_n (i := 1) 1 dX3_ofStack_54 rfl rfl ?_
        refine V_iconst (v := 0) dX3_ofStack_55 (by decide) ?_
        obtain ⟨y10, S11, e12, h⟩ := bp_s h
        refine V_callM_v (n9 := 2) [] hm (v_X3_lengthBehind l G hst hm _ e12) rfl rfl (lw_V q2289 q2291 qs62 q90 q2292) (by decide +kernel) (by decide) (Nat.le_of_ble_eq_true rfl) dX3_ofStack_56 ?_
        cases h
        exact V_iret rfl dX3_ofStack_59
      · replace h := it_f c9 h
        by_cases c13 : x2 = (3 : Int32)
        · replace h := it_t c13 h
          refine V_tableIn 60 dX3_ofStack_1 (by rw [c13]; decide) (by rw [c13]; decide) (by rw [c13]; first | done | rfl) (by decide) ?_
          refine V_aload_n (i := 0) 0 dX3_ofStack_60 rfl rfl ?_
          refine V_iload_n (i := 1) 1 dX3_ofStack_61 rfl rfl ?_
          refine V_iconst (v := 1) dX3_ofStack_62 (by decide) ?_
          obtain ⟨y14, S15, e16, h⟩ := bp_s h
          refine V_callM_v (n9 := 2) [] hm (v_X3_together l G hst hm _ e16) rfl rfl (lw_V q2285 q2287 qs61 q90 q2288) (by decide +kernel) (by decide) (Nat.le_of_ble_eq_true rfl) dX3_ofStack_63 ?_
          cases h
          exact V_iret rfl dX3_ofStack_66
        · replace h := it_f c13 h
          by_cases c17 : x2 = (4 : Int32)
          · replace h := it_t c17 h
            refine V_tableIn 67 dX3_ofStack_1 (by rw [c17]; decide) (by rw [c17]; decide) (by rw [c17]; first | done | rfl) (by decide) ?_
            refine V_aload_n (i := 0) 0 dX3_ofStack_67 rfl rfl ?_
            refine V_iload_n (i := 1) 1 dX3_ofStack_68 rfl rfl ?_
            refine V_aload_n (i := 0) 0 dX3_ofStack_69 rfl rfl ?_
            refine V_iload_n (i := 1) 1 dX3_ofStack_70 rfl rfl ?_
            obtain ⟨y18, S19, e20, h⟩ := bp_s h
            refine V_callM_v (n9 := 1) [pI x1, pR (gmo G)] hm (v_X3_height l G hst hm _ e20) rfl rfl (lw_V q2170 q2172 qs42 q90 q2173) (by decide +kernel) (by decide) (Nat.le_of_ble_eq_true rfl) dX3_ofStack_71 ?_
            refine V_iconst (v := 1) dX3_ofStack_74 (by decide) ?_
            refine V_isub dX3_ofStack_75 ?_
            obtain ⟨y21, S22, e23, h⟩ := bp_s h
            refine V_callM_v (n9 := 2) [] hm (v_X3_blockAt l G hst hm _ e23) rfl rfl (lw_V q2178 q2180 qs44 q90 q2181) (by decide +kernel) (by decide) (Nat.le_of_ble_eq_true rfl) dX3_ofStack_76 ?_
            cases h
            exact V_iret rfl dX3_ofStack_79
          · replace h := it_f c17 h
            by_cases c24 : x2 = (5 : Int32)
            · replace h := it_t c24 h
              refine V_tableIn 80 dX3_ofStack_1 (by rw [c24]; decide) (by rw [c24]; decide) (by rw [c24]; first | done | rfl) (by decide) ?_
              refine V_aload_n (i := 0) 0 dX3_ofStack_80 rfl rfl ?_
              refine V_iload_n (i := 1) 1 dX3_ofStack_81 rfl rfl ?_
              refine V_iconst (v := 2) dX3_ofStack_82 (by decide) ?_
              obtain ⟨y25, S26, e27, h⟩ := bp_s h
              refine V_callM_v (n9 := 2) [] hm (v_X3_together l G hst hm _ e27) rfl rfl (lw_V q2285 q2287 qs61 q90 q2288) (by decide +kernel) (by decide) (Nat.le_of_ble_eq_true rfl) dX3_ofStack_83 ?_
              cases h
              exact V_iret rfl dX3_ofStack_86
            · replace h := it_f c24 h
              refine V_tableOut 87 dX3_ofStack_1 (by have z0 := ne_int (a := 0) c1 (by decide); have z1 := ne_int (a := 1) c5 (by decide); have z2 := ne_int (a := 2) c9 (by decide); have z3 := ne_int (a := 3) c13 (by decide); have z4 := ne_int (a := 4) c17 (by decide); have z5 := ne_int (a := 5) c24 (by decide); omega) (by decide) ?_
              refine V_aload_n (i := 0) 0 dX3_ofStack_87 rfl rfl ?_
              refine V_iload_n (i := 1) 1 dX3_ofStack_88 rfl rfl ?_
              refine V_iconst (v := 0) dX3_ofStack_89 (by decide) ?_
              obtain ⟨y28, S29, e30, h⟩ := bp_s h
              refine V_callM_v (n9 := 2) [] hm (v_X3_lengthBehind l G hst hm _ e30) rfl rfl (lw_V q2289 q2291 qs62 q90 q2292) (by decide +kernel) (by decide) (Nat.le_of_ble_eq_true rfl) dX3_ofStack_90 ?_
              refine V_sipush (v := 1000) dX3_ofStack_93 (by decide) ?_
              refine V_aload_n (i := 0) 0 dX3_ofStack_96 rfl rfl ?_
              refine V_iload_n (i := 1) 1 dX3_ofStack_97 rfl rfl ?_
              refine V_iconst (v := 0) dX3_ofStack_98 (by decide) ?_
              obtain ⟨y31, S32, e33, h⟩ := bp_s h
              refine V_callM_v (n9 := 2) [pI (1000 : Int32), pI y28] hm (v_X3_together l G hst hm _ e33) rfl rfl (lw_V q2285 q2287 qs61 q90 q2288) (by decide +kernel) (by decide) (Nat.le_of_ble_eq_true rfl) dX3_ofStack_99 ?_
              refine V_imul dX3_ofStack_102 ?_
              refine V_isub dX3_ofStack_103 ?_
              obtain ⟨y34, e35, h⟩ := bd_s h
              refine V_callS_v (n9 := 1) [] (v_X3_size l G hst _ _ e35) rfl rfl (lw_S q2122 q2123 q90 q2124) (by decide +kernel) (by decide) (Nat.le_of_ble_eq_true rfl) dX3_ofStack_104 ?_
              cases h
              exact V_iret rfl dX3_ofStack_107

abbrev VV_X3_stackOf (l : Launch) (G : Gx) (σ0 : Hp) (o : Oc) (σe : Hp) (Se : Ms) := V l G RX3 cX3_stackOf 3 (some .int) [] false 6 144 σ0 o σe Se
def f_X3_stackOf_42 (S : Ms) (s0 : Int32) : Option (Int32 × Ms) :=
  some (s0, S)
set_option maxHeartbeats 4000000 in
theorem v_X3_stackOf_42 {l : Launch} {G : Gx} (hst : l.stackTraces = false) (hm : gmo G ≠ 0) {σ0 σe : Hp} {Se : Ms} {r : Int32} {S : Ms} {s0 : Int32} (h : f_X3_stackOf_42 S s0 = some (r, Se)) : VV_X3_stackOf l G σ0 (.inl (some (pI r))) σe Se 42 [] [pI s0] σe S := by
  unfold f_X3_stackOf_42 at h
  cases h
  exact V_iret rfl dX3_stackOf_42
def f_X3_stackOf (S : Ms) (x1 : Int32) (x2 : Int32) : Option (Int32 × Ms) :=
  bd (f_X3_isStack x1) fun y1 => if y1 = (0 : Int32) then (bp (f_X3_fails (sM S 5 (0 : Int32)) (1 : Int32)) fun y13 S14 => some (y13, S14)) else (bd (f_X3_in x2 (0 : Int32) (6 : Int32)) fun y4 => if y4 = (0 : Int32) then (bp (f_X3_fails (sM S 5 (0 : Int32)) (2 : Int32)) fun y7 S8 => f_X3_stackOf_42 S8 y7) else (bp (f_X3_ofStack (sM S 5 (0 : Int32)) x1 x2) fun y10 S11 => f_X3_stackOf_42 S11 y10))
set_option maxHeartbeats 4000000 in
theorem v_X3_stackOf (l : Launch) (G : Gx) (hst : l.stackTraces = false) (hm : gmo G ≠ 0) (σ : Hp) {S Se : Ms} {x1 : Int32} {x2 : Int32} {r : Int32} (h : f_X3_stackOf S x1 x2 = some (r, Se)) : MT l G yX3_stackOf (ws_ yX3_stackOf cX3_stackOf 3 (some .int)) 6 144 [pR (gmo G), pI x1, pI x2] σ S (.inl (some (pI r))) σ Se := by
  refine MT_of (own := RX3) (nL := 3) (ini := false) (by decide +kernel) rfl (Nat.le_of_ble_eq_true rfl) (fun h => by cases h) hst ?_
  show VV_X3_stackOf l G σ (.inl (some (pI r))) σ Se 0 [(0, pR (gmo G)), (1, pI x1), (2, pI x2)] [] σ S
  unfold f_X3_stackOf at h
  refine V_aload_n (i := 0) 0 dX3_stackOf_0 rfl rfl ?_
  refine V_iconst (v := 0) dX3_stackOf_1 (by decide) ?_
  refine V_mput hm gw_X3_38 (by decide) rfl dX3_stackOf_2 ?_
  refine V_iload_n (i := 1) 1 dX3_stackOf_5 rfl rfl ?_
  obtain ⟨y1, e2, h⟩ := bd_s h
  refine V_callS_v (n9 := 1) [] (v_X3_isStack l G hst _ _ e2) rfl rfl (lw_S q2159 q2160 q90 q2161) (by decide +kernel) (by decide) (Nat.le_of_ble_eq_true rfl) dX3_stackOf_6 ?_
  refine V_if_ne 18 dX3_stackOf_9 (by decide) (fun c3 => ?_) (fun c3 => ?_)
  · replace h := it_f c3 h
    refine V_iload_n (i := 2) 2 dX3_stackOf_18 rfl rfl ?_
    refine V_iconst (v := 0) dX3_stackOf_19 (by decide) ?_
    refine V_bipush (v := 6) dX3_stackOf_20 (by decide) ?_
    obtain ⟨y4, e5, h⟩ := bd_s h
    refine V_callS_v (n9 := 3) [] (v_X3_in l G hst _ _ e5) rfl rfl (lw_S q2070 q2071 q90 q2072) (by decide +kernel) (by decide) (Nat.le_of_ble_eq_true rfl) dX3_stackOf_22 ?_
    refine V_if_eq 37 dX3_stackOf_25 (by decide) (fun c6 => ?_) (fun c6 => ?_)
    · replace h := it_t c6 h
      refine V_aload_n (i := 0) 0 dX3_stackOf_37 rfl rfl ?_
      refine V_iconst (v := 2) dX3_stackOf_38 (by decide) ?_
      obtain ⟨y7, S8, e9, h⟩ := bp_s h
      refine V_callM_v (n9 := 1) [] hm (v_X3_fails l G hst hm _ e9) rfl rfl (lw_V q2062 q2064 qs28 q90 q2065) (by decide +kernel) (by decide) (Nat.le_of_ble_eq_true rfl) dX3_stackOf_39 ?_
      refine V_sub [] rfl ?_
      exact v_X3_stackOf_42 hst hm h
    · replace h := it_f c6 h
      refine V_aload_n (i := 0) 0 dX3_stackOf_28 rfl rfl ?_
      refine V_iload_n (i := 1) 1 dX3_stackOf_29 rfl rfl ?_
      refine V_iload_n (i := 2) 2 dX3_stackOf_30 rfl rfl ?_
      obtain ⟨y10, S11, e12, h⟩ := bp_s h
      refine V_callM_v (n9 := 2) [] hm (v_X3_ofStack l G hst hm _ e12) rfl rfl (lw_V q2281 q2283 qs60 q90 q2284) (by decide +kernel) (by decide) (Nat.le_of_ble_eq_true rfl) dX3_stackOf_31 ?_
      refine V_goto 42 dX3_stackOf_34 (by decide) ?_
      refine V_sub [] rfl ?_
      exact v_X3_stackOf_42 hst hm h
  · replace h := it_t c3 h
    refine V_aload_n (i := 0) 0 dX3_stackOf_12 rfl rfl ?_
    refine V_iconst (v := 1) dX3_stackOf_13 (by decide) ?_
    obtain ⟨y13, S14, e15, h⟩ := bp_s h
    refine V_callM_v (n9 := 1) [] hm (v_X3_fails l G hst hm _ e15) rfl rfl (lw_V q2062 q2064 qs28 q90 q2065) (by decide +kernel) (by decide) (Nat.le_of_ble_eq_true rfl) dX3_stackOf_14 ?_
    cases h
    exact V_iret rfl dX3_stackOf_17

abbrev VV_X3_keyOf (l : Launch) (G : Gx) (σ0 : Hp) (o : Oc) (σe : Hp) (Se : Ms) := V l G RX3 cX3_keyOf 3 (some .int) [] false 3 73 σ0 o σe Se
def f_X3_keyOf_36 (S : Ms) (s0 : Int32) : Option (Int32 × Ms) :=
  some (s0, S)
set_option maxHeartbeats 4000000 in
theorem v_X3_keyOf_36 {l : Launch} {G : Gx} (hst : l.stackTraces = false) (hm : gmo G ≠ 0) {σ0 σe : Hp} {Se : Ms} {r : Int32} {S : Ms} {s0 : Int32} (h : f_X3_keyOf_36 S s0 = some (r, Se)) : VV_X3_keyOf l G σ0 (.inl (some (pI r))) σe Se 36 [] [pI s0] σe S := by
  unfold f_X3_keyOf_36 at h
  cases h
  exact V_iret rfl dX3_keyOf_36
def f_X3_keyOf (S : Ms) (x1 : Int32) (x2 : Int32) : Option (Int32 × Ms) :=
  if x2 = (0 : Int32) then (bp (f_X3_of S x1 (0 : Int32)) fun y11 S12 => f_X3_keyOf_36 S12 (-y11)) else (if x2 = (1 : Int32) then (bp (f_X3_of S x1 (3 : Int32)) fun y8 S9 => f_X3_keyOf_36 S9 y8) else (bp (f_X3_error S x1) fun y3 S4 => bd (f_X3_size y3) fun y6 => f_X3_keyOf_36 S4 y6))
set_option maxHeartbeats 4000000 in
theorem v_X3_keyOf (l : Launch) (G : Gx) (hst : l.stackTraces = false) (hm : gmo G ≠ 0) (σ : Hp) {S Se : Ms} {x1 : Int32} {x2 : Int32} {r : Int32} (h : f_X3_keyOf S x1 x2 = some (r, Se)) : MT l G yX3_keyOf (ws_ yX3_keyOf cX3_keyOf 3 (some .int)) 3 73 [pR (gmo G), pI x1, pI x2] σ S (.inl (some (pI r))) σ Se := by
  refine MT_of (own := RX3) (nL := 3) (ini := false) (by decide +kernel) rfl (Nat.le_of_ble_eq_true rfl) (fun h => by cases h) hst ?_
  show VV_X3_keyOf l G σ (.inl (some (pI r))) σ Se 0 [(0, pR (gmo G)), (1, pI x1), (2, pI x2)] [] σ S
  unfold f_X3_keyOf at h
  refine V_iload_n (i := 2) 2 dX3_keyOf_0 rfl rfl ?_
  refine V_if_ne 14 dX3_keyOf_1 (by decide) (fun c1 => ?_) (fun c1 => ?_)
  · replace h := it_f c1 h
    refine V_iload_n (i := 2) 2 dX3_keyOf_14 rfl rfl ?_
    refine V_iconst (v := 1) dX3_keyOf_15 (by decide) ?_
    refine V_icmp_ne 28 dX3_keyOf_16 (by decide) (fun c2 => ?_) (fun c2 => ?_)
    · replace h := it_f c2 h
      refine V_aload_n (i := 0) 0 dX3_keyOf_28 rfl rfl ?_
      refine V_iload_n (i := 1) 1 dX3_keyOf_29 rfl rfl ?_
      obtain ⟨y3, S4, e5, h⟩ := bp_s h
      refine V_callM_v (n9 := 1) [] hm (v_X3_error l G hst hm _ e5) rfl rfl (lw_V q2114 q2116 qs35 q90 q2117) (by decide +kernel) (by decide) (Nat.le_of_ble_eq_true rfl) dX3_keyOf_30 ?_
      obtain ⟨y6, e7, h⟩ := bd_s h
      refine V_callS_v (n9 := 1) [] (v_X3_size l G hst _ _ e7) rfl rfl (lw_S q2122 q2123 q90 q2124) (by decide +kernel) (by decide) (Nat.le_of_ble_eq_true rfl) dX3_keyOf_33 ?_
      refine V_sub [] rfl ?_
      exact v_X3_keyOf_36 hst hm h
    · replace h := it_t c2 h
      refine V_aload_n (i := 0) 0 dX3_keyOf_19 rfl rfl ?_
      refine V_iload_n (i := 1) 1 dX3_keyOf_20 rfl rfl ?_
      refine V_iconst (v := 3) dX3_keyOf_21 (by decide) ?_
      obtain ⟨y8, S9, e10, h⟩ := bp_s h
      refine V_callM_v (n9 := 2) [] hm (v_X3_of l G hst hm _ e10) rfl rfl (lw_V q2106 q2108 qs34 q90 q2109) (by decide +kernel) (by decide) (Nat.le_of_ble_eq_true rfl) dX3_keyOf_22 ?_
      refine V_goto 36 dX3_keyOf_25 (by decide) ?_
      refine V_sub [] rfl ?_
      exact v_X3_keyOf_36 hst hm h
  · replace h := it_t c1 h
    refine V_aload_n (i := 0) 0 dX3_keyOf_4 rfl rfl ?_
    refine V_iload_n (i := 1) 1 dX3_keyOf_5 rfl rfl ?_
    refine V_iconst (v := 0) dX3_keyOf_6 (by decide) ?_
    obtain ⟨y11, S12, e13, h⟩ := bp_s h
    refine V_callM_v (n9 := 2) [] hm (v_X3_of l G hst hm _ e13) rfl rfl (lw_V q2106 q2108 qs34 q90 q2109) (by decide +kernel) (by decide) (Nat.le_of_ble_eq_true rfl) dX3_keyOf_7 ?_
    refine V_ineg dX3_keyOf_10 ?_
    refine V_goto 36 dX3_keyOf_11 (by decide) ?_
    refine V_sub [] rfl ?_
    exact v_X3_keyOf_36 hst hm h

abbrev VV_X3_blockOfRank (l : Launch) (G : Gx) (σ0 : Hp) (o : Oc) (σe : Hp) (Se : Ms) := V l G RX3 cX3_blockOfRank 8 (some .int) [] false 4 95 σ0 o σe Se
def f_X3_blockOfRank_97 (k5 : Ms → Int32 → Int32 → Int32 → Int32 → Option (Int32 × Ms)) (S : Ms) (x4 : Int32) (x1 : Int32) (x2 : Int32) (s0 : Int32) : Option (Int32 × Ms) :=
  k5 S (x4 + (1 : Int32)) s0 x1 x2
set_option maxHeartbeats 4000000 in
theorem v_X3_blockOfRank_97 {l : Launch} {G : Gx} (hst : l.stackTraces = false) (hm : gmo G ≠ 0) {σ0 σe : Hp} {Se : Ms} {r : Int32} {k5 : Ms → Int32 → Int32 → Int32 → Int32 → Option (Int32 × Ms)} (hk5 : ∀ (S : Ms) (x4 : Int32) (x3 : Int32) (x1 : Int32) (x2 : Int32), k5 S x4 x3 x1 x2 = some (r, Se) → VV_X3_blockOfRank l G σ0 (.inl (some (pI r))) σe Se 5 [(4, pI x4), (3, pI x3), (0, pR (gmo G)), (1, pI x1), (2, pI x2)] [] σe S) {S : Ms} {x4 : Int32} {x1 : Int32} {x2 : Int32} {s0 : Int32} (h : f_X3_blockOfRank_97 k5 S x4 x1 x2 s0 = some (r, Se)) : VV_X3_blockOfRank l G σ0 (.inl (some (pI r))) σe Se 97 [(4, pI x4), (0, pR (gmo G)), (1, pI x1), (2, pI x2)] [pI s0] σe S := by
  unfold f_X3_blockOfRank_97 at h
  refine V_istore_n (i := 3) (L' := [(3, pI s0), (4, pI x4), (0, pR (gmo G)), (1, pI x1), (2, pI x2)]) dX3_blockOfRank_97 rfl (by decide) rfl ?_
  refine V_iinc (v := (x4 + (1 : Int32))) (L' := [(4, pI (x4 + (1 : Int32))), (3, pI s0), (0, pR (gmo G)), (1, pI x1), (2, pI x2)]) 1 dX3_blockOfRank_98 rfl rfl (by decide) rfl ?_
  refine V_goto 5 dX3_blockOfRank_101 (by decide) ?_
  refine V_sub [0, 1, 2, 3, 4] rfl ?_
  exact hk5 _ _ _ _ _ h
def f_X3_blockOfRank_76 (k5 : Ms → Int32 → Int32 → Int32 → Int32 → Option (Int32 × Ms)) (k23 : Ms → Int32 → Int32 → Int32 → Int32 → Int32 → Int32 → Option (Int32 × Ms)) (S : Ms) (x6 : Int32) (x4 : Int32) (x3 : Int32) (x1 : Int32) (x2 : Int32) (s0 : Int32) (s1 : Int32) : Option (Int32 × Ms) :=
  k23 S (x6 + (1 : Int32)) (s1 + s0) x4 x3 x1 x2
set_option maxHeartbeats 4000000 in
theorem v_X3_blockOfRank_76 {l : Launch} {G : Gx} (hst : l.stackTraces = false) (hm : gmo G ≠ 0) {σ0 σe : Hp} {Se : Ms} {r : Int32} {k5 : Ms → Int32 → Int32 → Int32 → Int32 → Option (Int32 × Ms)} {k23 : Ms → Int32 → Int32 → Int32 → Int32 → Int32 → Int32 → Option (Int32 × Ms)} (hk5 : ∀ (S : Ms) (x4 : Int32) (x3 : Int32) (x1 : Int32) (x2 : Int32), k5 S x4 x3 x1 x2 = some (r, Se) → VV_X3_blockOfRank l G σ0 (.inl (some (pI r))) σe Se 5 [(4, pI x4), (3, pI x3), (0, pR (gmo G)), (1, pI x1), (2, pI x2)] [] σe S) (hk23 : ∀ (S : Ms) (x6 : Int32) (x5 : Int32) (x4 : Int32) (x3 : Int32) (x1 : Int32) (x2 : Int32), k23 S x6 x5 x4 x3 x1 x2 = some (r, Se) → VV_X3_blockOfRank l G σ0 (.inl (some (pI r))) σe Se 23 [(6, pI x6), (5, pI x5), (4, pI x4), (3, pI x3), (0, pR (gmo G)), (1, pI x1), (2, pI x2)] [] σe S) {S : Ms} {x6 : Int32} {x4 : Int32} {x3 : Int32} {x1 : Int32} {x2 : Int32} {s0 : Int32} {s1 : Int32} (h : f_X3_blockOfRank_76 k5 k23 S x6 x4 x3 x1 x2 s0 s1 = some (r, Se)) : VV_X3_blockOfRank l G σ0 (.inl (some (pI r))) σe Se 76 [(6, pI x6), (4, pI x4), (3, pI x3), (0, pR (gmo G)), (1, pI x1), (2, pI x2)] [pI s0, pI s1] σe S := by
  unfold f_X3_blockOfRank_76 at h
  refine V_iadd dX3_blockOfRank_76 ?_
  refine V_istore (i := 5) (L' := [(5, pI (s1 + s0)), (6, pI x6), (4, pI x4), (3, pI x3), (0, pR (gmo G)), (1, pI x1), (2, pI x2)]) dX3_blockOfRank_77 (by decide) rfl ?_
  refine V_iinc (v := (x6 + (1 : Int32))) (L' := [(6, pI (x6 + (1 : Int32))), (5, pI (s1 + s0)), (4, pI x4), (3, pI x3), (0, pR (gmo G)), (1, pI x1), (2, pI x2)]) 1 dX3_blockOfRank_79 rfl rfl (by decide) rfl ?_
  refine V_goto 23 dX3_blockOfRank_82 (by decide) ?_
  refine V_sub [0, 1, 2, 3, 4, 5, 6] rfl ?_
  exact hk23 _ _ _ _ _ _ _ h
def f_X3_blockOfRank_71 (k5 : Ms → Int32 → Int32 → Int32 → Int32 → Option (Int32 × Ms)) (k23 : Ms → Int32 → Int32 → Int32 → Int32 → Int32 → Int32 → Option (Int32 × Ms)) (S : Ms) (x6 : Int32) (x4 : Int32) (x3 : Int32) (x1 : Int32) (x2 : Int32) (s0 : Int32) : Option (Int32 × Ms) :=
  f_X3_blockOfRank_76 k5 k23 S x6 x4 x3 x1 x2 (1 : Int32) s0
set_option maxHeartbeats 4000000 in
theorem v_X3_blockOfRank_71 {l : Launch} {G : Gx} (hst : l.stackTraces = false) (hm : gmo G ≠ 0) {σ0 σe : Hp} {Se : Ms} {r : Int32} {k5 : Ms → Int32 → Int32 → Int32 → Int32 → Option (Int32 × Ms)} {k23 : Ms → Int32 → Int32 → Int32 → Int32 → Int32 → Int32 → Option (Int32 × Ms)} (hk5 : ∀ (S : Ms) (x4 : Int32) (x3 : Int32) (x1 : Int32) (x2 : Int32), k5 S x4 x3 x1 x2 = some (r, Se) → VV_X3_blockOfRank l G σ0 (.inl (some (pI r))) σe Se 5 [(4, pI x4), (3, pI x3), (0, pR (gmo G)), (1, pI x1), (2, pI x2)] [] σe S) (hk23 : ∀ (S : Ms) (x6 : Int32) (x5 : Int32) (x4 : Int32) (x3 : Int32) (x1 : Int32) (x2 : Int32), k23 S x6 x5 x4 x3 x1 x2 = some (r, Se) → VV_X3_blockOfRank l G σ0 (.inl (some (pI r))) σe Se 23 [(6, pI x6), (5, pI x5), (4, pI x4), (3, pI x3), (0, pR (gmo G)), (1, pI x1), (2, pI x2)] [] σe S) {S : Ms} {x6 : Int32} {x4 : Int32} {x3 : Int32} {x1 : Int32} {x2 : Int32} {s0 : Int32} (h : f_X3_blockOfRank_71 k5 k23 S x6 x4 x3 x1 x2 s0 = some (r, Se)) : VV_X3_blockOfRank l G σ0 (.inl (some (pI r))) σe Se 71 [(6, pI x6), (4, pI x4), (3, pI x3), (0, pR (gmo G)), (1, pI x1), (2, pI x2)] [pI s0] σe S := by
  unfold f_X3_blockOfRank_71 at h
  refine V_iconst (v := 1) dX3_blockOfRank_71 (by decide) ?_
  refine V_goto 76 dX3_blockOfRank_72 (by decide) ?_
  refine V_sub [0, 1, 2, 3, 4, 5] rfl ?_
  exact v_X3_blockOfRank_76 hst hm hk5 hk23 h
def f_X3_blockOfRank_75 (k5 : Ms → Int32 → Int32 → Int32 → Int32 → Option (Int32 × Ms)) (k23 : Ms → Int32 → Int32 → Int32 → Int32 → Int32 → Int32 → Option (Int32 × Ms)) (S : Ms) (x6 : Int32) (x4 : Int32) (x3 : Int32) (x1 : Int32) (x2 : Int32) (s0 : Int32) : Option (Int32 × Ms) :=
  f_X3_blockOfRank_76 k5 k23 S x6 x4 x3 x1 x2 (0 : Int32) s0
set_option maxHeartbeats 4000000 in
theorem v_X3_blockOfRank_75 {l : Launch} {G : Gx} (hst : l.stackTraces = false) (hm : gmo G ≠ 0) {σ0 σe : Hp} {Se : Ms} {r : Int32} {k5 : Ms → Int32 → Int32 → Int32 → Int32 → Option (Int32 × Ms)} {k23 : Ms → Int32 → Int32 → Int32 → Int32 → Int32 → Int32 → Option (Int32 × Ms)} (hk5 : ∀ (S : Ms) (x4 : Int32) (x3 : Int32) (x1 : Int32) (x2 : Int32), k5 S x4 x3 x1 x2 = some (r, Se) → VV_X3_blockOfRank l G σ0 (.inl (some (pI r))) σe Se 5 [(4, pI x4), (3, pI x3), (0, pR (gmo G)), (1, pI x1), (2, pI x2)] [] σe S) (hk23 : ∀ (S : Ms) (x6 : Int32) (x5 : Int32) (x4 : Int32) (x3 : Int32) (x1 : Int32) (x2 : Int32), k23 S x6 x5 x4 x3 x1 x2 = some (r, Se) → VV_X3_blockOfRank l G σ0 (.inl (some (pI r))) σe Se 23 [(6, pI x6), (5, pI x5), (4, pI x4), (3, pI x3), (0, pR (gmo G)), (1, pI x1), (2, pI x2)] [] σe S) {S : Ms} {x6 : Int32} {x4 : Int32} {x3 : Int32} {x1 : Int32} {x2 : Int32} {s0 : Int32} (h : f_X3_blockOfRank_75 k5 k23 S x6 x4 x3 x1 x2 s0 = some (r, Se)) : VV_X3_blockOfRank l G σ0 (.inl (some (pI r))) σe Se 75 [(6, pI x6), (4, pI x4), (3, pI x3), (0, pR (gmo G)), (1, pI x1), (2, pI x2)] [pI s0] σe S := by
  unfold f_X3_blockOfRank_75 at h
  refine V_iconst (v := 0) dX3_blockOfRank_75 (by decide) ?_
  refine V_sub [0, 1, 2, 3, 4, 5] rfl ?_
  exact v_X3_blockOfRank_76 hst hm hk5 hk23 h
def f_X3_blockOfRank_23_b (k5 : Ms → Int32 → Int32 → Int32 → Int32 → Option (Int32 × Ms)) (k23 : Ms → Int32 → Int32 → Int32 → Int32 → Int32 → Int32 → Option (Int32 × Ms)) (S : Ms) (x6 : Int32) (x5 : Int32) (x4 : Int32) (x3 : Int32) (x1 : Int32) (x2 : Int32) : Option (Int32 × Ms) :=
  bd (mrd S 0 149 (8 : Int32)) fun y1 => if y1 ≤ x6 then (if x5 = x2 then (f_X3_blockOfRank_97 k5 S x4 x1 x2 x4) else (f_X3_blockOfRank_97 k5 S x4 x1 x2 x3)) else (bp (f_X3_keyOf S x6 x1) fun y5 S6 => bp (f_X3_keyOf S6 x4 x1) fun y8 S9 => if (0 : Int32) < (y5 - y8) then (f_X3_blockOfRank_71 k5 k23 S9 x6 x4 x3 x1 x2 x5) else (if (y5 - y8) = (0 : Int32) then (if x4 ≤ x6 then (f_X3_blockOfRank_75 k5 k23 S9 x6 x4 x3 x1 x2 x5) else (f_X3_blockOfRank_71 k5 k23 S9 x6 x4 x3 x1 x2 x5)) else (f_X3_blockOfRank_75 k5 k23 S9 x6 x4 x3 x1 x2 x5)))
set_option maxHeartbeats 4000000 in
theorem v_X3_blockOfRank_23_b {l : Launch} {G : Gx} (hst : l.stackTraces = false) (hm : gmo G ≠ 0) {σ0 σe : Hp} {Se : Ms} {r : Int32} {k5 : Ms → Int32 → Int32 → Int32 → Int32 → Option (Int32 × Ms)} {k23 : Ms → Int32 → Int32 → Int32 → Int32 → Int32 → Int32 → Option (Int32 × Ms)} (hk5 : ∀ (S : Ms) (x4 : Int32) (x3 : Int32) (x1 : Int32) (x2 : Int32), k5 S x4 x3 x1 x2 = some (r, Se) → VV_X3_blockOfRank l G σ0 (.inl (some (pI r))) σe Se 5 [(4, pI x4), (3, pI x3), (0, pR (gmo G)), (1, pI x1), (2, pI x2)] [] σe S) (hk23 : ∀ (S : Ms) (x6 : Int32) (x5 : Int32) (x4 : Int32) (x3 : Int32) (x1 : Int32) (x2 : Int32), k23 S x6 x5 x4 x3 x1 x2 = some (r, Se) → VV_X3_blockOfRank l G σ0 (.inl (some (pI r))) σe Se 23 [(6, pI x6), (5, pI x5), (4, pI x4), (3, pI x3), (0, pR (gmo G)), (1, pI x1), (2, pI x2)] [] σe S) {S : Ms} {x6 : Int32} {x5 : Int32} {x4 : Int32} {x3 : Int32} {x1 : Int32} {x2 : Int32} (h : f_X3_blockOfRank_23_b k5 k23 S x6 x5 x4 x3 x1 x2 = some (r, Se)) : VV_X3_blockOfRank l G σ0 (.inl (some (pI r))) σe Se 23 [(6, pI x6), (5, pI x5), (4, pI x4), (3, pI x3), (0, pR (gmo G)), (1, pI x1), (2, pI x2)] [] σe S := by
  unfold f_X3_blockOfRank_23_b at h
  refine V_iload (i := 6) 0 dX3_blockOfRank_23 rfl ?_
  refine V_aload_n (i := 0) 4 dX3_blockOfRank_25 rfl rfl ?_
  refine V_mrdA hm gf_X3_7 (by decide) rfl dX3_blockOfRank_26 ?_
  refine V_bipush (v := 8) dX3_blockOfRank_29 (by decide) ?_
  obtain ⟨y1, e2, h⟩ := bd_s h
  refine V_mel hm e2 (by decide) rfl (by decide) dX3_blockOfRank_31 ?_
  refine V_icmp_ge 85 dX3_blockOfRank_32 (by decide) (fun c3 => ?_) (fun c3 => ?_)
  · replace h := it_t c3 h
    refine V_iload (i := 5) 1 dX3_blockOfRank_85 rfl ?_
    refine V_iload_n (i := 2) 6 dX3_blockOfRank_87 rfl rfl ?_
    refine V_icmp_ne 96 dX3_blockOfRank_88 (by decide) (fun c4 => ?_) (fun c4 => ?_)
    · replace h := it_f c4 h
      refine V_iload_n (i := 3) 3 dX3_blockOfRank_96 rfl rfl ?_
      refine V_sub [2, 4, 5, 6] rfl ?_
      exact v_X3_blockOfRank_97 hst hm hk5 h
    · replace h := it_t c4 h
      refine V_iload (i := 4) 2 dX3_blockOfRank_91 rfl ?_
      refine V_goto 97 dX3_blockOfRank_93 (by decide) ?_
      refine V_sub [2, 4, 5, 6] rfl ?_
      exact v_X3_blockOfRank_97 hst hm hk5 h
  · replace h := it_f c3 h
    refine V_aload_n (i := 0) 4 dX3_blockOfRank_35 rfl rfl ?_
    refine V_iload (i := 6) 0 dX3_blockOfRank_36 rfl ?_
    refine V_iload_n (i := 1) 5 dX3_blockOfRank_38 rfl rfl ?_
    obtain ⟨y5, S6, e7, h⟩ := bp_s h
    refine V_callM_v (n9 := 2) [] hm (v_X3_keyOf l G hst hm _ e7) rfl rfl (lw_V q2301 q2303 qs64 q90 q2304) (by decide +kernel) (by decide) (Nat.le_of_ble_eq_true rfl) dX3_blockOfRank_39 ?_
    refine V_aload_n (i := 0) 4 dX3_blockOfRank_42 rfl rfl ?_
    refine V_iload (i := 4) 2 dX3_blockOfRank_43 rfl ?_
    refine V_iload_n (i := 1) 5 dX3_blockOfRank_45 rfl rfl ?_
    obtain ⟨y8, S9, e10, h⟩ := bp_s h
    refine V_callM_v (n9 := 2) [pI y5] hm (v_X3_keyOf l G hst hm _ e10) rfl rfl (lw_V q2301 q2303 qs64 q90 q2304) (by decide +kernel) (by decide) (Nat.le_of_ble_eq_true rfl) dX3_blockOfRank_46 ?_
    refine V_isub dX3_blockOfRank_49 ?_
    refine V_istore (i := 7) (L' := [(7, pI (y5 - y8)), (6, pI x6), (5, pI x5), (4, pI x4), (3, pI x3), (0, pR (gmo G)), (1, pI x1), (2, pI x2)]) dX3_blockOfRank_50 (by decide) rfl ?_
    refine V_iload (i := 5) 2 dX3_blockOfRank_52 rfl ?_
    refine V_iload (i := 7) 0 dX3_blockOfRank_54 rfl ?_
    refine V_if_gt 71 dX3_blockOfRank_56 (by decide) (fun c11 => ?_) (fun c11 => ?_)
    · replace h := it_t c11 h
      refine V_sub [1, 3, 4, 5, 6, 7] rfl ?_
      exact v_X3_blockOfRank_71 hst hm hk5 hk23 h
    · replace h := it_f c11 h
      refine V_iload (i := 7) 0 dX3_blockOfRank_59 rfl ?_
      refine V_if_ne 75 dX3_blockOfRank_61 (by decide) (fun c12 => ?_) (fun c12 => ?_)
      · replace h := it_f c12 h
        refine V_sub [1, 3, 4, 5, 6, 7] rfl ?_
        exact v_X3_blockOfRank_75 hst hm hk5 hk23 h
      · replace h := it_t c12 h
        refine V_iload (i := 6) 1 dX3_blockOfRank_64 rfl ?_
        refine V_iload (i := 4) 3 dX3_blockOfRank_66 rfl ?_
        refine V_icmp_ge 75 dX3_blockOfRank_68 (by decide) (fun c13 => ?_) (fun c13 => ?_)
        · replace h := it_t c13 h
          refine V_sub [1, 3, 4, 5, 6, 7] rfl ?_
          exact v_X3_blockOfRank_75 hst hm hk5 hk23 h
        · replace h := it_f c13 h
          refine V_sub [1, 3, 4, 5, 6, 7] rfl ?_
          exact v_X3_blockOfRank_71 hst hm hk5 hk23 h
def f_X3_blockOfRank_23 (k5 : Ms → Int32 → Int32 → Int32 → Int32 → Option (Int32 × Ms)) : Nat → Ms → Int32 → Int32 → Int32 → Int32 → Int32 → Int32 → Option (Int32 × Ms)
  | 0, _, _, _, _, _, _, _ => none
  | n + 1, S, x6, x5, x4, x3, x1, x2 => f_X3_blockOfRank_23_b k5 (f_X3_blockOfRank_23 k5 n) S x6 x5 x4 x3 x1 x2
theorem v_X3_blockOfRank_23 {l : Launch} {G : Gx} (hst : l.stackTraces = false) (hm : gmo G ≠ 0) {σ0 σe : Hp} {Se : Ms} {r : Int32} {k5 : Ms → Int32 → Int32 → Int32 → Int32 → Option (Int32 × Ms)} (hk5 : ∀ (S : Ms) (x4 : Int32) (x3 : Int32) (x1 : Int32) (x2 : Int32), k5 S x4 x3 x1 x2 = some (r, Se) → VV_X3_blockOfRank l G σ0 (.inl (some (pI r))) σe Se 5 [(4, pI x4), (3, pI x3), (0, pR (gmo G)), (1, pI x1), (2, pI x2)] [] σe S) : ∀ (n : Nat) (S : Ms) (x6 : Int32) (x5 : Int32) (x4 : Int32) (x3 : Int32) (x1 : Int32) (x2 : Int32), f_X3_blockOfRank_23 k5 n S x6 x5 x4 x3 x1 x2 = some (r, Se) → VV_X3_blockOfRank l G σ0 (.inl (some (pI r))) σe Se 23 [(6, pI x6), (5, pI x5), (4, pI x4), (3, pI x3), (0, pR (gmo G)), (1, pI x1), (2, pI x2)] [] σe S
  | 0, _, _, _, _, _, _, _, h => by cases h
  | n + 1, _, _, _, _, _, _, _, h => v_X3_blockOfRank_23_b hst hm hk5 (v_X3_blockOfRank_23 hst hm hk5 n) h
def f_X3_blockOfRank_5_b (k5 : Ms → Int32 → Int32 → Int32 → Int32 → Option (Int32 × Ms)) (S : Ms) (x4 : Int32) (x3 : Int32) (x1 : Int32) (x2 : Int32) : Option (Int32 × Ms) :=
  bd (mrd S 0 149 (8 : Int32)) fun y1 => if y1 ≤ x4 then (some (x3, S)) else (f_X3_blockOfRank_23 k5 FU S (0 : Int32) (0 : Int32) x4 x3 x1 x2)
set_option maxHeartbeats 4000000 in
theorem v_X3_blockOfRank_5_b {l : Launch} {G : Gx} (hst : l.stackTraces = false) (hm : gmo G ≠ 0) {σ0 σe : Hp} {Se : Ms} {r : Int32} {k5 : Ms → Int32 → Int32 → Int32 → Int32 → Option (Int32 × Ms)} (hk5 : ∀ (S : Ms) (x4 : Int32) (x3 : Int32) (x1 : Int32) (x2 : Int32), k5 S x4 x3 x1 x2 = some (r, Se) → VV_X3_blockOfRank l G σ0 (.inl (some (pI r))) σe Se 5 [(4, pI x4), (3, pI x3), (0, pR (gmo G)), (1, pI x1), (2, pI x2)] [] σe S) {S : Ms} {x4 : Int32} {x3 : Int32} {x1 : Int32} {x2 : Int32} (h : f_X3_blockOfRank_5_b k5 S x4 x3 x1 x2 = some (r, Se)) : VV_X3_blockOfRank l G σ0 (.inl (some (pI r))) σe Se 5 [(4, pI x4), (3, pI x3), (0, pR (gmo G)), (1, pI x1), (2, pI x2)] [] σe S := by
  unfold f_X3_blockOfRank_5_b at h
  refine V_iload (i := 4) 0 dX3_blockOfRank_5 rfl ?_
  refine V_aload_n (i := 0) 2 dX3_blockOfRank_7 rfl rfl ?_
  refine V_mrdA hm gf_X3_7 (by decide) rfl dX3_blockOfRank_8 ?_
  refine V_bipush (v := 8) dX3_blockOfRank_11 (by decide) ?_
  obtain ⟨y1, e2, h⟩ := bd_s h
  refine V_mel hm e2 (by decide) rfl (by decide) dX3_blockOfRank_13 ?_
  refine V_icmp_ge 104 dX3_blockOfRank_14 (by decide) (fun c3 => ?_) (fun c3 => ?_)
  · replace h := it_t c3 h
    refine V_iload_n (i := 3) 1 dX3_blockOfRank_104 rfl rfl ?_
    cases h
    exact V_iret rfl dX3_blockOfRank_105
  · replace h := it_f c3 h
    refine V_iconst (v := 0) dX3_blockOfRank_17 (by decide) ?_
    refine V_istore (i := 5) (L' := [(5, pI (0 : Int32)), (4, pI x4), (3, pI x3), (0, pR (gmo G)), (1, pI x1), (2, pI x2)]) dX3_blockOfRank_18 (by decide) rfl ?_
    refine V_iconst (v := 0) dX3_blockOfRank_20 (by decide) ?_
    refine V_istore (i := 6) (L' := [(6, pI (0 : Int32)), (5, pI (0 : Int32)), (4, pI x4), (3, pI x3), (0, pR (gmo G)), (1, pI x1), (2, pI x2)]) dX3_blockOfRank_21 (by decide) rfl ?_
    refine V_sub [0, 1, 2, 3, 4, 5, 6] rfl ?_
    exact v_X3_blockOfRank_23 hst hm hk5 FU _ _ _ _ _ _ _ h
def f_X3_blockOfRank_5 : Nat → Ms → Int32 → Int32 → Int32 → Int32 → Option (Int32 × Ms)
  | 0, _, _, _, _, _ => none
  | n + 1, S, x4, x3, x1, x2 => f_X3_blockOfRank_5_b (f_X3_blockOfRank_5 n) S x4 x3 x1 x2
theorem v_X3_blockOfRank_5 {l : Launch} {G : Gx} (hst : l.stackTraces = false) (hm : gmo G ≠ 0) {σ0 σe : Hp} {Se : Ms} {r : Int32} : ∀ (n : Nat) (S : Ms) (x4 : Int32) (x3 : Int32) (x1 : Int32) (x2 : Int32), f_X3_blockOfRank_5 n S x4 x3 x1 x2 = some (r, Se) → VV_X3_blockOfRank l G σ0 (.inl (some (pI r))) σe Se 5 [(4, pI x4), (3, pI x3), (0, pR (gmo G)), (1, pI x1), (2, pI x2)] [] σe S
  | 0, _, _, _, _, _, h => by cases h
  | n + 1, _, _, _, _, _, h => v_X3_blockOfRank_5_b hst hm (v_X3_blockOfRank_5 hst hm n) h
def f_X3_blockOfRank (S : Ms) (x1 : Int32) (x2 : Int32) : Option (Int32 × Ms) :=
  f_X3_blockOfRank_5 FU S (0 : Int32) (-1 : Int32) x1 x2
set_option maxHeartbeats 4000000 in
theorem v_X3_blockOfRank (l : Launch) (G : Gx) (hst : l.stackTraces = false) (hm : gmo G ≠ 0) (σ : Hp) {S Se : Ms} {x1 : Int32} {x2 : Int32} {r : Int32} (h : f_X3_blockOfRank S x1 x2 = some (r, Se)) : MT l G yX3_blockOfRank (ws_ yX3_blockOfRank cX3_blockOfRank 8 (some .int)) 4 95 [pR (gmo G), pI x1, pI x2] σ S (.inl (some (pI r))) σ Se := by
  refine MT_of (own := RX3) (nL := 8) (ini := false) (by decide +kernel) rfl (Nat.le_of_ble_eq_true rfl) (fun h => by cases h) hst ?_
  show VV_X3_blockOfRank l G σ (.inl (some (pI r))) σ Se 0 [(0, pR (gmo G)), (1, pI x1), (2, pI x2)] [] σ S
  unfold f_X3_blockOfRank at h
  refine V_iconst (v := (-1)) dX3_blockOfRank_0 (by decide) ?_
  refine V_istore_n (i := 3) (L' := [(3, pI (-1 : Int32)), (0, pR (gmo G)), (1, pI x1), (2, pI x2)]) dX3_blockOfRank_1 rfl (by decide) rfl ?_
  refine V_iconst (v := 0) dX3_blockOfRank_2 (by decide) ?_
  refine V_istore (i := 4) (L' := [(4, pI (0 : Int32)), (3, pI (-1 : Int32)), (0, pR (gmo G)), (1, pI x1), (2, pI x2)]) dX3_blockOfRank_3 (by decide) rfl ?_
  refine V_sub [0, 1, 2, 3, 4] rfl ?_
  exact v_X3_blockOfRank_5 hst hm FU _ _ _ _ _ h

abbrev VV_X3_ranked (l : Launch) (G : Gx) (σ0 : Hp) (o : Oc) (σe : Hp) (Se : Ms) := V l G RX3 cX3_ranked 3 (some .int) [] false 5 122 σ0 o σe Se
def f_X3_ranked_32 (S : Ms) (s0 : Int32) : Option (Int32 × Ms) :=
  some (s0, S)
set_option maxHeartbeats 4000000 in
theorem v_X3_ranked_32 {l : Launch} {G : Gx} (hst : l.stackTraces = false) (hm : gmo G ≠ 0) {σ0 σe : Hp} {Se : Ms} {r : Int32} {S : Ms} {s0 : Int32} (h : f_X3_ranked_32 S s0 = some (r, Se)) : VV_X3_ranked l G σ0 (.inl (some (pI r))) σe Se 32 [] [pI s0] σe S := by
  unfold f_X3_ranked_32 at h
  cases h
  exact V_iret rfl dX3_ranked_32
def f_X3_ranked_27 (S : Ms) : Option (Int32 × Ms) :=
  bp (f_X3_fails S (1 : Int32)) fun y1 S2 => f_X3_ranked_32 S2 y1
set_option maxHeartbeats 4000000 in
theorem v_X3_ranked_27 {l : Launch} {G : Gx} (hst : l.stackTraces = false) (hm : gmo G ≠ 0) {σ0 σe : Hp} {Se : Ms} {r : Int32} {S : Ms} (h : f_X3_ranked_27 S  = some (r, Se)) : VV_X3_ranked l G σ0 (.inl (some (pI r))) σe Se 27 [(0, pR (gmo G))] [] σe S := by
  unfold f_X3_ranked_27 at h
  refine V_aload_n (i := 0) 0 dX3_ranked_27 rfl rfl ?_
  refine V_iconst (v := 1) dX3_ranked_28 (by decide) ?_
  obtain ⟨y1, S2, e3, h⟩ := bp_s h
  refine V_callM_v (n9 := 1) [] hm (v_X3_fails l G hst hm _ e3) rfl rfl (lw_V q2062 q2064 qs28 q90 q2065) (by decide +kernel) (by decide) (Nat.le_of_ble_eq_true rfl) dX3_ranked_29 ?_
  refine V_sub [] rfl ?_
  exact v_X3_ranked_32 hst hm h
def f_X3_ranked (S : Ms) (x1 : Int32) (x2 : Int32) : Option (Int32 × Ms) :=
  bd (f_X3_in x1 (0 : Int32) (2 : Int32)) fun y1 => if y1 = (0 : Int32) then (f_X3_ranked_27 (sM S 5 (0 : Int32)) ) else (if x2 < (0 : Int32) then (f_X3_ranked_27 (sM S 5 (0 : Int32)) ) else (bp (f_X3_blockOfRank (sM S 5 (0 : Int32)) x1 x2) fun y5 S6 => f_X3_ranked_32 S6 y5))
set_option maxHeartbeats 4000000 in
theorem v_X3_ranked (l : Launch) (G : Gx) (hst : l.stackTraces = false) (hm : gmo G ≠ 0) (σ : Hp) {S Se : Ms} {x1 : Int32} {x2 : Int32} {r : Int32} (h : f_X3_ranked S x1 x2 = some (r, Se)) : MT l G yX3_ranked (ws_ yX3_ranked cX3_ranked 3 (some .int)) 5 122 [pR (gmo G), pI x1, pI x2] σ S (.inl (some (pI r))) σ Se := by
  refine MT_of (own := RX3) (nL := 3) (ini := false) (by decide +kernel) rfl (Nat.le_of_ble_eq_true rfl) (fun h => by cases h) hst ?_
  show VV_X3_ranked l G σ (.inl (some (pI r))) σ Se 0 [(0, pR (gmo G)), (1, pI x1), (2, pI x2)] [] σ S
  unfold f_X3_ranked at h
  refine V_aload_n (i := 0) 0 dX3_ranked_0 rfl rfl ?_
  refine V_iconst (v := 0) dX3_ranked_1 (by decide) ?_
  refine V_mput hm gw_X3_38 (by decide) rfl dX3_ranked_2 ?_
  refine V_iload_n (i := 1) 1 dX3_ranked_5 rfl rfl ?_
  refine V_iconst (v := 0) dX3_ranked_6 (by decide) ?_
  refine V_iconst (v := 2) dX3_ranked_7 (by decide) ?_
  obtain ⟨y1, e2, h⟩ := bd_s h
  refine V_callS_v (n9 := 3) [] (v_X3_in l G hst _ _ e2) rfl rfl (lw_S q2070 q2071 q90 q2072) (by decide +kernel) (by decide) (Nat.le_of_ble_eq_true rfl) dX3_ranked_8 ?_
  refine V_if_eq 27 dX3_ranked_11 (by decide) (fun c3 => ?_) (fun c3 => ?_)
  · replace h := it_t c3 h
    refine V_sub [0] rfl ?_
    exact v_X3_ranked_27 hst hm h
  · replace h := it_f c3 h
    refine V_iload_n (i := 2) 2 dX3_ranked_14 rfl rfl ?_
    refine V_if_lt 27 dX3_ranked_15 (by decide) (fun c4 => ?_) (fun c4 => ?_)
    · replace h := it_t c4 h
      refine V_sub [0] rfl ?_
      exact v_X3_ranked_27 hst hm h
    · replace h := it_f c4 h
      refine V_aload_n (i := 0) 0 dX3_ranked_18 rfl rfl ?_
      refine V_iload_n (i := 1) 1 dX3_ranked_19 rfl rfl ?_
      refine V_iload_n (i := 2) 2 dX3_ranked_20 rfl rfl ?_
      obtain ⟨y5, S6, e7, h⟩ := bp_s h
      refine V_callM_v (n9 := 2) [] hm (v_X3_blockOfRank l G hst hm _ e7) rfl rfl (lw_V q2297 q2299 qs63 q90 q2300) (by decide +kernel) (by decide) (Nat.le_of_ble_eq_true rfl) dX3_ranked_21 ?_
      refine V_goto 32 dX3_ranked_24 (by decide) ?_
      refine V_sub [] rfl ?_
      exact v_X3_ranked_32 hst hm h

abbrev VV_X3_lengthBeyond (l : Launch) (G : Gx) (σ0 : Hp) (o : Oc) (σe : Hp) (Se : Ms) := V l G RX3 cX3_lengthBeyond 5 (some .int) [] false 3 73 σ0 o σe Se
def f_X3_lengthBeyond_54 (k4 : Ms → Int32 → Int32 → Int32 → Option (Int32 × Ms)) (S : Ms) (x3 : Int32) (x1 : Int32) (s0 : Int32) : Option (Int32 × Ms) :=
  k4 S (x3 + (1 : Int32)) s0 x1
set_option maxHeartbeats 4000000 in
theorem v_X3_lengthBeyond_54 {l : Launch} {G : Gx} (hst : l.stackTraces = false) (hm : gmo G ≠ 0) {σ0 σe : Hp} {Se : Ms} {r : Int32} {k4 : Ms → Int32 → Int32 → Int32 → Option (Int32 × Ms)} (hk4 : ∀ (S : Ms) (x3 : Int32) (x2 : Int32) (x1 : Int32), k4 S x3 x2 x1 = some (r, Se) → VV_X3_lengthBeyond l G σ0 (.inl (some (pI r))) σe Se 4 [(3, pI x3), (2, pI x2), (0, pR (gmo G)), (1, pI x1)] [] σe S) {S : Ms} {x3 : Int32} {x1 : Int32} {s0 : Int32} (h : f_X3_lengthBeyond_54 k4 S x3 x1 s0 = some (r, Se)) : VV_X3_lengthBeyond l G σ0 (.inl (some (pI r))) σe Se 54 [(3, pI x3), (0, pR (gmo G)), (1, pI x1)] [pI s0] σe S := by
  unfold f_X3_lengthBeyond_54 at h
  refine V_istore_n (i := 2) (L' := [(2, pI s0), (3, pI x3), (0, pR (gmo G)), (1, pI x1)]) dX3_lengthBeyond_54 rfl (by decide) rfl ?_
  refine V_iinc (v := (x3 + (1 : Int32))) (L' := [(3, pI (x3 + (1 : Int32))), (2, pI s0), (0, pR (gmo G)), (1, pI x1)]) 1 dX3_lengthBeyond_55 rfl rfl (by decide) rfl ?_
  refine V_goto 4 dX3_lengthBeyond_58 (by decide) ?_
  refine V_sub [0, 1, 2, 3] rfl ?_
  exact hk4 _ _ _ _ h
def f_X3_lengthBeyond_53 (k4 : Ms → Int32 → Int32 → Int32 → Option (Int32 × Ms)) (S : Ms) (x3 : Int32) (x2 : Int32) (x1 : Int32) : Option (Int32 × Ms) :=
  f_X3_lengthBeyond_54 k4 S x3 x1 x2
set_option maxHeartbeats 4000000 in
theorem v_X3_lengthBeyond_53 {l : Launch} {G : Gx} (hst : l.stackTraces = false) (hm : gmo G ≠ 0) {σ0 σe : Hp} {Se : Ms} {r : Int32} {k4 : Ms → Int32 → Int32 → Int32 → Option (Int32 × Ms)} (hk4 : ∀ (S : Ms) (x3 : Int32) (x2 : Int32) (x1 : Int32), k4 S x3 x2 x1 = some (r, Se) → VV_X3_lengthBeyond l G σ0 (.inl (some (pI r))) σe Se 4 [(3, pI x3), (2, pI x2), (0, pR (gmo G)), (1, pI x1)] [] σe S) {S : Ms} {x3 : Int32} {x2 : Int32} {x1 : Int32} (h : f_X3_lengthBeyond_53 k4 S x3 x2 x1 = some (r, Se)) : VV_X3_lengthBeyond l G σ0 (.inl (some (pI r))) σe Se 53 [(3, pI x3), (2, pI x2), (0, pR (gmo G)), (1, pI x1)] [] σe S := by
  unfold f_X3_lengthBeyond_53 at h
  refine V_iload_n (i := 2) 1 dX3_lengthBeyond_53 rfl rfl ?_
  refine V_sub [0, 2, 3] rfl ?_
  exact v_X3_lengthBeyond_54 hst hm hk4 h
def f_X3_lengthBeyond_48 (k4 : Ms → Int32 → Int32 → Int32 → Option (Int32 × Ms)) (S : Ms) (x4 : Int32) (x3 : Int32) (x1 : Int32) : Option (Int32 × Ms) :=
  f_X3_lengthBeyond_54 k4 S x3 x1 x4
set_option maxHeartbeats 4000000 in
theorem v_X3_lengthBeyond_48 {l : Launch} {G : Gx} (hst : l.stackTraces = false) (hm : gmo G ≠ 0) {σ0 σe : Hp} {Se : Ms} {r : Int32} {k4 : Ms → Int32 → Int32 → Int32 → Option (Int32 × Ms)} (hk4 : ∀ (S : Ms) (x3 : Int32) (x2 : Int32) (x1 : Int32), k4 S x3 x2 x1 = some (r, Se) → VV_X3_lengthBeyond l G σ0 (.inl (some (pI r))) σe Se 4 [(3, pI x3), (2, pI x2), (0, pR (gmo G)), (1, pI x1)] [] σe S) {S : Ms} {x4 : Int32} {x3 : Int32} {x1 : Int32} (h : f_X3_lengthBeyond_48 k4 S x4 x3 x1 = some (r, Se)) : VV_X3_lengthBeyond l G σ0 (.inl (some (pI r))) σe Se 48 [(4, pI x4), (3, pI x3), (0, pR (gmo G)), (1, pI x1)] [] σe S := by
  unfold f_X3_lengthBeyond_48 at h
  refine V_iload (i := 4) 0 dX3_lengthBeyond_48 rfl ?_
  refine V_goto 54 dX3_lengthBeyond_50 (by decide) ?_
  refine V_sub [1, 2, 3] rfl ?_
  exact v_X3_lengthBeyond_54 hst hm hk4 h
def f_X3_lengthBeyond_4_b (k4 : Ms → Int32 → Int32 → Int32 → Option (Int32 × Ms)) (S : Ms) (x3 : Int32) (x2 : Int32) (x1 : Int32) : Option (Int32 × Ms) :=
  bd (mrd S 0 149 (8 : Int32)) fun y1 => if y1 ≤ x3 then (some (x2, S)) else (bp (f_X3_of S x3 (0 : Int32)) fun y4 S5 => bp (f_X3_isFree S5 x3) fun y7 S8 => if y7 = (0 : Int32) then (f_X3_lengthBeyond_53 k4 S8 x3 x2 x1) else (if y4 ≤ x1 then (f_X3_lengthBeyond_53 k4 S8 x3 x2 x1) else (if x2 = (-1 : Int32) then (f_X3_lengthBeyond_48 k4 S8 y4 x3 x1) else (if x2 ≤ y4 then (f_X3_lengthBeyond_53 k4 S8 x3 x2 x1) else (f_X3_lengthBeyond_48 k4 S8 y4 x3 x1)))))
set_option maxHeartbeats 4000000 in
theorem v_X3_lengthBeyond_4_b {l : Launch} {G : Gx} (hst : l.stackTraces = false) (hm : gmo G ≠ 0) {σ0 σe : Hp} {Se : Ms} {r : Int32} {k4 : Ms → Int32 → Int32 → Int32 → Option (Int32 × Ms)} (hk4 : ∀ (S : Ms) (x3 : Int32) (x2 : Int32) (x1 : Int32), k4 S x3 x2 x1 = some (r, Se) → VV_X3_lengthBeyond l G σ0 (.inl (some (pI r))) σe Se 4 [(3, pI x3), (2, pI x2), (0, pR (gmo G)), (1, pI x1)] [] σe S) {S : Ms} {x3 : Int32} {x2 : Int32} {x1 : Int32} (h : f_X3_lengthBeyond_4_b k4 S x3 x2 x1 = some (r, Se)) : VV_X3_lengthBeyond l G σ0 (.inl (some (pI r))) σe Se 4 [(3, pI x3), (2, pI x2), (0, pR (gmo G)), (1, pI x1)] [] σe S := by
  unfold f_X3_lengthBeyond_4_b at h
  refine V_iload_n (i := 3) 0 dX3_lengthBeyond_4 rfl rfl ?_
  refine V_aload_n (i := 0) 2 dX3_lengthBeyond_5 rfl rfl ?_
  refine V_mrdA hm gf_X3_7 (by decide) rfl dX3_lengthBeyond_6 ?_
  refine V_bipush (v := 8) dX3_lengthBeyond_9 (by decide) ?_
  obtain ⟨y1, e2, h⟩ := bd_s h
  refine V_mel hm e2 (by decide) rfl (by decide) dX3_lengthBeyond_11 ?_
  refine V_icmp_ge 61 dX3_lengthBeyond_12 (by decide) (fun c3 => ?_) (fun c3 => ?_)
  · replace h := it_t c3 h
    refine V_iload_n (i := 2) 1 dX3_lengthBeyond_61 rfl rfl ?_
    cases h
    exact V_iret rfl dX3_lengthBeyond_62
  · replace h := it_f c3 h
    refine V_aload_n (i := 0) 2 dX3_lengthBeyond_15 rfl rfl ?_
    refine V_iload_n (i := 3) 0 dX3_lengthBeyond_16 rfl rfl ?_
    refine V_iconst (v := 0) dX3_lengthBeyond_17 (by decide) ?_
    obtain ⟨y4, S5, e6, h⟩ := bp_s h
    refine V_callM_v (n9 := 2) [] hm (v_X3_of l G hst hm _ e6) rfl rfl (lw_V q2106 q2108 qs34 q90 q2109) (by decide +kernel) (by decide) (Nat.le_of_ble_eq_true rfl) dX3_lengthBeyond_18 ?_
    refine V_istore (i := 4) (L' := [(4, pI y4), (3, pI x3), (2, pI x2), (0, pR (gmo G)), (1, pI x1)]) dX3_lengthBeyond_21 (by decide) rfl ?_
    refine V_aload_n (i := 0) 3 dX3_lengthBeyond_23 rfl rfl ?_
    refine V_iload_n (i := 3) 1 dX3_lengthBeyond_24 rfl rfl ?_
    obtain ⟨y7, S8, e9, h⟩ := bp_s h
    refine V_callM_v (n9 := 1) [] hm (v_X3_isFree l G hst hm _ e9) rfl rfl (lw_V q2102 q2104 qs33 q90 q2105) (by decide +kernel) (by decide) (Nat.le_of_ble_eq_true rfl) dX3_lengthBeyond_25 ?_
    refine V_if_eq 53 dX3_lengthBeyond_28 (by decide) (fun c10 => ?_) (fun c10 => ?_)
    · replace h := it_t c10 h
      refine V_sub [1, 2, 3, 4] rfl ?_
      exact v_X3_lengthBeyond_53 hst hm hk4 h
    · replace h := it_f c10 h
      refine V_iload (i := 4) 0 dX3_lengthBeyond_31 rfl ?_
      refine V_iload_n (i := 1) 4 dX3_lengthBeyond_33 rfl rfl ?_
      refine V_icmp_le 53 dX3_lengthBeyond_34 (by decide) (fun c11 => ?_) (fun c11 => ?_)
      · replace h := it_t c11 h
        refine V_sub [1, 2, 3, 4] rfl ?_
        exact v_X3_lengthBeyond_53 hst hm hk4 h
      · replace h := it_f c11 h
        refine V_iload_n (i := 2) 2 dX3_lengthBeyond_37 rfl rfl ?_
        refine V_iconst (v := (-1)) dX3_lengthBeyond_38 (by decide) ?_
        refine V_icmp_eq 48 dX3_lengthBeyond_39 (by decide) (fun c12 => ?_) (fun c12 => ?_)
        · replace h := it_t c12 h
          refine V_sub [0, 1, 3, 4] rfl ?_
          exact v_X3_lengthBeyond_48 hst hm hk4 h
        · replace h := it_f c12 h
          refine V_iload (i := 4) 0 dX3_lengthBeyond_42 rfl ?_
          refine V_iload_n (i := 2) 2 dX3_lengthBeyond_44 rfl rfl ?_
          refine V_icmp_ge 53 dX3_lengthBeyond_45 (by decide) (fun c13 => ?_) (fun c13 => ?_)
          · replace h := it_t c13 h
            refine V_sub [1, 2, 3, 4] rfl ?_
            exact v_X3_lengthBeyond_53 hst hm hk4 h
          · replace h := it_f c13 h
            refine V_sub [0, 1, 3, 4] rfl ?_
            exact v_X3_lengthBeyond_48 hst hm hk4 h
def f_X3_lengthBeyond_4 : Nat → Ms → Int32 → Int32 → Int32 → Option (Int32 × Ms)
  | 0, _, _, _, _ => none
  | n + 1, S, x3, x2, x1 => f_X3_lengthBeyond_4_b (f_X3_lengthBeyond_4 n) S x3 x2 x1
theorem v_X3_lengthBeyond_4 {l : Launch} {G : Gx} (hst : l.stackTraces = false) (hm : gmo G ≠ 0) {σ0 σe : Hp} {Se : Ms} {r : Int32} : ∀ (n : Nat) (S : Ms) (x3 : Int32) (x2 : Int32) (x1 : Int32), f_X3_lengthBeyond_4 n S x3 x2 x1 = some (r, Se) → VV_X3_lengthBeyond l G σ0 (.inl (some (pI r))) σe Se 4 [(3, pI x3), (2, pI x2), (0, pR (gmo G)), (1, pI x1)] [] σe S
  | 0, _, _, _, _, h => by cases h
  | n + 1, _, _, _, _, h => v_X3_lengthBeyond_4_b hst hm (v_X3_lengthBeyond_4 hst hm n) h
def f_X3_lengthBeyond (S : Ms) (x1 : Int32) : Option (Int32 × Ms) :=
  f_X3_lengthBeyond_4 FU S (0 : Int32) (-1 : Int32) x1
set_option maxHeartbeats 4000000 in
theorem v_X3_lengthBeyond (l : Launch) (G : Gx) (hst : l.stackTraces = false) (hm : gmo G ≠ 0) (σ : Hp) {S Se : Ms} {x1 : Int32} {r : Int32} (h : f_X3_lengthBeyond S x1 = some (r, Se)) : MT l G yX3_lengthBeyond (ws_ yX3_lengthBeyond cX3_lengthBeyond 5 (some .int)) 3 73 [pR (gmo G), pI x1] σ S (.inl (some (pI r))) σ Se := by
  refine MT_of (own := RX3) (nL := 5) (ini := false) (by decide +kernel) rfl (Nat.le_of_ble_eq_true rfl) (fun h => by cases h) hst ?_
  show VV_X3_lengthBeyond l G σ (.inl (some (pI r))) σ Se 0 [(0, pR (gmo G)), (1, pI x1)] [] σ S
  unfold f_X3_lengthBeyond at h
  refine V_iconst (v := (-1)) dX3_lengthBeyond_0 (by decide) ?_
  refine V_istore_n (i := 2) (L' := [(2, pI (-1 : Int32)), (0, pR (gmo G)), (1, pI x1)]) dX3_lengthBeyond_1 rfl (by decide) rfl ?_
  refine V_iconst (v := 0) dX3_lengthBeyond_2 (by decide) ?_
  refine V_istore_n (i := 3) (L' := [(3, pI (0 : Int32)), (2, pI (-1 : Int32)), (0, pR (gmo G)), (1, pI x1)]) dX3_lengthBeyond_3 rfl (by decide) rfl ?_
  refine V_sub [0, 1, 2, 3] rfl ?_
  exact v_X3_lengthBeyond_4 hst hm FU _ _ _ _ h

abbrev VV_X3_lengthOfRank (l : Launch) (G : Gx) (σ0 : Hp) (o : Oc) (σe : Hp) (Se : Ms) := V l G RX3 cX3_lengthOfRank 4 (some .int) [] false 4 97 σ0 o σe Se
def f_X3_lengthOfRank_40 (S : Ms) (s0 : Int32) : Option (Int32 × Ms) :=
  some (s0, S)
set_option maxHeartbeats 4000000 in
theorem v_X3_lengthOfRank_40 {l : Launch} {G : Gx} (hst : l.stackTraces = false) (hm : gmo G ≠ 0) {σ0 σe : Hp} {Se : Ms} {r : Int32} {S : Ms} {s0 : Int32} (h : f_X3_lengthOfRank_40 S s0 = some (r, Se)) : VV_X3_lengthOfRank l G σ0 (.inl (some (pI r))) σe Se 40 [] [pI s0] σe S := by
  unfold f_X3_lengthOfRank_40 at h
  cases h
  exact V_iret rfl dX3_lengthOfRank_40
def f_X3_lengthOfRank_30 (S : Ms) (x3 : Int32) (x2 : Int32) (x1 : Int32) : Option (Int32 × Ms) :=
  if x1 = (-1 : Int32) then (f_X3_lengthOfRank_40 S x2) else (f_X3_lengthOfRank_40 S x3)
set_option maxHeartbeats 4000000 in
theorem v_X3_lengthOfRank_30 {l : Launch} {G : Gx} (hst : l.stackTraces = false) (hm : gmo G ≠ 0) {σ0 σe : Hp} {Se : Ms} {r : Int32} {S : Ms} {x3 : Int32} {x2 : Int32} {x1 : Int32} (h : f_X3_lengthOfRank_30 S x3 x2 x1 = some (r, Se)) : VV_X3_lengthOfRank l G σ0 (.inl (some (pI r))) σe Se 30 [(3, pI x3), (2, pI x2), (1, pI x1)] [] σe S := by
  unfold f_X3_lengthOfRank_30 at h
  refine V_iload_n (i := 1) 2 dX3_lengthOfRank_30 rfl rfl ?_
  refine V_iconst (v := (-1)) dX3_lengthOfRank_31 (by decide) ?_
  refine V_icmp_ne 39 dX3_lengthOfRank_32 (by decide) (fun c1 => ?_) (fun c1 => ?_)
  · replace h := it_f c1 h
    refine V_iload_n (i := 3) 0 dX3_lengthOfRank_39 rfl rfl ?_
    refine V_sub [] rfl ?_
    exact v_X3_lengthOfRank_40 hst hm h
  · replace h := it_t c1 h
    refine V_iload_n (i := 2) 1 dX3_lengthOfRank_35 rfl rfl ?_
    refine V_goto 40 dX3_lengthOfRank_36 (by decide) ?_
    refine V_sub [] rfl ?_
    exact v_X3_lengthOfRank_40 hst hm h
def f_X3_lengthOfRank_8_b (k8 : Ms → Int32 → Int32 → Int32 → Option (Int32 × Ms)) (S : Ms) (x3 : Int32) (x2 : Int32) (x1 : Int32) : Option (Int32 × Ms) :=
  if x3 = (-1 : Int32) then (f_X3_lengthOfRank_30 S x3 x2 x1) else (if x2 = x1 then (f_X3_lengthOfRank_30 S x3 x2 x1) else (bp (f_X3_lengthBeyond S x3) fun y3 S4 => k8 S4 y3 (x2 + (1 : Int32)) x1))
set_option maxHeartbeats 4000000 in
theorem v_X3_lengthOfRank_8_b {l : Launch} {G : Gx} (hst : l.stackTraces = false) (hm : gmo G ≠ 0) {σ0 σe : Hp} {Se : Ms} {r : Int32} {k8 : Ms → Int32 → Int32 → Int32 → Option (Int32 × Ms)} (hk8 : ∀ (S : Ms) (x3 : Int32) (x2 : Int32) (x1 : Int32), k8 S x3 x2 x1 = some (r, Se) → VV_X3_lengthOfRank l G σ0 (.inl (some (pI r))) σe Se 8 [(3, pI x3), (2, pI x2), (0, pR (gmo G)), (1, pI x1)] [] σe S) {S : Ms} {x3 : Int32} {x2 : Int32} {x1 : Int32} (h : f_X3_lengthOfRank_8_b k8 S x3 x2 x1 = some (r, Se)) : VV_X3_lengthOfRank l G σ0 (.inl (some (pI r))) σe Se 8 [(3, pI x3), (2, pI x2), (0, pR (gmo G)), (1, pI x1)] [] σe S := by
  unfold f_X3_lengthOfRank_8_b at h
  refine V_iload_n (i := 3) 0 dX3_lengthOfRank_8 rfl rfl ?_
  refine V_iconst (v := (-1)) dX3_lengthOfRank_9 (by decide) ?_
  refine V_icmp_eq 30 dX3_lengthOfRank_10 (by decide) (fun c1 => ?_) (fun c1 => ?_)
  · replace h := it_t c1 h
    refine V_sub [0, 1, 3] rfl ?_
    exact v_X3_lengthOfRank_30 hst hm h
  · replace h := it_f c1 h
    refine V_iload_n (i := 2) 1 dX3_lengthOfRank_13 rfl rfl ?_
    refine V_iload_n (i := 1) 3 dX3_lengthOfRank_14 rfl rfl ?_
    refine V_icmp_eq 30 dX3_lengthOfRank_15 (by decide) (fun c2 => ?_) (fun c2 => ?_)
    · replace h := it_t c2 h
      refine V_sub [0, 1, 3] rfl ?_
      exact v_X3_lengthOfRank_30 hst hm h
    · replace h := it_f c2 h
      refine V_aload_n (i := 0) 2 dX3_lengthOfRank_18 rfl rfl ?_
      refine V_iload_n (i := 3) 0 dX3_lengthOfRank_19 rfl rfl ?_
      obtain ⟨y3, S4, e5, h⟩ := bp_s h
      refine V_callM_v (n9 := 1) [] hm (v_X3_lengthBeyond l G hst hm _ e5) rfl rfl (lw_V q2313 q2315 qs66 q90 q2316) (by decide +kernel) (by decide) (Nat.le_of_ble_eq_true rfl) dX3_lengthOfRank_20 ?_
      refine V_istore_n (i := 3) (L' := [(3, pI y3), (2, pI x2), (0, pR (gmo G)), (1, pI x1)]) dX3_lengthOfRank_23 rfl (by decide) rfl ?_
      refine V_iinc (v := (x2 + (1 : Int32))) (L' := [(2, pI (x2 + (1 : Int32))), (3, pI y3), (0, pR (gmo G)), (1, pI x1)]) 1 dX3_lengthOfRank_24 rfl rfl (by decide) rfl ?_
      refine V_goto 8 dX3_lengthOfRank_27 (by decide) ?_
      refine V_sub [1, 0, 2, 3] rfl ?_
      exact hk8 _ _ _ _ h
def f_X3_lengthOfRank_8 : Nat → Ms → Int32 → Int32 → Int32 → Option (Int32 × Ms)
  | 0, _, _, _, _ => none
  | n + 1, S, x3, x2, x1 => f_X3_lengthOfRank_8_b (f_X3_lengthOfRank_8 n) S x3 x2 x1
theorem v_X3_lengthOfRank_8 {l : Launch} {G : Gx} (hst : l.stackTraces = false) (hm : gmo G ≠ 0) {σ0 σe : Hp} {Se : Ms} {r : Int32} : ∀ (n : Nat) (S : Ms) (x3 : Int32) (x2 : Int32) (x1 : Int32), f_X3_lengthOfRank_8 n S x3 x2 x1 = some (r, Se) → VV_X3_lengthOfRank l G σ0 (.inl (some (pI r))) σe Se 8 [(3, pI x3), (2, pI x2), (0, pR (gmo G)), (1, pI x1)] [] σe S
  | 0, _, _, _, _, h => by cases h
  | n + 1, _, _, _, _, h => v_X3_lengthOfRank_8_b hst hm (v_X3_lengthOfRank_8 hst hm n) h
def f_X3_lengthOfRank (S : Ms) (x1 : Int32) : Option (Int32 × Ms) :=
  bp (f_X3_lengthBeyond S (0 : Int32)) fun y1 S2 => f_X3_lengthOfRank_8 FU S2 y1 (0 : Int32) x1
set_option maxHeartbeats 4000000 in
theorem v_X3_lengthOfRank (l : Launch) (G : Gx) (hst : l.stackTraces = false) (hm : gmo G ≠ 0) (σ : Hp) {S Se : Ms} {x1 : Int32} {r : Int32} (h : f_X3_lengthOfRank S x1 = some (r, Se)) : MT l G yX3_lengthOfRank (ws_ yX3_lengthOfRank cX3_lengthOfRank 4 (some .int)) 4 97 [pR (gmo G), pI x1] σ S (.inl (some (pI r))) σ Se := by
  refine MT_of (own := RX3) (nL := 4) (ini := false) (by decide +kernel) rfl (Nat.le_of_ble_eq_true rfl) (fun h => by cases h) hst ?_
  show VV_X3_lengthOfRank l G σ (.inl (some (pI r))) σ Se 0 [(0, pR (gmo G)), (1, pI x1)] [] σ S
  unfold f_X3_lengthOfRank at h
  refine V_iconst (v := 0) dX3_lengthOfRank_0 (by decide) ?_
  refine V_istore_n (i := 2) (L' := [(2, pI (0 : Int32)), (0, pR (gmo G)), (1, pI x1)]) dX3_lengthOfRank_1 rfl (by decide) rfl ?_
  refine V_aload_n (i := 0) 1 dX3_lengthOfRank_2 rfl rfl ?_
  refine V_iconst (v := 0) dX3_lengthOfRank_3 (by decide) ?_
  obtain ⟨y1, S2, e3, h⟩ := bp_s h
  refine V_callM_v (n9 := 1) [] hm (v_X3_lengthBeyond l G hst hm _ e3) rfl rfl (lw_V q2313 q2315 qs66 q90 q2316) (by decide +kernel) (by decide) (Nat.le_of_ble_eq_true rfl) dX3_lengthOfRank_4 ?_
  refine V_istore_n (i := 3) (L' := [(3, pI y1), (2, pI (0 : Int32)), (0, pR (gmo G)), (1, pI x1)]) dX3_lengthOfRank_7 rfl (by decide) rfl ?_
  refine V_sub [0, 1, 2, 3] rfl ?_
  exact v_X3_lengthOfRank_8 hst hm FU _ _ _ _ h

abbrev VV_X3_lengths (l : Launch) (G : Gx) (σ0 : Hp) (o : Oc) (σe : Hp) (Se : Ms) := V l G RX3 cX3_lengths 2 (some .int) [] false 5 120 σ0 o σe Se
def f_X3_lengths_23 (S : Ms) (s0 : Int32) : Option (Int32 × Ms) :=
  some (s0, S)
set_option maxHeartbeats 4000000 in
theorem v_X3_lengths_23 {l : Launch} {G : Gx} (hst : l.stackTraces = false) (hm : gmo G ≠ 0) {σ0 σe : Hp} {Se : Ms} {r : Int32} {S : Ms} {s0 : Int32} (h : f_X3_lengths_23 S s0 = some (r, Se)) : VV_X3_lengths l G σ0 (.inl (some (pI r))) σe Se 23 [] [pI s0] σe S := by
  unfold f_X3_lengths_23 at h
  cases h
  exact V_iret rfl dX3_lengths_23
def f_X3_lengths (S : Ms) (x1 : Int32) : Option (Int32 × Ms) :=
  if (-1 : Int32) ≤ x1 then (bp (f_X3_lengthOfRank (sM S 5 (0 : Int32)) x1) fun y2 S3 => f_X3_lengths_23 S3 y2) else (bp (f_X3_fails (sM S 5 (0 : Int32)) (1 : Int32)) fun y5 S6 => f_X3_lengths_23 S6 y5)
set_option maxHeartbeats 4000000 in
theorem v_X3_lengths (l : Launch) (G : Gx) (hst : l.stackTraces = false) (hm : gmo G ≠ 0) (σ : Hp) {S Se : Ms} {x1 : Int32} {r : Int32} (h : f_X3_lengths S x1 = some (r, Se)) : MT l G yX3_lengths (ws_ yX3_lengths cX3_lengths 2 (some .int)) 5 120 [pR (gmo G), pI x1] σ S (.inl (some (pI r))) σ Se := by
  refine MT_of (own := RX3) (nL := 2) (ini := false) (by decide +kernel) rfl (Nat.le_of_ble_eq_true rfl) (fun h => by cases h) hst ?_
  show VV_X3_lengths l G σ (.inl (some (pI r))) σ Se 0 [(0, pR (gmo G)), (1, pI x1)] [] σ S
  unfold f_X3_lengths at h
  refine V_aload_n (i := 0) 0 dX3_lengths_0 rfl rfl ?_
  refine V_iconst (v := 0) dX3_lengths_1 (by decide) ?_
  refine V_mput hm gw_X3_38 (by decide) rfl dX3_lengths_2 ?_
  refine V_iload_n (i := 1) 1 dX3_lengths_5 rfl rfl ?_
  refine V_iconst (v := (-1)) dX3_lengths_6 (by decide) ?_
  refine V_icmp_ge 18 dX3_lengths_7 (by decide) (fun c1 => ?_) (fun c1 => ?_)
  · replace h := it_t c1 h
    refine V_aload_n (i := 0) 0 dX3_lengths_18 rfl rfl ?_
    refine V_iload_n (i := 1) 1 dX3_lengths_19 rfl rfl ?_
    obtain ⟨y2, S3, e4, h⟩ := bp_s h
    refine V_callM_v (n9 := 1) [] hm (v_X3_lengthOfRank l G hst hm _ e4) rfl rfl (lw_V q2309 q2311 qs65 q90 q2312) (by decide +kernel) (by decide) (Nat.le_of_ble_eq_true rfl) dX3_lengths_20 ?_
    refine V_sub [] rfl ?_
    exact v_X3_lengths_23 hst hm h
  · replace h := it_f c1 h
    refine V_aload_n (i := 0) 0 dX3_lengths_10 rfl rfl ?_
    refine V_iconst (v := 1) dX3_lengths_11 (by decide) ?_
    obtain ⟨y5, S6, e7, h⟩ := bp_s h
    refine V_callM_v (n9 := 1) [] hm (v_X3_fails l G hst hm _ e7) rfl rfl (lw_V q2062 q2064 qs28 q90 q2065) (by decide +kernel) (by decide) (Nat.le_of_ble_eq_true rfl) dX3_lengths_12 ?_
    refine V_goto 23 dX3_lengths_15 (by decide) ?_
    refine V_sub [] rfl ?_
    exact v_X3_lengths_23 hst hm h

abbrev VV_X3_freeSet (l : Launch) (G : Gx) (σ0 : Hp) (o : Oc) (σe : Hp) (Se : Ms) := V l G RX3 cX3_freeSet 1 (some .int) [] false 4 94 σ0 o σe Se
def f_X3_freeSet (S : Ms) : Option (Int32 × Ms) :=
  bp (f_X3_lookForFree S ) fun e1 S2 => bp (f_X3_byNumbers S2 (((1 : Int32) <<< ((S2.1 7) &&& 31)) - (1 : Int32))) fun y4 S5 => some (y4, S5)
set_option maxHeartbeats 4000000 in
theorem v_X3_freeSet (l : Launch) (G : Gx) (hst : l.stackTraces = false) (hm : gmo G ≠ 0) (σ : Hp) {S Se : Ms} {r : Int32} (h : f_X3_freeSet S  = some (r, Se)) : MT l G yX3_freeSet (ws_ yX3_freeSet cX3_freeSet 1 (some .int)) 4 94 [pR (gmo G)] σ S (.inl (some (pI r))) σ Se := by
  refine MT_of (own := RX3) (nL := 1) (ini := false) (by decide +kernel) rfl (Nat.le_of_ble_eq_true rfl) (fun h => by cases h) hst ?_
  show VV_X3_freeSet l G σ (.inl (some (pI r))) σ Se 0 [(0, pR (gmo G))] [] σ S
  unfold f_X3_freeSet at h
  refine V_aload_n (i := 0) 0 dX3_freeSet_0 rfl rfl ?_
  obtain ⟨e1, S2, e3, h⟩ := bp_s h
  refine V_callM_0 (n9 := 0) [] hm (v_X3_lookForFree l G hst hm _ e3) rfl rfl (lw_V q2206 q2208 qs48 q90 q2209) (by decide +kernel) (by decide) (Nat.le_of_ble_eq_true rfl) dX3_freeSet_1 ?_
  refine V_aload_n (i := 0) 0 dX3_freeSet_4 rfl rfl ?_
  refine V_iconst (v := 1) dX3_freeSet_5 (by decide) ?_
  refine V_aload_n (i := 0) 0 dX3_freeSet_6 rfl rfl ?_
  refine V_mrdI hm gf_X3_97 (by decide) rfl dX3_freeSet_7 ?_
  refine V_ishl dX3_freeSet_10 ?_
  refine V_iconst (v := 1) dX3_freeSet_11 (by decide) ?_
  refine V_isub dX3_freeSet_12 ?_
  obtain ⟨y4, S5, e6, h⟩ := bp_s h
  refine V_callM_v (n9 := 1) [] hm (v_X3_byNumbers l G hst hm _ e6) rfl rfl (lw_V q2214 q2216 qs50 q90 q2217) (by decide +kernel) (by decide) (Nat.le_of_ble_eq_true rfl) dX3_freeSet_13 ?_
  cases h
  exact V_iret rfl dX3_freeSet_16

abbrev VV_X3_wearOfAll (l : Launch) (G : Gx) (σ0 : Hp) (o : Oc) (σe : Hp) (Se : Ms) := V l G RX3 cX3_wearOfAll 3 (some .int) [] false 2 52 σ0 o σe Se
def f_X3_wearOfAll_4_b (k4 : Ms → Int32 → Int32 → Option (Int32 × Ms)) (S : Ms) (x2 : Int32) (x1 : Int32) : Option (Int32 × Ms) :=
  bd (mrd S 0 149 (8 : Int32)) fun y1 => if y1 ≤ x2 then (some (x1, S)) else (bp (f_X3_of S x2 (2 : Int32)) fun y4 S5 => k4 S5 (x2 + (1 : Int32)) (x1 + y4))
set_option maxHeartbeats 4000000 in
theorem v_X3_wearOfAll_4_b {l : Launch} {G : Gx} (hst : l.stackTraces = false) (hm : gmo G ≠ 0) {σ0 σe : Hp} {Se : Ms} {r : Int32} {k4 : Ms → Int32 → Int32 → Option (Int32 × Ms)} (hk4 : ∀ (S : Ms) (x2 : Int32) (x1 : Int32), k4 S x2 x1 = some (r, Se) → VV_X3_wearOfAll l G σ0 (.inl (some (pI r))) σe Se 4 [(2, pI x2), (1, pI x1), (0, pR (gmo G))] [] σe S) {S : Ms} {x2 : Int32} {x1 : Int32} (h : f_X3_wearOfAll_4_b k4 S x2 x1 = some (r, Se)) : VV_X3_wearOfAll l G σ0 (.inl (some (pI r))) σe Se 4 [(2, pI x2), (1, pI x1), (0, pR (gmo G))] [] σe S := by
  unfold f_X3_wearOfAll_4_b at h
  refine V_iload_n (i := 2) 0 dX3_wearOfAll_4 rfl rfl ?_
  refine V_aload_n (i := 0) 2 dX3_wearOfAll_5 rfl rfl ?_
  refine V_mrdA hm gf_X3_7 (by decide) rfl dX3_wearOfAll_6 ?_
  refine V_bipush (v := 8) dX3_wearOfAll_9 (by decide) ?_
  obtain ⟨y1, e2, h⟩ := bd_s h
  refine V_mel hm e2 (by decide) rfl (by decide) dX3_wearOfAll_11 ?_
  refine V_icmp_ge 30 dX3_wearOfAll_12 (by decide) (fun c3 => ?_) (fun c3 => ?_)
  · replace h := it_t c3 h
    refine V_iload_n (i := 1) 1 dX3_wearOfAll_30 rfl rfl ?_
    cases h
    exact V_iret rfl dX3_wearOfAll_31
  · replace h := it_f c3 h
    refine V_iload_n (i := 1) 1 dX3_wearOfAll_15 rfl rfl ?_
    refine V_aload_n (i := 0) 2 dX3_wearOfAll_16 rfl rfl ?_
    refine V_iload_n (i := 2) 0 dX3_wearOfAll_17 rfl rfl ?_
    refine V_iconst (v := 2) dX3_wearOfAll_18 (by decide) ?_
    obtain ⟨y4, S5, e6, h⟩ := bp_s h
    refine V_callM_v (n9 := 2) [pI x1] hm (v_X3_of l G hst hm _ e6) rfl rfl (lw_V q2106 q2108 qs34 q90 q2109) (by decide +kernel) (by decide) (Nat.le_of_ble_eq_true rfl) dX3_wearOfAll_19 ?_
    refine V_iadd dX3_wearOfAll_22 ?_
    refine V_istore_n (i := 1) (L' := [(1, pI (x1 + y4)), (2, pI x2), (0, pR (gmo G))]) dX3_wearOfAll_23 rfl (by decide) rfl ?_
    refine V_iinc (v := (x2 + (1 : Int32))) (L' := [(2, pI (x2 + (1 : Int32))), (1, pI (x1 + y4)), (0, pR (gmo G))]) 1 dX3_wearOfAll_24 rfl rfl (by decide) rfl ?_
    refine V_goto 4 dX3_wearOfAll_27 (by decide) ?_
    refine V_sub [0, 1, 2] rfl ?_
    exact hk4 _ _ _ h
def f_X3_wearOfAll_4 : Nat → Ms → Int32 → Int32 → Option (Int32 × Ms)
  | 0, _, _, _ => none
  | n + 1, S, x2, x1 => f_X3_wearOfAll_4_b (f_X3_wearOfAll_4 n) S x2 x1
theorem v_X3_wearOfAll_4 {l : Launch} {G : Gx} (hst : l.stackTraces = false) (hm : gmo G ≠ 0) {σ0 σe : Hp} {Se : Ms} {r : Int32} : ∀ (n : Nat) (S : Ms) (x2 : Int32) (x1 : Int32), f_X3_wearOfAll_4 n S x2 x1 = some (r, Se) → VV_X3_wearOfAll l G σ0 (.inl (some (pI r))) σe Se 4 [(2, pI x2), (1, pI x1), (0, pR (gmo G))] [] σe S
  | 0, _, _, _, h => by cases h
  | n + 1, _, _, _, h => v_X3_wearOfAll_4_b hst hm (v_X3_wearOfAll_4 hst hm n) h
def f_X3_wearOfAll (S : Ms) : Option (Int32 × Ms) :=
  f_X3_wearOfAll_4 FU S (0 : Int32) (0 : Int32)
set_option maxHeartbeats 4000000 in
theorem v_X3_wearOfAll (l : Launch) (G : Gx) (hst : l.stackTraces = false) (hm : gmo G ≠ 0) (σ : Hp) {S Se : Ms} {r : Int32} (h : f_X3_wearOfAll S  = some (r, Se)) : MT l G yX3_wearOfAll (ws_ yX3_wearOfAll cX3_wearOfAll 3 (some .int)) 2 52 [pR (gmo G)] σ S (.inl (some (pI r))) σ Se := by
  refine MT_of (own := RX3) (nL := 3) (ini := false) (by decide +kernel) rfl (Nat.le_of_ble_eq_true rfl) (fun h => by cases h) hst ?_
  show VV_X3_wearOfAll l G σ (.inl (some (pI r))) σ Se 0 [(0, pR (gmo G))] [] σ S
  unfold f_X3_wearOfAll at h
  refine V_iconst (v := 0) dX3_wearOfAll_0 (by decide) ?_
  refine V_istore_n (i := 1) (L' := [(1, pI (0 : Int32)), (0, pR (gmo G))]) dX3_wearOfAll_1 rfl (by decide) rfl ?_
  refine V_iconst (v := 0) dX3_wearOfAll_2 (by decide) ?_
  refine V_istore_n (i := 2) (L' := [(2, pI (0 : Int32)), (1, pI (0 : Int32)), (0, pR (gmo G))]) dX3_wearOfAll_3 rfl (by decide) rfl ?_
  refine V_sub [0, 1, 2] rfl ?_
  exact v_X3_wearOfAll_4 hst hm FU _ _ _ h

abbrev VV_X3_worstSet (l : Launch) (G : Gx) (σ0 : Hp) (o : Oc) (σe : Hp) (Se : Ms) := V l G RX3 cX3_worstSet 3 (some .int) [] false 4 95 σ0 o σe Se
def f_X3_worstSet_32 (k4 : Ms → Int32 → Int32 → Option (Int32 × Ms)) (S : Ms) (x2 : Int32) (s0 : Int32) (s1 : Int32) : Option (Int32 × Ms) :=
  k4 S (x2 + (1 : Int32)) (s1 ||| s0)
set_option maxHeartbeats 4000000 in
theorem v_X3_worstSet_32 {l : Launch} {G : Gx} (hst : l.stackTraces = false) (hm : gmo G ≠ 0) {σ0 σe : Hp} {Se : Ms} {r : Int32} {k4 : Ms → Int32 → Int32 → Option (Int32 × Ms)} (hk4 : ∀ (S : Ms) (x2 : Int32) (x1 : Int32), k4 S x2 x1 = some (r, Se) → VV_X3_worstSet l G σ0 (.inl (some (pI r))) σe Se 4 [(2, pI x2), (1, pI x1), (0, pR (gmo G))] [] σe S) {S : Ms} {x2 : Int32} {s0 : Int32} {s1 : Int32} (h : f_X3_worstSet_32 k4 S x2 s0 s1 = some (r, Se)) : VV_X3_worstSet l G σ0 (.inl (some (pI r))) σe Se 32 [(2, pI x2), (0, pR (gmo G))] [pI s0, pI s1] σe S := by
  unfold f_X3_worstSet_32 at h
  refine V_ior dX3_worstSet_32 ?_
  refine V_istore_n (i := 1) (L' := [(1, pI (s1 ||| s0)), (2, pI x2), (0, pR (gmo G))]) dX3_worstSet_33 rfl (by decide) rfl ?_
  refine V_iinc (v := (x2 + (1 : Int32))) (L' := [(2, pI (x2 + (1 : Int32))), (1, pI (s1 ||| s0)), (0, pR (gmo G))]) 1 dX3_worstSet_34 rfl rfl (by decide) rfl ?_
  refine V_goto 4 dX3_worstSet_37 (by decide) ?_
  refine V_sub [0, 1, 2] rfl ?_
  exact hk4 _ _ _ h
def f_X3_worstSet_4_b (k4 : Ms → Int32 → Int32 → Option (Int32 × Ms)) (S : Ms) (x2 : Int32) (x1 : Int32) : Option (Int32 × Ms) :=
  bd (mrd S 0 149 (8 : Int32)) fun y1 => if y1 ≤ x2 then (some (x1, S)) else (bp (f_X3_grade S x2) fun y4 S5 => if y4 = (3 : Int32) then (f_X3_worstSet_32 k4 S5 x2 ((1 : Int32) <<< (x2 &&& 31)) x1) else (f_X3_worstSet_32 k4 S5 x2 (0 : Int32) x1))
set_option maxHeartbeats 4000000 in
theorem v_X3_worstSet_4_b {l : Launch} {G : Gx} (hst : l.stackTraces = false) (hm : gmo G ≠ 0) {σ0 σe : Hp} {Se : Ms} {r : Int32} {k4 : Ms → Int32 → Int32 → Option (Int32 × Ms)} (hk4 : ∀ (S : Ms) (x2 : Int32) (x1 : Int32), k4 S x2 x1 = some (r, Se) → VV_X3_worstSet l G σ0 (.inl (some (pI r))) σe Se 4 [(2, pI x2), (1, pI x1), (0, pR (gmo G))] [] σe S) {S : Ms} {x2 : Int32} {x1 : Int32} (h : f_X3_worstSet_4_b k4 S x2 x1 = some (r, Se)) : VV_X3_worstSet l G σ0 (.inl (some (pI r))) σe Se 4 [(2, pI x2), (1, pI x1), (0, pR (gmo G))] [] σe S := by
  unfold f_X3_worstSet_4_b at h
  refine V_iload_n (i := 2) 0 dX3_worstSet_4 rfl rfl ?_
  refine V_aload_n (i := 0) 2 dX3_worstSet_5 rfl rfl ?_
  refine V_mrdA hm gf_X3_7 (by decide) rfl dX3_worstSet_6 ?_
  refine V_bipush (v := 8) dX3_worstSet_9 (by decide) ?_
  obtain ⟨y1, e2, h⟩ := bd_s h
  refine V_mel hm e2 (by decide) rfl (by decide) dX3_worstSet_11 ?_
  refine V_icmp_ge 40 dX3_worstSet_12 (by decide) (fun c3 => ?_) (fun c3 => ?_)
  · replace h := it_t c3 h
    refine V_iload_n (i := 1) 1 dX3_worstSet_40 rfl rfl ?_
    cases h
    exact V_iret rfl dX3_worstSet_41
  · replace h := it_f c3 h
    refine V_iload_n (i := 1) 1 dX3_worstSet_15 rfl rfl ?_
    refine V_aload_n (i := 0) 2 dX3_worstSet_16 rfl rfl ?_
    refine V_iload_n (i := 2) 0 dX3_worstSet_17 rfl rfl ?_
    obtain ⟨y4, S5, e6, h⟩ := bp_s h
    refine V_callM_v (n9 := 1) [pI x1] hm (v_X3_grade l G hst hm _ e6) rfl rfl (lw_V q2118 q2120 qs36 q90 q2121) (by decide +kernel) (by decide) (Nat.le_of_ble_eq_true rfl) dX3_worstSet_18 ?_
    refine V_iconst (v := 3) dX3_worstSet_21 (by decide) ?_
    refine V_icmp_ne 31 dX3_worstSet_22 (by decide) (fun c7 => ?_) (fun c7 => ?_)
    · replace h := it_f c7 h
      refine V_iconst (v := 0) dX3_worstSet_31 (by decide) ?_
      refine V_sub [0, 2] rfl ?_
      exact v_X3_worstSet_32 hst hm hk4 h
    · replace h := it_t c7 h
      refine V_iconst (v := 1) dX3_worstSet_25 (by decide) ?_
      refine V_iload_n (i := 2) 0 dX3_worstSet_26 rfl rfl ?_
      refine V_ishl dX3_worstSet_27 ?_
      refine V_goto 32 dX3_worstSet_28 (by decide) ?_
      refine V_sub [0, 2] rfl ?_
      exact v_X3_worstSet_32 hst hm hk4 h
def f_X3_worstSet_4 : Nat → Ms → Int32 → Int32 → Option (Int32 × Ms)
  | 0, _, _, _ => none
  | n + 1, S, x2, x1 => f_X3_worstSet_4_b (f_X3_worstSet_4 n) S x2 x1
theorem v_X3_worstSet_4 {l : Launch} {G : Gx} (hst : l.stackTraces = false) (hm : gmo G ≠ 0) {σ0 σe : Hp} {Se : Ms} {r : Int32} : ∀ (n : Nat) (S : Ms) (x2 : Int32) (x1 : Int32), f_X3_worstSet_4 n S x2 x1 = some (r, Se) → VV_X3_worstSet l G σ0 (.inl (some (pI r))) σe Se 4 [(2, pI x2), (1, pI x1), (0, pR (gmo G))] [] σe S
  | 0, _, _, _, h => by cases h
  | n + 1, _, _, _, h => v_X3_worstSet_4_b hst hm (v_X3_worstSet_4 hst hm n) h
def f_X3_worstSet (S : Ms) : Option (Int32 × Ms) :=
  f_X3_worstSet_4 FU S (0 : Int32) (0 : Int32)
set_option maxHeartbeats 4000000 in
theorem v_X3_worstSet (l : Launch) (G : Gx) (hst : l.stackTraces = false) (hm : gmo G ≠ 0) (σ : Hp) {S Se : Ms} {r : Int32} (h : f_X3_worstSet S  = some (r, Se)) : MT l G yX3_worstSet (ws_ yX3_worstSet cX3_worstSet 3 (some .int)) 4 95 [pR (gmo G)] σ S (.inl (some (pI r))) σ Se := by
  refine MT_of (own := RX3) (nL := 3) (ini := false) (by decide +kernel) rfl (Nat.le_of_ble_eq_true rfl) (fun h => by cases h) hst ?_
  show VV_X3_worstSet l G σ (.inl (some (pI r))) σ Se 0 [(0, pR (gmo G))] [] σ S
  unfold f_X3_worstSet at h
  refine V_iconst (v := 0) dX3_worstSet_0 (by decide) ?_
  refine V_istore_n (i := 1) (L' := [(1, pI (0 : Int32)), (0, pR (gmo G))]) dX3_worstSet_1 rfl (by decide) rfl ?_
  refine V_iconst (v := 0) dX3_worstSet_2 (by decide) ?_
  refine V_istore_n (i := 2) (L' := [(2, pI (0 : Int32)), (1, pI (0 : Int32)), (0, pR (gmo G))]) dX3_worstSet_3 rfl (by decide) rfl ?_
  refine V_sub [0, 1, 2] rfl ?_
  exact v_X3_worstSet_4 hst hm FU _ _ _ h

abbrev VV_X3_numberOf (l : Launch) (G : Gx) (σ0 : Hp) (o : Oc) (σe : Hp) (Se : Ms) := V l G RX3 cX3_numberOf 2 (some .int) [] false 5 117 σ0 o σe Se
def f_X3_numberOf (S : Ms) (x1 : Int32) : Option (Int32 × Ms) :=
  if x1 = (0 : Int32) then (bd (mrd S 0 149 (8 : Int32)) fun y2 => some (y2, S)) else (if x1 = (1 : Int32) then (bp (f_X3_freeSet S ) fun y5 S6 => some (y5, S6)) else (if x1 = (2 : Int32) then (bd (mrd S 0 149 (4 : Int32)) fun y9 => some (y9, S)) else (if x1 = (3 : Int32) then (bd (mrd S 0 149 (5 : Int32)) fun y12 => some (y12, S)) else (if x1 = (4 : Int32) then (bd (mrd S 0 149 (6 : Int32)) fun y15 => some (y15, S)) else (if x1 = (5 : Int32) then (bp (f_X3_wearOfAll S ) fun y18 S19 => some (y18, S19)) else (if x1 = (6 : Int32) then (bd (mrd S 0 149 (7 : Int32)) fun y22 => some (y22, S)) else (if x1 = (7 : Int32) then (bp (f_X3_worstSet S ) fun y25 S26 => some (y25, S26)) else (if x1 = (8 : Int32) then (some ((S.1 2), S)) else (some ((S.1 9), S))))))))))
set_option maxHeartbeats 4000000 in
theorem v_X3_numberOf (l : Launch) (G : Gx) (hst : l.stackTraces = false) (hm : gmo G ≠ 0) (σ : Hp) {S Se : Ms} {x1 : Int32} {r : Int32} (h : f_X3_numberOf S x1 = some (r, Se)) : MT l G yX3_numberOf (ws_ yX3_numberOf cX3_numberOf 2 (some .int)) 5 117 [pR (gmo G), pI x1] σ S (.inl (some (pI r))) σ Se := by
  refine MT_of (own := RX3) (nL := 2) (ini := false) (by decide +kernel) rfl (Nat.le_of_ble_eq_true rfl) (fun h => by cases h) hst ?_
  show VV_X3_numberOf l G σ (.inl (some (pI r))) σ Se 0 [(0, pR (gmo G)), (1, pI x1)] [] σ S
  unfold f_X3_numberOf at h
  refine V_iload_n (i := 1) 1 dX3_numberOf_0 rfl rfl ?_
  by_cases c1 : x1 = (0 : Int32)
  · replace h := it_t c1 h
    refine V_tableIn 52 dX3_numberOf_1 (by rw [c1]; decide) (by rw [c1]; decide) (by rw [c1]; first | done | rfl) (by decide) ?_
    refine V_aload_n (i := 0) 0 dX3_numberOf_52 rfl rfl ?_
    refine V_mrdA hm gf_X3_7 (by decide) rfl dX3_numberOf_53 ?_
    refine V_bipush (v := 8) dX3_numberOf_56 (by decide) ?_
    obtain ⟨y2, e3, h⟩ := bd_s h
    refine V_mel hm e3 (by decide) rfl (by decide) dX3_numberOf_58 ?_
    cases h
    exact V_iret rfl dX3_numberOf_59
  · replace h := it_f c1 h
    by_cases c4 : x1 = (1 : Int32)
    · replace h := it_t c4 h
      refine V_tableIn 60 dX3_numberOf_1 (by rw [c4]; decide) (by rw [c4]; decide) (by rw [c4]; first | done | rfl) (by decide) ?_
      refine V_aload_n (i := 0) 0 dX3_numberOf_60 rfl rfl ?_
      obtain ⟨y5, S6, e7, h⟩ := bp_s h
      refine V_callM_v (n9 := 0) [] hm (v_X3_freeSet l G hst hm _ e7) rfl rfl (lw_V q2325 q2327 qs68 q90 q2328) (by decide +kernel) (by decide) (Nat.le_of_ble_eq_true rfl) dX3_numberOf_61 ?_
      cases h
      exact V_iret rfl dX3_numberOf_64
    · replace h := it_f c4 h
      by_cases c8 : x1 = (2 : Int32)
      · replace h := it_t c8 h
        refine V_tableIn 65 dX3_numberOf_1 (by rw [c8]; decide) (by rw [c8]; decide) (by rw [c8]; first | done | rfl) (by decide) ?_
        refine V_aload_n (i := 0) 0 dX3_numberOf_65 rfl rfl ?_
        refine V_mrdA hm gf_X3_7 (by decide) rfl dX3_numberOf_66 ?_
        refine V_iconst (v := 4) dX3_numberOf_69 (by decide) ?_
        obtain ⟨y9, e10, h⟩ := bd_s h
        refine V_mel hm e10 (by decide) rfl (by decide) dX3_numberOf_70 ?_
        cases h
        exact V_iret rfl dX3_numberOf_71
      · replace h := it_f c8 h
        by_cases c11 : x1 = (3 : Int32)
        · replace h := it_t c11 h
          refine V_tableIn 72 dX3_numberOf_1 (by rw [c11]; decide) (by rw [c11]; decide) (by rw [c11]; first | done | rfl) (by decide) ?_
          refine V_aload_n (i := 0) 0 dX3_numberOf_72 rfl rfl ?_
          refine V_mrdA hm gf_X3_7 (by decide) rfl dX3_numberOf_73 ?_
          refine V_iconst (v := 5) dX3_numberOf_76 (by decide) ?_
          obtain ⟨y12, e13, h⟩ := bd_s h
          refine V_mel hm e13 (by decide) rfl (by decide) dX3_numberOf_77 ?_
          cases h
          exact V_iret rfl dX3_numberOf_78
        · replace h := it_f c11 h
          by_cases c14 : x1 = (4 : Int32)
          · replace h := it_t c14 h
            refine V_tableIn 79 dX3_numberOf_1 (by rw [c14]; decide) (by rw [c14]; decide) (by rw [c14]; first | done | rfl) (by decide) ?_
            refine V_aload_n (i := 0) 0 dX3_numberOf_79 rfl rfl ?_
            refine V_mrdA hm gf_X3_7 (by decide) rfl dX3_numberOf_80 ?_
            refine V_bipush (v := 6) dX3_numberOf_83 (by decide) ?_
            obtain ⟨y15, e16, h⟩ := bd_s h
            refine V_mel hm e16 (by decide) rfl (by decide) dX3_numberOf_85 ?_
            cases h
            exact V_iret rfl dX3_numberOf_86
          · replace h := it_f c14 h
            by_cases c17 : x1 = (5 : Int32)
            · replace h := it_t c17 h
              refine V_tableIn 87 dX3_numberOf_1 (by rw [c17]; decide) (by rw [c17]; decide) (by rw [c17]; first | done | rfl) (by decide) ?_
              refine V_aload_n (i := 0) 0 dX3_numberOf_87 rfl rfl ?_
              obtain ⟨y18, S19, e20, h⟩ := bp_s h
              refine V_callM_v (n9 := 0) [] hm (v_X3_wearOfAll l G hst hm _ e20) rfl rfl (lw_V q2329 q2331 qs69 q90 q2332) (by decide +kernel) (by decide) (Nat.le_of_ble_eq_true rfl) dX3_numberOf_88 ?_
              cases h
              exact V_iret rfl dX3_numberOf_91
            · replace h := it_f c17 h
              by_cases c21 : x1 = (6 : Int32)
              · replace h := it_t c21 h
                refine V_tableIn 92 dX3_numberOf_1 (by rw [c21]; decide) (by rw [c21]; decide) (by rw [c21]; first | done | rfl) (by decide) ?_
                refine V_aload_n (i := 0) 0 dX3_numberOf_92 rfl rfl ?_
                refine V_mrdA hm gf_X3_7 (by decide) rfl dX3_numberOf_93 ?_
                refine V_bipush (v := 7) dX3_numberOf_96 (by decide) ?_
                obtain ⟨y22, e23, h⟩ := bd_s h
                refine V_mel hm e23 (by decide) rfl (by decide) dX3_numberOf_98 ?_
                cases h
                exact V_iret rfl dX3_numberOf_99
              · replace h := it_f c21 h
                by_cases c24 : x1 = (7 : Int32)
                · replace h := it_t c24 h
                  refine V_tableIn 100 dX3_numberOf_1 (by rw [c24]; decide) (by rw [c24]; decide) (by rw [c24]; first | done | rfl) (by decide) ?_
                  refine V_aload_n (i := 0) 0 dX3_numberOf_100 rfl rfl ?_
                  obtain ⟨y25, S26, e27, h⟩ := bp_s h
                  refine V_callM_v (n9 := 0) [] hm (v_X3_worstSet l G hst hm _ e27) rfl rfl (lw_V q2333 q2335 qs70 q90 q2336) (by decide +kernel) (by decide) (Nat.le_of_ble_eq_true rfl) dX3_numberOf_101 ?_
                  cases h
                  exact V_iret rfl dX3_numberOf_104
                · replace h := it_f c24 h
                  by_cases c28 : x1 = (8 : Int32)
                  · replace h := it_t c28 h
                    refine V_tableIn 105 dX3_numberOf_1 (by rw [c28]; decide) (by rw [c28]; decide) (by rw [c28]; first | done | rfl) (by decide) ?_
                    refine V_aload_n (i := 0) 0 dX3_numberOf_105 rfl rfl ?_
                    refine V_mrdI hm gf_X3_47 (by decide) rfl dX3_numberOf_106 ?_
                    cases h
                    exact V_iret rfl dX3_numberOf_109
                  · replace h := it_f c28 h
                    refine V_tableOut 110 dX3_numberOf_1 (by have z0 := ne_int (a := 0) c1 (by decide); have z1 := ne_int (a := 1) c4 (by decide); have z2 := ne_int (a := 2) c8 (by decide); have z3 := ne_int (a := 3) c11 (by decide); have z4 := ne_int (a := 4) c14 (by decide); have z5 := ne_int (a := 5) c17 (by decide); have z6 := ne_int (a := 6) c21 (by decide); have z7 := ne_int (a := 7) c24 (by decide); have z8 := ne_int (a := 8) c28 (by decide); omega) (by decide) ?_
                    refine V_aload_n (i := 0) 0 dX3_numberOf_110 rfl rfl ?_
                    refine V_mrdI hm gf_X3_147 (by decide) rfl dX3_numberOf_111 ?_
                    cases h
                    exact V_iret rfl dX3_numberOf_114

abbrev VV_X3_count (l : Launch) (G : Gx) (σ0 : Hp) (o : Oc) (σe : Hp) (Se : Ms) := V l G RX3 cX3_count 2 (some .int) [] false 6 138 σ0 o σe Se
def f_X3_count_28 (S : Ms) (s0 : Int32) : Option (Int32 × Ms) :=
  some (s0, S)
set_option maxHeartbeats 4000000 in
theorem v_X3_count_28 {l : Launch} {G : Gx} (hst : l.stackTraces = false) (hm : gmo G ≠ 0) {σ0 σe : Hp} {Se : Ms} {r : Int32} {S : Ms} {s0 : Int32} (h : f_X3_count_28 S s0 = some (r, Se)) : VV_X3_count l G σ0 (.inl (some (pI r))) σe Se 28 [] [pI s0] σe S := by
  unfold f_X3_count_28 at h
  cases h
  exact V_iret rfl dX3_count_28
def f_X3_count (S : Ms) (x1 : Int32) : Option (Int32 × Ms) :=
  bd (f_X3_in x1 (0 : Int32) (9 : Int32)) fun y1 => if y1 = (0 : Int32) then (bp (f_X3_fails (sM S 5 (0 : Int32)) (1 : Int32)) fun y4 S5 => f_X3_count_28 S5 y4) else (bp (f_X3_numberOf (sM S 5 (0 : Int32)) x1) fun y7 S8 => f_X3_count_28 S8 y7)
set_option maxHeartbeats 4000000 in
theorem v_X3_count (l : Launch) (G : Gx) (hst : l.stackTraces = false) (hm : gmo G ≠ 0) (σ : Hp) {S Se : Ms} {x1 : Int32} {r : Int32} (h : f_X3_count S x1 = some (r, Se)) : MT l G yX3_count (ws_ yX3_count cX3_count 2 (some .int)) 6 138 [pR (gmo G), pI x1] σ S (.inl (some (pI r))) σ Se := by
  refine MT_of (own := RX3) (nL := 2) (ini := false) (by decide +kernel) rfl (Nat.le_of_ble_eq_true rfl) (fun h => by cases h) hst ?_
  show VV_X3_count l G σ (.inl (some (pI r))) σ Se 0 [(0, pR (gmo G)), (1, pI x1)] [] σ S
  unfold f_X3_count at h
  refine V_aload_n (i := 0) 0 dX3_count_0 rfl rfl ?_
  refine V_iconst (v := 0) dX3_count_1 (by decide) ?_
  refine V_mput hm gw_X3_38 (by decide) rfl dX3_count_2 ?_
  refine V_iload_n (i := 1) 1 dX3_count_5 rfl rfl ?_
  refine V_iconst (v := 0) dX3_count_6 (by decide) ?_
  refine V_bipush (v := 9) dX3_count_7 (by decide) ?_
  obtain ⟨y1, e2, h⟩ := bd_s h
  refine V_callS_v (n9 := 3) [] (v_X3_in l G hst _ _ e2) rfl rfl (lw_S q2070 q2071 q90 q2072) (by decide +kernel) (by decide) (Nat.le_of_ble_eq_true rfl) dX3_count_9 ?_
  refine V_if_eq 23 dX3_count_12 (by decide) (fun c3 => ?_) (fun c3 => ?_)
  · replace h := it_t c3 h
    refine V_aload_n (i := 0) 0 dX3_count_23 rfl rfl ?_
    refine V_iconst (v := 1) dX3_count_24 (by decide) ?_
    obtain ⟨y4, S5, e6, h⟩ := bp_s h
    refine V_callM_v (n9 := 1) [] hm (v_X3_fails l G hst hm _ e6) rfl rfl (lw_V q2062 q2064 qs28 q90 q2065) (by decide +kernel) (by decide) (Nat.le_of_ble_eq_true rfl) dX3_count_25 ?_
    refine V_sub [] rfl ?_
    exact v_X3_count_28 hst hm h
  · replace h := it_f c3 h
    refine V_aload_n (i := 0) 0 dX3_count_15 rfl rfl ?_
    refine V_iload_n (i := 1) 1 dX3_count_16 rfl rfl ?_
    obtain ⟨y7, S8, e9, h⟩ := bp_s h
    refine V_callM_v (n9 := 1) [] hm (v_X3_numberOf l G hst hm _ e9) rfl rfl (lw_V q2321 q2323 qs67 q90 q2324) (by decide +kernel) (by decide) (Nat.le_of_ble_eq_true rfl) dX3_count_17 ?_
    refine V_goto 28 dX3_count_20 (by decide) ?_
    refine V_sub [] rfl ?_
    exact v_X3_count_28 hst hm h

abbrev VV_X3_setting (l : Launch) (G : Gx) (σ0 : Hp) (o : Oc) (σe : Hp) (Se : Ms) := V l G RX3 cX3_setting 2 (some .int) [] false 2 52 σ0 o σe Se
def f_X3_setting_28 (S : Ms) (s0 : Int32) : Option (Int32 × Ms) :=
  some (s0, S)
set_option maxHeartbeats 4000000 in
theorem v_X3_setting_28 {l : Launch} {G : Gx} (hst : l.stackTraces = false) (hm : gmo G ≠ 0) {σ0 σe : Hp} {Se : Ms} {r : Int32} {S : Ms} {s0 : Int32} (h : f_X3_setting_28 S s0 = some (r, Se)) : VV_X3_setting l G σ0 (.inl (some (pI r))) σe Se 28 [] [pI s0] σe S := by
  unfold f_X3_setting_28 at h
  cases h
  exact V_iret rfl dX3_setting_28
def f_X3_setting (S : Ms) (x1 : Int32) : Option (Int32 × Ms) :=
  bd (f_X3_in x1 (0 : Int32) (3 : Int32)) fun y1 => if y1 = (0 : Int32) then (bp (f_X3_fails (sM S 5 (0 : Int32)) (1 : Int32)) fun y4 S5 => f_X3_setting_28 S5 y4) else (bd (mrd (sM S 5 (0 : Int32)) 0 149 x1) fun y7 => f_X3_setting_28 (sM S 5 (0 : Int32)) y7)
set_option maxHeartbeats 4000000 in
theorem v_X3_setting (l : Launch) (G : Gx) (hst : l.stackTraces = false) (hm : gmo G ≠ 0) (σ : Hp) {S Se : Ms} {x1 : Int32} {r : Int32} (h : f_X3_setting S x1 = some (r, Se)) : MT l G yX3_setting (ws_ yX3_setting cX3_setting 2 (some .int)) 2 52 [pR (gmo G), pI x1] σ S (.inl (some (pI r))) σ Se := by
  refine MT_of (own := RX3) (nL := 2) (ini := false) (by decide +kernel) rfl (Nat.le_of_ble_eq_true rfl) (fun h => by cases h) hst ?_
  show VV_X3_setting l G σ (.inl (some (pI r))) σ Se 0 [(0, pR (gmo G)), (1, pI x1)] [] σ S
  unfold f_X3_setting at h
  refine V_aload_n (i := 0) 0 dX3_setting_0 rfl rfl ?_
  refine V_iconst (v := 0) dX3_setting_1 (by decide) ?_
  refine V_mput hm gw_X3_38 (by decide) rfl dX3_setting_2 ?_
  refine V_iload_n (i := 1) 1 dX3_setting_5 rfl rfl ?_
  refine V_iconst (v := 0) dX3_setting_6 (by decide) ?_
  refine V_iconst (v := 3) dX3_setting_7 (by decide) ?_
  obtain ⟨y1, e2, h⟩ := bd_s h
  refine V_callS_v (n9 := 3) [] (v_X3_in l G hst _ _ e2) rfl rfl (lw_S q2070 q2071 q90 q2072) (by decide +kernel) (by decide) (Nat.le_of_ble_eq_true rfl) dX3_setting_8 ?_
  refine V_if_eq 23 dX3_setting_11 (by decide) (fun c3 => ?_) (fun c3 => ?_)
  · replace h := it_t c3 h
    refine V_aload_n (i := 0) 0 dX3_setting_23 rfl rfl ?_
    refine V_iconst (v := 1) dX3_setting_24 (by decide) ?_
    obtain ⟨y4, S5, e6, h⟩ := bp_s h
    refine V_callM_v (n9 := 1) [] hm (v_X3_fails l G hst hm _ e6) rfl rfl (lw_V q2062 q2064 qs28 q90 q2065) (by decide +kernel) (by decide) (Nat.le_of_ble_eq_true rfl) dX3_setting_25 ?_
    refine V_sub [] rfl ?_
    exact v_X3_setting_28 hst hm h
  · replace h := it_f c3 h
    refine V_aload_n (i := 0) 0 dX3_setting_14 rfl rfl ?_
    refine V_mrdA hm gf_X3_7 (by decide) rfl dX3_setting_15 ?_
    refine V_iload_n (i := 1) 1 dX3_setting_18 rfl rfl ?_
    obtain ⟨y7, e8, h⟩ := bd_s h
    refine V_mel hm e8 (by decide) rfl (by decide) dX3_setting_19 ?_
    refine V_goto 28 dX3_setting_20 (by decide) ?_
    refine V_sub [] rfl ?_
    exact v_X3_setting_28 hst hm h

abbrev VV_X3_refusal (l : Launch) (G : Gx) (σ0 : Hp) (o : Oc) (σe : Hp) (Se : Ms) := V l G RX3 cX3_refusal 3 (some .int) [] false 5 117 σ0 o σe Se
def f_X3_refusal_34 (S : Ms) (s0 : Int32) : Option (Int32 × Ms) :=
  some (s0, S)
set_option maxHeartbeats 4000000 in
theorem v_X3_refusal_34 {l : Launch} {G : Gx} (hst : l.stackTraces = false) (hm : gmo G ≠ 0) {σ0 σe : Hp} {Se : Ms} {r : Int32} {S : Ms} {s0 : Int32} (h : f_X3_refusal_34 S s0 = some (r, Se)) : VV_X3_refusal l G σ0 (.inl (some (pI r))) σe Se 34 [] [pI s0] σe S := by
  unfold f_X3_refusal_34 at h
  cases h
  exact V_iret rfl dX3_refusal_34
def f_X3_refusal_29 (S : Ms) : Option (Int32 × Ms) :=
  bp (f_X3_fails S (1 : Int32)) fun y1 S2 => f_X3_refusal_34 S2 y1
set_option maxHeartbeats 4000000 in
theorem v_X3_refusal_29 {l : Launch} {G : Gx} (hst : l.stackTraces = false) (hm : gmo G ≠ 0) {σ0 σe : Hp} {Se : Ms} {r : Int32} {S : Ms} (h : f_X3_refusal_29 S  = some (r, Se)) : VV_X3_refusal l G σ0 (.inl (some (pI r))) σe Se 29 [(0, pR (gmo G))] [] σe S := by
  unfold f_X3_refusal_29 at h
  refine V_aload_n (i := 0) 0 dX3_refusal_29 rfl rfl ?_
  refine V_iconst (v := 1) dX3_refusal_30 (by decide) ?_
  obtain ⟨y1, S2, e3, h⟩ := bp_s h
  refine V_callM_v (n9 := 1) [] hm (v_X3_fails l G hst hm _ e3) rfl rfl (lw_V q2062 q2064 qs28 q90 q2065) (by decide +kernel) (by decide) (Nat.le_of_ble_eq_true rfl) dX3_refusal_31 ?_
  refine V_sub [] rfl ?_
  exact v_X3_refusal_34 hst hm h
def f_X3_refusal (S : Ms) (x1 : Int32) (x2 : Int32) : Option (Int32 × Ms) :=
  bd (f_X3_isStack x1) fun y1 => if y1 = (0 : Int32) then (f_X3_refusal_29 (sM S 5 (0 : Int32)) ) else (bp (f_X3_isBlock (sM S 5 (0 : Int32)) x2) fun y4 S5 => if y4 = (0 : Int32) then (f_X3_refusal_29 S5 ) else (bp (f_X3_reason S5 x1 x2) fun y8 S9 => f_X3_refusal_34 S9 y8))
set_option maxHeartbeats 4000000 in
theorem v_X3_refusal (l : Launch) (G : Gx) (hst : l.stackTraces = false) (hm : gmo G ≠ 0) (σ : Hp) {S Se : Ms} {x1 : Int32} {x2 : Int32} {r : Int32} (h : f_X3_refusal S x1 x2 = some (r, Se)) : MT l G yX3_refusal (ws_ yX3_refusal cX3_refusal 3 (some .int)) 5 117 [pR (gmo G), pI x1, pI x2] σ S (.inl (some (pI r))) σ Se := by
  refine MT_of (own := RX3) (nL := 3) (ini := false) (by decide +kernel) rfl (Nat.le_of_ble_eq_true rfl) (fun h => by cases h) hst ?_
  show VV_X3_refusal l G σ (.inl (some (pI r))) σ Se 0 [(0, pR (gmo G)), (1, pI x1), (2, pI x2)] [] σ S
  unfold f_X3_refusal at h
  refine V_aload_n (i := 0) 0 dX3_refusal_0 rfl rfl ?_
  refine V_iconst (v := 0) dX3_refusal_1 (by decide) ?_
  refine V_mput hm gw_X3_38 (by decide) rfl dX3_refusal_2 ?_
  refine V_iload_n (i := 1) 1 dX3_refusal_5 rfl rfl ?_
  obtain ⟨y1, e2, h⟩ := bd_s h
  refine V_callS_v (n9 := 1) [] (v_X3_isStack l G hst _ _ e2) rfl rfl (lw_S q2159 q2160 q90 q2161) (by decide +kernel) (by decide) (Nat.le_of_ble_eq_true rfl) dX3_refusal_6 ?_
  refine V_if_eq 29 dX3_refusal_9 (by decide) (fun c3 => ?_) (fun c3 => ?_)
  · replace h := it_t c3 h
    refine V_sub [0] rfl ?_
    exact v_X3_refusal_29 hst hm h
  · replace h := it_f c3 h
    refine V_aload_n (i := 0) 0 dX3_refusal_12 rfl rfl ?_
    refine V_iload_n (i := 2) 2 dX3_refusal_13 rfl rfl ?_
    obtain ⟨y4, S5, e6, h⟩ := bp_s h
    refine V_callM_v (n9 := 1) [] hm (v_X3_isBlock l G hst hm _ e6) rfl rfl (lw_V q2098 q2100 qs32 q90 q2101) (by decide +kernel) (by decide) (Nat.le_of_ble_eq_true rfl) dX3_refusal_14 ?_
    refine V_if_eq 29 dX3_refusal_17 (by decide) (fun c7 => ?_) (fun c7 => ?_)
    · replace h := it_t c7 h
      refine V_sub [0] rfl ?_
      exact v_X3_refusal_29 hst hm h
    · replace h := it_f c7 h
      refine V_aload_n (i := 0) 0 dX3_refusal_20 rfl rfl ?_
      refine V_iload_n (i := 1) 1 dX3_refusal_21 rfl rfl ?_
      refine V_iload_n (i := 2) 2 dX3_refusal_22 rfl rfl ?_
      obtain ⟨y8, S9, e10, h⟩ := bp_s h
      refine V_callM_v (n9 := 2) [] hm (v_X3_reason l G hst hm _ e10) rfl rfl (lw_V q2166 q2168 qs41 q90 q2169) (by decide +kernel) (by decide) (Nat.le_of_ble_eq_true rfl) dX3_refusal_23 ?_
      refine V_goto 34 dX3_refusal_26 (by decide) ?_
      refine V_sub [] rfl ?_
      exact v_X3_refusal_34 hst hm h

abbrev VV_X3_ones (l : Launch) (G : Gx) (σ0 : Hp) (o : Oc) (σe : Hp) (Se : Ms) := V l G RX3 cX3_ones 3 (some .int) [] false 1 30 σ0 o σe Se
def f_X3_ones_4_b (k4 : Int32 → Int32 → Option Int32) (x2 : Int32) (x1 : Int32) : Option Int32 :=
  if x2 ≤ (0 : Int32) then (some x1) else (k4 (x2 >>> ((1 : Int32) &&& 31)) (x1 + (x2 &&& (1 : Int32))))
set_option maxHeartbeats 4000000 in
theorem v_X3_ones_4_b {l : Launch} {G : Gx} (hst : l.stackTraces = false) {σ0 σe : Hp} {Se : Ms} {r : Int32} {k4 : Int32 → Int32 → Option Int32} (hk4 : ∀ (x2 : Int32) (x1 : Int32), k4 x2 x1 = some r → VV_X3_ones l G σ0 (.inl (some (pI r))) σe Se 4 [(2, pI x2), (1, pI x1)] [] σe Se) {x2 : Int32} {x1 : Int32} (h : f_X3_ones_4_b k4 x2 x1 = some r) : VV_X3_ones l G σ0 (.inl (some (pI r))) σe Se 4 [(2, pI x2), (1, pI x1)] [] σe Se := by
  unfold f_X3_ones_4_b at h
  refine V_iload_n (i := 2) 0 dX3_ones_4 rfl rfl ?_
  refine V_if_le 21 dX3_ones_5 (by decide) (fun c1 => ?_) (fun c1 => ?_)
  · replace h := it_t c1 h
    refine V_iload_n (i := 1) 1 dX3_ones_21 rfl rfl ?_
    cases h
    exact V_iret rfl dX3_ones_22
  · replace h := it_f c1 h
    refine V_iload_n (i := 1) 1 dX3_ones_8 rfl rfl ?_
    refine V_iload_n (i := 2) 0 dX3_ones_9 rfl rfl ?_
    refine V_iconst (v := 1) dX3_ones_10 (by decide) ?_
    refine V_iand dX3_ones_11 ?_
    refine V_iadd dX3_ones_12 ?_
    refine V_istore_n (i := 1) (L' := [(1, pI (x1 + (x2 &&& (1 : Int32)))), (2, pI x2)]) dX3_ones_13 rfl (by decide) rfl ?_
    refine V_iload_n (i := 2) 1 dX3_ones_14 rfl rfl ?_
    refine V_iconst (v := 1) dX3_ones_15 (by decide) ?_
    refine V_ishr dX3_ones_16 ?_
    refine V_istore_n (i := 2) (L' := [(2, pI (x2 >>> ((1 : Int32) &&& 31))), (1, pI (x1 + (x2 &&& (1 : Int32))))]) dX3_ones_17 rfl (by decide) rfl ?_
    refine V_goto 4 dX3_ones_18 (by decide) ?_
    refine V_sub [0, 1] rfl ?_
    exact hk4 _ _ h
def f_X3_ones_4 : Nat → Int32 → Int32 → Option Int32
  | 0, _, _ => none
  | n + 1, x2, x1 => f_X3_ones_4_b (f_X3_ones_4 n) x2 x1
theorem v_X3_ones_4 {l : Launch} {G : Gx} (hst : l.stackTraces = false) {σ0 σe : Hp} {Se : Ms} {r : Int32} : ∀ (n : Nat) (x2 : Int32) (x1 : Int32), f_X3_ones_4 n x2 x1 = some r → VV_X3_ones l G σ0 (.inl (some (pI r))) σe Se 4 [(2, pI x2), (1, pI x1)] [] σe Se
  | 0, _, _, h => by cases h
  | n + 1, _, _, h => v_X3_ones_4_b hst (v_X3_ones_4 hst n) h
def f_X3_ones (x0 : Int32) : Option Int32 :=
  f_X3_ones_4 FU x0 (0 : Int32)
set_option maxHeartbeats 4000000 in
theorem v_X3_ones (l : Launch) (G : Gx) (hst : l.stackTraces = false) (σ : Hp) (S : Ms) {x0 : Int32} {r : Int32} (h : f_X3_ones x0 = some r) : MT l G yX3_ones (ws_ yX3_ones cX3_ones 3 (some .int)) 1 30 [pI x0] σ S (.inl (some (pI r))) σ S := by
  refine MT_of (own := RX3) (nL := 3) (ini := false) (by decide +kernel) rfl (Nat.le_of_ble_eq_true rfl) (fun h => by cases h) hst ?_
  show VV_X3_ones l G σ (.inl (some (pI r))) σ S 0 [(0, pI x0)] [] σ S
  unfold f_X3_ones at h
  refine V_iconst (v := 0) dX3_ones_0 (by decide) ?_
  refine V_istore_n (i := 1) (L' := [(1, pI (0 : Int32)), (0, pI x0)]) dX3_ones_1 rfl (by decide) rfl ?_
  refine V_iload_n (i := 0) 1 dX3_ones_2 rfl rfl ?_
  refine V_istore_n (i := 2) (L' := [(2, pI x0), (1, pI (0 : Int32)), (0, pI x0)]) dX3_ones_3 rfl (by decide) rfl ?_
  refine V_sub [0, 1] rfl ?_
  exact v_X3_ones_4 hst FU _ _ h

abbrev VV_X3_fewestOf (l : Launch) (G : Gx) (σ0 : Hp) (o : Oc) (σe : Hp) (Se : Ms) := V l G RX3 cX3_fewestOf 4 (some .int) [] false 5 117 σ0 o σe Se
def f_X3_fewestOf_26 (S : Ms) (s0 : Int32) : Option (Int32 × Ms) :=
  some (s0, S)
set_option maxHeartbeats 4000000 in
theorem v_X3_fewestOf_26 {l : Launch} {G : Gx} (hst : l.stackTraces = false) (hm : gmo G ≠ 0) {σ0 σe : Hp} {Se : Ms} {r : Int32} {S : Ms} {s0 : Int32} (h : f_X3_fewestOf_26 S s0 = some (r, Se)) : VV_X3_fewestOf l G σ0 (.inl (some (pI r))) σe Se 26 [] [pI s0] σe S := by
  unfold f_X3_fewestOf_26 at h
  cases h
  exact V_iret rfl dX3_fewestOf_26
def f_X3_fewestOf (S : Ms) (x1 : Int32) (x2 : Int32) : Option (Int32 × Ms) :=
  bp (f_X3_fewestFor S x1) fun y1 S2 => if y1 = (0 : Int32) then (f_X3_fewestOf_26 S2 (-1 : Int32)) else (if x2 = (0 : Int32) then (bd (f_X3_ones y1) fun y6 => f_X3_fewestOf_26 S2 y6) else (f_X3_fewestOf_26 S2 y1))
set_option maxHeartbeats 4000000 in
theorem v_X3_fewestOf (l : Launch) (G : Gx) (hst : l.stackTraces = false) (hm : gmo G ≠ 0) (σ : Hp) {S Se : Ms} {x1 : Int32} {x2 : Int32} {r : Int32} (h : f_X3_fewestOf S x1 x2 = some (r, Se)) : MT l G yX3_fewestOf (ws_ yX3_fewestOf cX3_fewestOf 4 (some .int)) 5 117 [pR (gmo G), pI x1, pI x2] σ S (.inl (some (pI r))) σ Se := by
  refine MT_of (own := RX3) (nL := 4) (ini := false) (by decide +kernel) rfl (Nat.le_of_ble_eq_true rfl) (fun h => by cases h) hst ?_
  show VV_X3_fewestOf l G σ (.inl (some (pI r))) σ Se 0 [(0, pR (gmo G)), (1, pI x1), (2, pI x2)] [] σ S
  unfold f_X3_fewestOf at h
  refine V_aload_n (i := 0) 0 dX3_fewestOf_0 rfl rfl ?_
  refine V_iload_n (i := 1) 1 dX3_fewestOf_1 rfl rfl ?_
  obtain ⟨y1, S2, e3, h⟩ := bp_s h
  refine V_callM_v (n9 := 1) [] hm (v_X3_fewestFor l G hst hm _ e3) rfl rfl (lw_V q2202 q2204 qs47 q90 q2205) (by decide +kernel) (by decide) (Nat.le_of_ble_eq_true rfl) dX3_fewestOf_2 ?_
  refine V_istore_n (i := 3) (L' := [(3, pI y1), (0, pR (gmo G)), (1, pI x1), (2, pI x2)]) dX3_fewestOf_5 rfl (by decide) rfl ?_
  refine V_iload_n (i := 3) 0 dX3_fewestOf_6 rfl rfl ?_
  refine V_if_ne 14 dX3_fewestOf_7 (by decide) (fun c4 => ?_) (fun c4 => ?_)
  · replace h := it_f c4 h
    refine V_iload_n (i := 2) 3 dX3_fewestOf_14 rfl rfl ?_
    refine V_if_ne 25 dX3_fewestOf_15 (by decide) (fun c5 => ?_) (fun c5 => ?_)
    · replace h := it_f c5 h
      refine V_iload_n (i := 3) 0 dX3_fewestOf_25 rfl rfl ?_
      refine V_sub [] rfl ?_
      exact v_X3_fewestOf_26 hst hm h
    · replace h := it_t c5 h
      refine V_iload_n (i := 3) 0 dX3_fewestOf_18 rfl rfl ?_
      obtain ⟨y6, e7, h⟩ := bd_s h
      refine V_callS_v (n9 := 1) [] (v_X3_ones l G hst _ _ e7) rfl rfl (lw_S q2353 q2354 q90 q2355) (by decide +kernel) (by decide) (Nat.le_of_ble_eq_true rfl) dX3_fewestOf_19 ?_
      refine V_goto 26 dX3_fewestOf_22 (by decide) ?_
      refine V_sub [] rfl ?_
      exact v_X3_fewestOf_26 hst hm h
  · replace h := it_t c4 h
    refine V_iconst (v := (-1)) dX3_fewestOf_10 (by decide) ?_
    refine V_goto 26 dX3_fewestOf_11 (by decide) ?_
    refine V_sub [] rfl ?_
    exact v_X3_fewestOf_26 hst hm h

abbrev VV_X3_fewest (l : Launch) (G : Gx) (σ0 : Hp) (o : Oc) (σe : Hp) (Se : Ms) := V l G RX3 cX3_fewest 3 (some .int) [] false 6 140 σ0 o σe Se
def f_X3_fewest_35 (S : Ms) (s0 : Int32) : Option (Int32 × Ms) :=
  some (s0, S)
set_option maxHeartbeats 4000000 in
theorem v_X3_fewest_35 {l : Launch} {G : Gx} (hst : l.stackTraces = false) (hm : gmo G ≠ 0) {σ0 σe : Hp} {Se : Ms} {r : Int32} {S : Ms} {s0 : Int32} (h : f_X3_fewest_35 S s0 = some (r, Se)) : VV_X3_fewest l G σ0 (.inl (some (pI r))) σe Se 35 [] [pI s0] σe S := by
  unfold f_X3_fewest_35 at h
  cases h
  exact V_iret rfl dX3_fewest_35
def f_X3_fewest_30 (S : Ms) : Option (Int32 × Ms) :=
  bp (f_X3_fails S (1 : Int32)) fun y1 S2 => f_X3_fewest_35 S2 y1
set_option maxHeartbeats 4000000 in
theorem v_X3_fewest_30 {l : Launch} {G : Gx} (hst : l.stackTraces = false) (hm : gmo G ≠ 0) {σ0 σe : Hp} {Se : Ms} {r : Int32} {S : Ms} (h : f_X3_fewest_30 S  = some (r, Se)) : VV_X3_fewest l G σ0 (.inl (some (pI r))) σe Se 30 [(0, pR (gmo G))] [] σe S := by
  unfold f_X3_fewest_30 at h
  refine V_aload_n (i := 0) 0 dX3_fewest_30 rfl rfl ?_
  refine V_iconst (v := 1) dX3_fewest_31 (by decide) ?_
  obtain ⟨y1, S2, e3, h⟩ := bp_s h
  refine V_callM_v (n9 := 1) [] hm (v_X3_fails l G hst hm _ e3) rfl rfl (lw_V q2062 q2064 qs28 q90 q2065) (by decide +kernel) (by decide) (Nat.le_of_ble_eq_true rfl) dX3_fewest_32 ?_
  refine V_sub [] rfl ?_
  exact v_X3_fewest_35 hst hm h
def f_X3_fewest (S : Ms) (x1 : Int32) (x2 : Int32) : Option (Int32 × Ms) :=
  bd (f_X3_isLength x1) fun y1 => if y1 = (0 : Int32) then (f_X3_fewest_30 (sM S 5 (0 : Int32)) ) else (bd (f_X3_in x2 (0 : Int32) (1 : Int32)) fun y4 => if y4 = (0 : Int32) then (f_X3_fewest_30 (sM S 5 (0 : Int32)) ) else (bp (f_X3_fewestOf (sM S 5 (0 : Int32)) x1 x2) fun y7 S8 => f_X3_fewest_35 S8 y7))
set_option maxHeartbeats 4000000 in
theorem v_X3_fewest (l : Launch) (G : Gx) (hst : l.stackTraces = false) (hm : gmo G ≠ 0) (σ : Hp) {S Se : Ms} {x1 : Int32} {x2 : Int32} {r : Int32} (h : f_X3_fewest S x1 x2 = some (r, Se)) : MT l G yX3_fewest (ws_ yX3_fewest cX3_fewest 3 (some .int)) 6 140 [pR (gmo G), pI x1, pI x2] σ S (.inl (some (pI r))) σ Se := by
  refine MT_of (own := RX3) (nL := 3) (ini := false) (by decide +kernel) rfl (Nat.le_of_ble_eq_true rfl) (fun h => by cases h) hst ?_
  show VV_X3_fewest l G σ (.inl (some (pI r))) σ Se 0 [(0, pR (gmo G)), (1, pI x1), (2, pI x2)] [] σ S
  unfold f_X3_fewest at h
  refine V_aload_n (i := 0) 0 dX3_fewest_0 rfl rfl ?_
  refine V_iconst (v := 0) dX3_fewest_1 (by decide) ?_
  refine V_mput hm gw_X3_38 (by decide) rfl dX3_fewest_2 ?_
  refine V_iload_n (i := 1) 1 dX3_fewest_5 rfl rfl ?_
  obtain ⟨y1, e2, h⟩ := bd_s h
  refine V_callS_v (n9 := 1) [] (v_X3_isLength l G hst _ _ e2) rfl rfl (lw_S q2194 q2195 q90 q2196) (by decide +kernel) (by decide) (Nat.le_of_ble_eq_true rfl) dX3_fewest_6 ?_
  refine V_if_eq 30 dX3_fewest_9 (by decide) (fun c3 => ?_) (fun c3 => ?_)
  · replace h := it_t c3 h
    refine V_sub [0] rfl ?_
    exact v_X3_fewest_30 hst hm h
  · replace h := it_f c3 h
    refine V_iload_n (i := 2) 2 dX3_fewest_12 rfl rfl ?_
    refine V_iconst (v := 0) dX3_fewest_13 (by decide) ?_
    refine V_iconst (v := 1) dX3_fewest_14 (by decide) ?_
    obtain ⟨y4, e5, h⟩ := bd_s h
    refine V_callS_v (n9 := 3) [] (v_X3_in l G hst _ _ e5) rfl rfl (lw_S q2070 q2071 q90 q2072) (by decide +kernel) (by decide) (Nat.le_of_ble_eq_true rfl) dX3_fewest_15 ?_
    refine V_if_eq 30 dX3_fewest_18 (by decide) (fun c6 => ?_) (fun c6 => ?_)
    · replace h := it_t c6 h
      refine V_sub [0] rfl ?_
      exact v_X3_fewest_30 hst hm h
    · replace h := it_f c6 h
      refine V_aload_n (i := 0) 0 dX3_fewest_21 rfl rfl ?_
      refine V_iload_n (i := 1) 1 dX3_fewest_22 rfl rfl ?_
      refine V_iload_n (i := 2) 2 dX3_fewest_23 rfl rfl ?_
      obtain ⟨y7, S8, e9, h⟩ := bp_s h
      refine V_callM_v (n9 := 2) [] hm (v_X3_fewestOf l G hst hm _ e9) rfl rfl (lw_V q2349 q2351 qs71 q90 q2352) (by decide +kernel) (by decide) (Nat.le_of_ble_eq_true rfl) dX3_fewest_24 ?_
      refine V_goto 35 dX3_fewest_27 (by decide) ?_
      refine V_sub [] rfl ?_
      exact v_X3_fewest_35 hst hm h

abbrev VV_X3_nextOld (l : Launch) (G : Gx) (σ0 : Hp) (o : Oc) (σe : Hp) (Se : Ms) := V l G RX3 cX3_nextOld 6 (some .int) [] false 3 73 σ0 o σe Se
def f_X3_nextOld_116 (k24 : Ms → Int32 → Int32 → Int32 → Option (Int32 × Ms)) (S : Ms) (x3 : Int32) (x1 : Int32) (s0 : Int32) : Option (Int32 × Ms) :=
  k24 S (x3 + (1 : Int32)) s0 x1
set_option maxHeartbeats 4000000 in
theorem v_X3_nextOld_116 {l : Launch} {G : Gx} (hst : l.stackTraces = false) (hm : gmo G ≠ 0) {σ0 σe : Hp} {Se : Ms} {r : Int32} {k24 : Ms → Int32 → Int32 → Int32 → Option (Int32 × Ms)} (hk24 : ∀ (S : Ms) (x3 : Int32) (x2 : Int32) (x1 : Int32), k24 S x3 x2 x1 = some (r, Se) → VV_X3_nextOld l G σ0 (.inl (some (pI r))) σe Se 24 [(3, pI x3), (2, pI x2), (1, pI x1), (0, pR (gmo G))] [] σe S) {S : Ms} {x3 : Int32} {x1 : Int32} {s0 : Int32} (h : f_X3_nextOld_116 k24 S x3 x1 s0 = some (r, Se)) : VV_X3_nextOld l G σ0 (.inl (some (pI r))) σe Se 116 [(3, pI x3), (1, pI x1), (0, pR (gmo G))] [pI s0] σe S := by
  unfold f_X3_nextOld_116 at h
  refine V_istore_n (i := 2) (L' := [(2, pI s0), (3, pI x3), (1, pI x1), (0, pR (gmo G))]) dX3_nextOld_116 rfl (by decide) rfl ?_
  refine V_iinc (v := (x3 + (1 : Int32))) (L' := [(3, pI (x3 + (1 : Int32))), (2, pI s0), (1, pI x1), (0, pR (gmo G))]) 1 dX3_nextOld_117 rfl rfl (by decide) rfl ?_
  refine V_goto 24 dX3_nextOld_120 (by decide) ?_
  refine V_sub [0, 1, 2, 3] rfl ?_
  exact hk24 _ _ _ _ h
def f_X3_nextOld_115 (k24 : Ms → Int32 → Int32 → Int32 → Option (Int32 × Ms)) (S : Ms) (x3 : Int32) (x2 : Int32) (x1 : Int32) : Option (Int32 × Ms) :=
  f_X3_nextOld_116 k24 S x3 x1 x2
set_option maxHeartbeats 4000000 in
theorem v_X3_nextOld_115 {l : Launch} {G : Gx} (hst : l.stackTraces = false) (hm : gmo G ≠ 0) {σ0 σe : Hp} {Se : Ms} {r : Int32} {k24 : Ms → Int32 → Int32 → Int32 → Option (Int32 × Ms)} (hk24 : ∀ (S : Ms) (x3 : Int32) (x2 : Int32) (x1 : Int32), k24 S x3 x2 x1 = some (r, Se) → VV_X3_nextOld l G σ0 (.inl (some (pI r))) σe Se 24 [(3, pI x3), (2, pI x2), (1, pI x1), (0, pR (gmo G))] [] σe S) {S : Ms} {x3 : Int32} {x2 : Int32} {x1 : Int32} (h : f_X3_nextOld_115 k24 S x3 x2 x1 = some (r, Se)) : VV_X3_nextOld l G σ0 (.inl (some (pI r))) σe Se 115 [(3, pI x3), (2, pI x2), (1, pI x1), (0, pR (gmo G))] [] σe S := by
  unfold f_X3_nextOld_115 at h
  refine V_iload_n (i := 2) 1 dX3_nextOld_115 rfl rfl ?_
  refine V_sub [0, 2, 3] rfl ?_
  exact v_X3_nextOld_116 hst hm hk24 h
def f_X3_nextOld_111 (k24 : Ms → Int32 → Int32 → Int32 → Option (Int32 × Ms)) (S : Ms) (x3 : Int32) (x1 : Int32) : Option (Int32 × Ms) :=
  f_X3_nextOld_116 k24 S x3 x1 x3
set_option maxHeartbeats 4000000 in
theorem v_X3_nextOld_111 {l : Launch} {G : Gx} (hst : l.stackTraces = false) (hm : gmo G ≠ 0) {σ0 σe : Hp} {Se : Ms} {r : Int32} {k24 : Ms → Int32 → Int32 → Int32 → Option (Int32 × Ms)} (hk24 : ∀ (S : Ms) (x3 : Int32) (x2 : Int32) (x1 : Int32), k24 S x3 x2 x1 = some (r, Se) → VV_X3_nextOld l G σ0 (.inl (some (pI r))) σe Se 24 [(3, pI x3), (2, pI x2), (1, pI x1), (0, pR (gmo G))] [] σe S) {S : Ms} {x3 : Int32} {x1 : Int32} (h : f_X3_nextOld_111 k24 S x3 x1 = some (r, Se)) : VV_X3_nextOld l G σ0 (.inl (some (pI r))) σe Se 111 [(3, pI x3), (1, pI x1), (0, pR (gmo G))] [] σe S := by
  unfold f_X3_nextOld_111 at h
  refine V_iload_n (i := 3) 0 dX3_nextOld_111 rfl rfl ?_
  refine V_goto 116 dX3_nextOld_112 (by decide) ?_
  refine V_sub [0, 1, 2] rfl ?_
  exact v_X3_nextOld_116 hst hm hk24 h
def f_X3_nextOld_88 (k24 : Ms → Int32 → Int32 → Int32 → Option (Int32 × Ms)) (S : Ms) (x4 : Int32) (x3 : Int32) (x2 : Int32) (x1 : Int32) (s0 : Int32) : Option (Int32 × Ms) :=
  if s0 = (0 : Int32) then (f_X3_nextOld_115 k24 S x3 x2 x1) else (if x2 = (-1 : Int32) then (f_X3_nextOld_111 k24 S x3 x1) else (bp (f_X3_of S x2 (0 : Int32)) fun y3 S4 => if x4 ≤ y3 then (f_X3_nextOld_115 k24 S4 x3 x2 x1) else (f_X3_nextOld_111 k24 S4 x3 x1)))
set_option maxHeartbeats 4000000 in
theorem v_X3_nextOld_88 {l : Launch} {G : Gx} (hst : l.stackTraces = false) (hm : gmo G ≠ 0) {σ0 σe : Hp} {Se : Ms} {r : Int32} {k24 : Ms → Int32 → Int32 → Int32 → Option (Int32 × Ms)} (hk24 : ∀ (S : Ms) (x3 : Int32) (x2 : Int32) (x1 : Int32), k24 S x3 x2 x1 = some (r, Se) → VV_X3_nextOld l G σ0 (.inl (some (pI r))) σe Se 24 [(3, pI x3), (2, pI x2), (1, pI x1), (0, pR (gmo G))] [] σe S) {S : Ms} {x4 : Int32} {x3 : Int32} {x2 : Int32} {x1 : Int32} {s0 : Int32} (h : f_X3_nextOld_88 k24 S x4 x3 x2 x1 s0 = some (r, Se)) : VV_X3_nextOld l G σ0 (.inl (some (pI r))) σe Se 88 [(4, pI x4), (3, pI x3), (2, pI x2), (1, pI x1), (0, pR (gmo G))] [pI s0] σe S := by
  unfold f_X3_nextOld_88 at h
  refine V_istore (i := 5) (L' := [(5, pI s0), (4, pI x4), (3, pI x3), (2, pI x2), (1, pI x1), (0, pR (gmo G))]) dX3_nextOld_88 (by decide) rfl ?_
  refine V_iload (i := 5) 0 dX3_nextOld_90 rfl ?_
  refine V_if_eq 115 dX3_nextOld_92 (by decide) (fun c1 => ?_) (fun c1 => ?_)
  · replace h := it_t c1 h
    refine V_sub [2, 3, 4, 5] rfl ?_
    exact v_X3_nextOld_115 hst hm hk24 h
  · replace h := it_f c1 h
    refine V_iload_n (i := 2) 3 dX3_nextOld_95 rfl rfl ?_
    refine V_iconst (v := (-1)) dX3_nextOld_96 (by decide) ?_
    refine V_icmp_eq 111 dX3_nextOld_97 (by decide) (fun c2 => ?_) (fun c2 => ?_)
    · replace h := it_t c2 h
      refine V_sub [2, 4, 5] rfl ?_
      exact v_X3_nextOld_111 hst hm hk24 h
    · replace h := it_f c2 h
      refine V_iload (i := 4) 1 dX3_nextOld_100 rfl ?_
      refine V_aload_n (i := 0) 5 dX3_nextOld_102 rfl rfl ?_
      refine V_iload_n (i := 2) 3 dX3_nextOld_103 rfl rfl ?_
      refine V_iconst (v := 0) dX3_nextOld_104 (by decide) ?_
      obtain ⟨y3, S4, e5, h⟩ := bp_s h
      refine V_callM_v (n9 := 2) [pI x4] hm (v_X3_of l G hst hm _ e5) rfl rfl (lw_V q2106 q2108 qs34 q90 q2109) (by decide +kernel) (by decide) (Nat.le_of_ble_eq_true rfl) dX3_nextOld_105 ?_
      refine V_icmp_le 115 dX3_nextOld_108 (by decide) (fun c6 => ?_) (fun c6 => ?_)
      · replace h := it_t c6 h
        refine V_sub [2, 3, 4, 5] rfl ?_
        exact v_X3_nextOld_115 hst hm hk24 h
      · replace h := it_f c6 h
        refine V_sub [2, 4, 5] rfl ?_
        exact v_X3_nextOld_111 hst hm hk24 h
def f_X3_nextOld_87 (k24 : Ms → Int32 → Int32 → Int32 → Option (Int32 × Ms)) (S : Ms) (x4 : Int32) (x3 : Int32) (x2 : Int32) (x1 : Int32) : Option (Int32 × Ms) :=
  f_X3_nextOld_88 k24 S x4 x3 x2 x1 (0 : Int32)
set_option maxHeartbeats 4000000 in
theorem v_X3_nextOld_87 {l : Launch} {G : Gx} (hst : l.stackTraces = false) (hm : gmo G ≠ 0) {σ0 σe : Hp} {Se : Ms} {r : Int32} {k24 : Ms → Int32 → Int32 → Int32 → Option (Int32 × Ms)} (hk24 : ∀ (S : Ms) (x3 : Int32) (x2 : Int32) (x1 : Int32), k24 S x3 x2 x1 = some (r, Se) → VV_X3_nextOld l G σ0 (.inl (some (pI r))) σe Se 24 [(3, pI x3), (2, pI x2), (1, pI x1), (0, pR (gmo G))] [] σe S) {S : Ms} {x4 : Int32} {x3 : Int32} {x2 : Int32} {x1 : Int32} (h : f_X3_nextOld_87 k24 S x4 x3 x2 x1 = some (r, Se)) : VV_X3_nextOld l G σ0 (.inl (some (pI r))) σe Se 87 [(4, pI x4), (3, pI x3), (2, pI x2), (1, pI x1), (0, pR (gmo G))] [] σe S := by
  unfold f_X3_nextOld_87 at h
  refine V_iconst (v := 0) dX3_nextOld_87 (by decide) ?_
  refine V_sub [0, 1, 2, 3, 4] rfl ?_
  exact v_X3_nextOld_88 hst hm hk24 h
def f_X3_nextOld_24_b (k24 : Ms → Int32 → Int32 → Int32 → Option (Int32 × Ms)) (S : Ms) (x3 : Int32) (x2 : Int32) (x1 : Int32) : Option (Int32 × Ms) :=
  bd (mrd S 0 149 (8 : Int32)) fun y1 => if y1 ≤ x3 then (some (x2, S)) else (bp (f_X3_of S x3 (0 : Int32)) fun y4 S5 => bp (f_X3_isFree S5 x3) fun y7 S8 => if y7 = (0 : Int32) then (f_X3_nextOld_87 k24 S8 y4 x3 x2 x1) else (if (((S8.1 16) >>> (x3 &&& 31)) &&& (1 : Int32)) = (0 : Int32) then (if (S8.1 17) < y4 then (f_X3_nextOld_87 k24 S8 y4 x3 x2 x1) else (bd (rmI ((S8.1 17) - y4) x1) fun y13 => if y13 = (0 : Int32) then (f_X3_nextOld_88 k24 S8 y4 x3 x2 x1 (1 : Int32)) else (f_X3_nextOld_87 k24 S8 y4 x3 x2 x1))) else (f_X3_nextOld_87 k24 S8 y4 x3 x2 x1)))
set_option maxHeartbeats 4000000 in
theorem v_X3_nextOld_24_b {l : Launch} {G : Gx} (hst : l.stackTraces = false) (hm : gmo G ≠ 0) {σ0 σe : Hp} {Se : Ms} {r : Int32} {k24 : Ms → Int32 → Int32 → Int32 → Option (Int32 × Ms)} (hk24 : ∀ (S : Ms) (x3 : Int32) (x2 : Int32) (x1 : Int32), k24 S x3 x2 x1 = some (r, Se) → VV_X3_nextOld l G σ0 (.inl (some (pI r))) σe Se 24 [(3, pI x3), (2, pI x2), (1, pI x1), (0, pR (gmo G))] [] σe S) {S : Ms} {x3 : Int32} {x2 : Int32} {x1 : Int32} (h : f_X3_nextOld_24_b k24 S x3 x2 x1 = some (r, Se)) : VV_X3_nextOld l G σ0 (.inl (some (pI r))) σe Se 24 [(3, pI x3), (2, pI x2), (1, pI x1), (0, pR (gmo G))] [] σe S := by
  unfold f_X3_nextOld_24_b at h
  refine V_iload_n (i := 3) 0 dX3_nextOld_24 rfl rfl ?_
  refine V_aload_n (i := 0) 3 dX3_nextOld_25 rfl rfl ?_
  refine V_mrdA hm gf_X3_7 (by decide) rfl dX3_nextOld_26 ?_
  refine V_bipush (v := 8) dX3_nextOld_29 (by decide) ?_
  obtain ⟨y1, e2, h⟩ := bd_s h
  refine V_mel hm e2 (by decide) rfl (by decide) dX3_nextOld_31 ?_
  refine V_icmp_ge 123 dX3_nextOld_32 (by decide) (fun c3 => ?_) (fun c3 => ?_)
  · replace h := it_t c3 h
    refine V_iload_n (i := 2) 1 dX3_nextOld_123 rfl rfl ?_
    cases h
    exact V_iret rfl dX3_nextOld_124
  · replace h := it_f c3 h
    refine V_aload_n (i := 0) 3 dX3_nextOld_35 rfl rfl ?_
    refine V_iload_n (i := 3) 0 dX3_nextOld_36 rfl rfl ?_
    refine V_iconst (v := 0) dX3_nextOld_37 (by decide) ?_
    obtain ⟨y4, S5, e6, h⟩ := bp_s h
    refine V_callM_v (n9 := 2) [] hm (v_X3_of l G hst hm _ e6) rfl rfl (lw_V q2106 q2108 qs34 q90 q2109) (by decide +kernel) (by decide) (Nat.le_of_ble_eq_true rfl) dX3_nextOld_38 ?_
    refine V_istore (i := 4) (L' := [(4, pI y4), (3, pI x3), (2, pI x2), (1, pI x1), (0, pR (gmo G))]) dX3_nextOld_41 (by decide) rfl ?_
    refine V_aload_n (i := 0) 4 dX3_nextOld_43 rfl rfl ?_
    refine V_iload_n (i := 3) 1 dX3_nextOld_44 rfl rfl ?_
    obtain ⟨y7, S8, e9, h⟩ := bp_s h
    refine V_callM_v (n9 := 1) [] hm (v_X3_isFree l G hst hm _ e9) rfl rfl (lw_V q2102 q2104 qs33 q90 q2105) (by decide +kernel) (by decide) (Nat.le_of_ble_eq_true rfl) dX3_nextOld_45 ?_
    refine V_if_eq 87 dX3_nextOld_48 (by decide) (fun c10 => ?_) (fun c10 => ?_)
    · replace h := it_t c10 h
      refine V_sub [0, 1, 2, 3, 4] rfl ?_
      exact v_X3_nextOld_87 hst hm hk24 h
    · replace h := it_f c10 h
      refine V_aload_n (i := 0) 4 dX3_nextOld_51 rfl rfl ?_
      refine V_mrdI hm gf_X3_230 (by decide) rfl dX3_nextOld_52 ?_
      refine V_iload_n (i := 3) 1 dX3_nextOld_55 rfl rfl ?_
      refine V_ishr dX3_nextOld_56 ?_
      refine V_iconst (v := 1) dX3_nextOld_57 (by decide) ?_
      refine V_iand dX3_nextOld_58 ?_
      refine V_if_ne 87 dX3_nextOld_59 (by decide) (fun c11 => ?_) (fun c11 => ?_)
      · replace h := it_f c11 h
        refine V_sub [0, 1, 2, 3, 4] rfl ?_
        exact v_X3_nextOld_87 hst hm hk24 h
      · replace h := it_t c11 h
        refine V_iload (i := 4) 0 dX3_nextOld_62 rfl ?_
        refine V_aload_n (i := 0) 4 dX3_nextOld_64 rfl rfl ?_
        refine V_mrdI hm gf_X3_227 (by decide) rfl dX3_nextOld_65 ?_
        refine V_icmp_gt 87 dX3_nextOld_68 (by decide) (fun c12 => ?_) (fun c12 => ?_)
        · replace h := it_t c12 h
          refine V_sub [0, 1, 2, 3, 4] rfl ?_
          exact v_X3_nextOld_87 hst hm hk24 h
        · replace h := it_f c12 h
          refine V_aload_n (i := 0) 4 dX3_nextOld_71 rfl rfl ?_
          refine V_mrdI hm gf_X3_227 (by decide) rfl dX3_nextOld_72 ?_
          refine V_iload (i := 4) 0 dX3_nextOld_75 rfl ?_
          refine V_isub dX3_nextOld_77 ?_
          refine V_iload_n (i := 1) 3 dX3_nextOld_78 rfl rfl ?_
          obtain ⟨y13, e14, h⟩ := bd_s h
          refine V_rem e14 dX3_nextOld_79 ?_
          refine V_if_ne 87 dX3_nextOld_80 (by decide) (fun c15 => ?_) (fun c15 => ?_)
          · replace h := it_f c15 h
            refine V_sub [0, 1, 2, 3, 4] rfl ?_
            exact v_X3_nextOld_87 hst hm hk24 h
          · replace h := it_t c15 h
            refine V_iconst (v := 1) dX3_nextOld_83 (by decide) ?_
            refine V_goto 88 dX3_nextOld_84 (by decide) ?_
            refine V_sub [0, 1, 2, 3, 4] rfl ?_
            exact v_X3_nextOld_88 hst hm hk24 h
def f_X3_nextOld_24 : Nat → Ms → Int32 → Int32 → Int32 → Option (Int32 × Ms)
  | 0, _, _, _, _ => none
  | n + 1, S, x3, x2, x1 => f_X3_nextOld_24_b (f_X3_nextOld_24 n) S x3 x2 x1
theorem v_X3_nextOld_24 {l : Launch} {G : Gx} (hst : l.stackTraces = false) (hm : gmo G ≠ 0) {σ0 σe : Hp} {Se : Ms} {r : Int32} : ∀ (n : Nat) (S : Ms) (x3 : Int32) (x2 : Int32) (x1 : Int32), f_X3_nextOld_24 n S x3 x2 x1 = some (r, Se) → VV_X3_nextOld l G σ0 (.inl (some (pI r))) σe Se 24 [(3, pI x3), (2, pI x2), (1, pI x1), (0, pR (gmo G))] [] σe S
  | 0, _, _, _, _, h => by cases h
  | n + 1, _, _, _, _, h => v_X3_nextOld_24_b hst hm (v_X3_nextOld_24 hst hm n) h
def f_X3_nextOld_3_b (k3 : Ms → Int32 → Option (Int32 × Ms)) (S : Ms) (x1 : Int32) : Option (Int32 × Ms) :=
  bd (rmI (S.1 17) x1) fun y1 => if y1 = (0 : Int32) then (k3 S (x1 * (10 : Int32))) else (f_X3_nextOld_24 FU S (0 : Int32) (-1 : Int32) x1)
set_option maxHeartbeats 4000000 in
theorem v_X3_nextOld_3_b {l : Launch} {G : Gx} (hst : l.stackTraces = false) (hm : gmo G ≠ 0) {σ0 σe : Hp} {Se : Ms} {r : Int32} {k3 : Ms → Int32 → Option (Int32 × Ms)} (hk3 : ∀ (S : Ms) (x1 : Int32), k3 S x1 = some (r, Se) → VV_X3_nextOld l G σ0 (.inl (some (pI r))) σe Se 3 [(1, pI x1), (0, pR (gmo G))] [] σe S) {S : Ms} {x1 : Int32} (h : f_X3_nextOld_3_b k3 S x1 = some (r, Se)) : VV_X3_nextOld l G σ0 (.inl (some (pI r))) σe Se 3 [(1, pI x1), (0, pR (gmo G))] [] σe S := by
  unfold f_X3_nextOld_3_b at h
  refine V_aload_n (i := 0) 1 dX3_nextOld_3 rfl rfl ?_
  refine V_mrdI hm gf_X3_227 (by decide) rfl dX3_nextOld_4 ?_
  refine V_iload_n (i := 1) 0 dX3_nextOld_7 rfl rfl ?_
  obtain ⟨y1, e2, h⟩ := bd_s h
  refine V_rem e2 dX3_nextOld_8 ?_
  refine V_if_ne 20 dX3_nextOld_9 (by decide) (fun c3 => ?_) (fun c3 => ?_)
  · replace h := it_f c3 h
    refine V_iconst (v := (-1)) dX3_nextOld_20 (by decide) ?_
    refine V_istore_n (i := 2) (L' := [(2, pI (-1 : Int32)), (1, pI x1), (0, pR (gmo G))]) dX3_nextOld_21 rfl (by decide) rfl ?_
    refine V_iconst (v := 0) dX3_nextOld_22 (by decide) ?_
    refine V_istore_n (i := 3) (L' := [(3, pI (0 : Int32)), (2, pI (-1 : Int32)), (1, pI x1), (0, pR (gmo G))]) dX3_nextOld_23 rfl (by decide) rfl ?_
    refine V_sub [0, 1, 2, 3] rfl ?_
    exact v_X3_nextOld_24 hst hm FU _ _ _ _ h
  · replace h := it_t c3 h
    refine V_iload_n (i := 1) 0 dX3_nextOld_12 rfl rfl ?_
    refine V_bipush (v := 10) dX3_nextOld_13 (by decide) ?_
    refine V_imul dX3_nextOld_15 ?_
    refine V_istore_n (i := 1) (L' := [(1, pI (x1 * (10 : Int32))), (0, pR (gmo G))]) dX3_nextOld_16 rfl (by decide) rfl ?_
    refine V_goto 3 dX3_nextOld_17 (by decide) ?_
    refine V_sub [0, 1] rfl ?_
    exact hk3 _ _ h
def f_X3_nextOld_3 : Nat → Ms → Int32 → Option (Int32 × Ms)
  | 0, _, _ => none
  | n + 1, S, x1 => f_X3_nextOld_3_b (f_X3_nextOld_3 n) S x1
theorem v_X3_nextOld_3 {l : Launch} {G : Gx} (hst : l.stackTraces = false) (hm : gmo G ≠ 0) {σ0 σe : Hp} {Se : Ms} {r : Int32} : ∀ (n : Nat) (S : Ms) (x1 : Int32), f_X3_nextOld_3 n S x1 = some (r, Se) → VV_X3_nextOld l G σ0 (.inl (some (pI r))) σe Se 3 [(1, pI x1), (0, pR (gmo G))] [] σe S
  | 0, _, _, h => by cases h
  | n + 1, _, _, h => v_X3_nextOld_3_b hst hm (v_X3_nextOld_3 hst hm n) h
def f_X3_nextOld (S : Ms) : Option (Int32 × Ms) :=
  f_X3_nextOld_3 FU S (10 : Int32)
set_option maxHeartbeats 4000000 in
theorem v_X3_nextOld (l : Launch) (G : Gx) (hst : l.stackTraces = false) (hm : gmo G ≠ 0) (σ : Hp) {S Se : Ms} {r : Int32} (h : f_X3_nextOld S  = some (r, Se)) : MT l G yX3_nextOld (ws_ yX3_nextOld cX3_nextOld 6 (some .int)) 3 73 [pR (gmo G)] σ S (.inl (some (pI r))) σ Se := by
  refine MT_of (own := RX3) (nL := 6) (ini := false) (by decide +kernel) rfl (Nat.le_of_ble_eq_true rfl) (fun h => by cases h) hst ?_
  show VV_X3_nextOld l G σ (.inl (some (pI r))) σ Se 0 [(0, pR (gmo G))] [] σ S
  unfold f_X3_nextOld at h
  refine V_bipush (v := 10) dX3_nextOld_0 (by decide) ?_
  refine V_istore_n (i := 1) (L' := [(1, pI (10 : Int32)), (0, pR (gmo G))]) dX3_nextOld_2 rfl (by decide) rfl ?_
  refine V_sub [0, 1] rfl ?_
  exact v_X3_nextOld_3 hst hm FU _ _ h

abbrev VV_X3_oldOf (l : Launch) (G : Gx) (σ0 : Hp) (o : Oc) (σe : Hp) (Se : Ms) := V l G RX3 cX3_oldOf 6 (some .int) [] false 4 98 σ0 o σe Se
def f_X3_oldOf_131 (S : Ms) (s0 : Int32) : Option (Int32 × Ms) :=
  some (s0, S)
set_option maxHeartbeats 4000000 in
theorem v_X3_oldOf_131 {l : Launch} {G : Gx} (hst : l.stackTraces = false) (hm : gmo G ≠ 0) {σ0 σe : Hp} {Se : Ms} {r : Int32} {S : Ms} {s0 : Int32} (h : f_X3_oldOf_131 S s0 = some (r, Se)) : VV_X3_oldOf l G σ0 (.inl (some (pI r))) σe Se 131 [] [pI s0] σe S := by
  unfold f_X3_oldOf_131 at h
  cases h
  exact V_iret rfl dX3_oldOf_131
def f_X3_oldOf_96 (S : Ms) (x3 : Int32) (x2 : Int32) : Option (Int32 × Ms) :=
  if x2 = (2 : Int32) then (f_X3_oldOf_131 S (S.1 17)) else (if (S.1 17) ≤ (0 : Int32) then (if x2 = (0 : Int32) then (f_X3_oldOf_131 S x3) else (f_X3_oldOf_131 S (S.1 16))) else (f_X3_oldOf_131 S (-1 : Int32)))
set_option maxHeartbeats 4000000 in
theorem v_X3_oldOf_96 {l : Launch} {G : Gx} (hst : l.stackTraces = false) (hm : gmo G ≠ 0) {σ0 σe : Hp} {Se : Ms} {r : Int32} {S : Ms} {x3 : Int32} {x2 : Int32} (h : f_X3_oldOf_96 S x3 x2 = some (r, Se)) : VV_X3_oldOf l G σ0 (.inl (some (pI r))) σe Se 96 [(3, pI x3), (0, pR (gmo G)), (2, pI x2)] [] σe S := by
  unfold f_X3_oldOf_96 at h
  refine V_iload_n (i := 2) 2 dX3_oldOf_96 rfl rfl ?_
  refine V_iconst (v := 2) dX3_oldOf_97 (by decide) ?_
  refine V_icmp_ne 108 dX3_oldOf_98 (by decide) (fun c1 => ?_) (fun c1 => ?_)
  · replace h := it_f c1 h
    refine V_aload_n (i := 0) 1 dX3_oldOf_108 rfl rfl ?_
    refine V_mrdI hm gf_X3_227 (by decide) rfl dX3_oldOf_109 ?_
    refine V_if_le 119 dX3_oldOf_112 (by decide) (fun c2 => ?_) (fun c2 => ?_)
    · replace h := it_t c2 h
      refine V_iload_n (i := 2) 2 dX3_oldOf_119 rfl rfl ?_
      refine V_if_ne 127 dX3_oldOf_120 (by decide) (fun c3 => ?_) (fun c3 => ?_)
      · replace h := it_f c3 h
        refine V_aload_n (i := 0) 1 dX3_oldOf_127 rfl rfl ?_
        refine V_mrdI hm gf_X3_230 (by decide) rfl dX3_oldOf_128 ?_
        refine V_sub [] rfl ?_
        exact v_X3_oldOf_131 hst hm h
      · replace h := it_t c3 h
        refine V_iload_n (i := 3) 0 dX3_oldOf_123 rfl rfl ?_
        refine V_goto 131 dX3_oldOf_124 (by decide) ?_
        refine V_sub [] rfl ?_
        exact v_X3_oldOf_131 hst hm h
    · replace h := it_f c2 h
      refine V_iconst (v := (-1)) dX3_oldOf_115 (by decide) ?_
      refine V_goto 131 dX3_oldOf_116 (by decide) ?_
      refine V_sub [] rfl ?_
      exact v_X3_oldOf_131 hst hm h
  · replace h := it_t c1 h
    refine V_aload_n (i := 0) 1 dX3_oldOf_101 rfl rfl ?_
    refine V_mrdI hm gf_X3_227 (by decide) rfl dX3_oldOf_102 ?_
    refine V_goto 131 dX3_oldOf_105 (by decide) ?_
    refine V_sub [] rfl ?_
    exact v_X3_oldOf_131 hst hm h
def f_X3_oldOf_93 (k15 : Ms → Int32 → Int32 → Int32 → Option (Int32 × Ms)) (S : Ms) (x4 : Int32) (x3 : Int32) (x2 : Int32) : Option (Int32 × Ms) :=
  k15 S x4 x3 x2
set_option maxHeartbeats 4000000 in
theorem v_X3_oldOf_93 {l : Launch} {G : Gx} (hst : l.stackTraces = false) (hm : gmo G ≠ 0) {σ0 σe : Hp} {Se : Ms} {r : Int32} {k15 : Ms → Int32 → Int32 → Int32 → Option (Int32 × Ms)} (hk15 : ∀ (S : Ms) (x4 : Int32) (x3 : Int32) (x2 : Int32), k15 S x4 x3 x2 = some (r, Se) → VV_X3_oldOf l G σ0 (.inl (some (pI r))) σe Se 15 [(4, pI x4), (3, pI x3), (0, pR (gmo G)), (2, pI x2)] [] σe S) {S : Ms} {x4 : Int32} {x3 : Int32} {x2 : Int32} (h : f_X3_oldOf_93 k15 S x4 x3 x2 = some (r, Se)) : VV_X3_oldOf l G σ0 (.inl (some (pI r))) σe Se 93 [(4, pI x4), (3, pI x3), (0, pR (gmo G)), (2, pI x2)] [] σe S := by
  unfold f_X3_oldOf_93 at h
  refine V_goto 15 dX3_oldOf_93 (by decide) ?_
  refine V_sub [0, 1, 2, 3] rfl ?_
  exact hk15 _ _ _ _ h
def f_X3_oldOf_54 (k15 : Ms → Int32 → Int32 → Int32 → Option (Int32 × Ms)) (S : Ms) (x5 : Int32) (x3 : Int32) (x2 : Int32) (s0 : Int32) : Option (Int32 × Ms) :=
  if s0 = (0 : Int32) then (f_X3_oldOf_93 k15 S s0 x3 x2) else (bp (f_X3_of (sM S 16 ((S.1 16) ||| ((1 : Int32) <<< (x5 &&& 31)))) x5 (0 : Int32)) fun y2 S3 => f_X3_oldOf_93 k15 (sM S3 17 (((sM S 16 ((S.1 16) ||| ((1 : Int32) <<< (x5 &&& 31)))).1 17) - y2)) s0 (x3 + (1 : Int32)) x2)
set_option maxHeartbeats 4000000 in
theorem v_X3_oldOf_54 {l : Launch} {G : Gx} (hst : l.stackTraces = false) (hm : gmo G ≠ 0) {σ0 σe : Hp} {Se : Ms} {r : Int32} {k15 : Ms → Int32 → Int32 → Int32 → Option (Int32 × Ms)} (hk15 : ∀ (S : Ms) (x4 : Int32) (x3 : Int32) (x2 : Int32), k15 S x4 x3 x2 = some (r, Se) → VV_X3_oldOf l G σ0 (.inl (some (pI r))) σe Se 15 [(4, pI x4), (3, pI x3), (0, pR (gmo G)), (2, pI x2)] [] σe S) {S : Ms} {x5 : Int32} {x3 : Int32} {x2 : Int32} {s0 : Int32} (h : f_X3_oldOf_54 k15 S x5 x3 x2 s0 = some (r, Se)) : VV_X3_oldOf l G σ0 (.inl (some (pI r))) σe Se 54 [(5, pI x5), (3, pI x3), (0, pR (gmo G)), (2, pI x2)] [pI s0] σe S := by
  unfold f_X3_oldOf_54 at h
  refine V_istore (i := 4) (L' := [(4, pI s0), (5, pI x5), (3, pI x3), (0, pR (gmo G)), (2, pI x2)]) dX3_oldOf_54 (by decide) rfl ?_
  refine V_iload (i := 4) 0 dX3_oldOf_56 rfl ?_
  refine V_if_eq 93 dX3_oldOf_58 (by decide) (fun c1 => ?_) (fun c1 => ?_)
  · replace h := it_t c1 h
    refine V_sub [0, 2, 3, 4] rfl ?_
    exact v_X3_oldOf_93 hst hm hk15 h
  · replace h := it_f c1 h
    refine V_aload_n (i := 0) 3 dX3_oldOf_61 rfl rfl ?_
    refine V_dup dX3_oldOf_62 rfl ?_
    refine V_mrdI hm gf_X3_230 (by decide) rfl dX3_oldOf_63 ?_
    refine V_iconst (v := 1) dX3_oldOf_66 (by decide) ?_
    refine V_iload (i := 5) 1 dX3_oldOf_67 rfl ?_
    refine V_ishl dX3_oldOf_69 ?_
    refine V_ior dX3_oldOf_70 ?_
    refine V_mput hm gw_X3_230 (by decide) rfl dX3_oldOf_71 ?_
    refine V_aload_n (i := 0) 3 dX3_oldOf_74 rfl rfl ?_
    refine V_dup dX3_oldOf_75 rfl ?_
    refine V_mrdI hm gf_X3_227 (by decide) rfl dX3_oldOf_76 ?_
    refine V_aload_n (i := 0) 3 dX3_oldOf_79 rfl rfl ?_
    refine V_iload (i := 5) 1 dX3_oldOf_80 rfl ?_
    refine V_iconst (v := 0) dX3_oldOf_82 (by decide) ?_
    obtain ⟨y2, S3, e4, h⟩ := bp_s h
    refine V_callM_v (n9 := 2) [pI ((sM S 16 ((S.1 16) ||| ((1 : Int32) <<< (x5 &&& 31)))).1 17), pR (gmo G)] hm (v_X3_of l G hst hm _ e4) rfl rfl (lw_V q2106 q2108 qs34 q90 q2109) (by decide +kernel) (by decide) (Nat.le_of_ble_eq_true rfl) dX3_oldOf_83 ?_
    refine V_isub dX3_oldOf_86 ?_
    refine V_mput hm gw_X3_227 (by decide) rfl dX3_oldOf_87 ?_
    refine V_iinc (v := (x3 + (1 : Int32))) (L' := [(3, pI (x3 + (1 : Int32))), (4, pI s0), (5, pI x5), (0, pR (gmo G)), (2, pI x2)]) 2 dX3_oldOf_90 rfl rfl (by decide) rfl ?_
    refine V_sub [1, 0, 3, 4] rfl ?_
    exact v_X3_oldOf_93 hst hm hk15 h
def f_X3_oldOf_41 (k15 : Ms → Int32 → Int32 → Int32 → Option (Int32 × Ms)) (S : Ms) (x3 : Int32) (x2 : Int32) (s0 : Int32) : Option (Int32 × Ms) :=
  if s0 = (-1 : Int32) then (f_X3_oldOf_54 k15 S s0 x3 x2 (0 : Int32)) else (f_X3_oldOf_54 k15 S s0 x3 x2 (1 : Int32))
set_option maxHeartbeats 4000000 in
theorem v_X3_oldOf_41 {l : Launch} {G : Gx} (hst : l.stackTraces = false) (hm : gmo G ≠ 0) {σ0 σe : Hp} {Se : Ms} {r : Int32} {k15 : Ms → Int32 → Int32 → Int32 → Option (Int32 × Ms)} (hk15 : ∀ (S : Ms) (x4 : Int32) (x3 : Int32) (x2 : Int32), k15 S x4 x3 x2 = some (r, Se) → VV_X3_oldOf l G σ0 (.inl (some (pI r))) σe Se 15 [(4, pI x4), (3, pI x3), (0, pR (gmo G)), (2, pI x2)] [] σe S) {S : Ms} {x3 : Int32} {x2 : Int32} {s0 : Int32} (h : f_X3_oldOf_41 k15 S x3 x2 s0 = some (r, Se)) : VV_X3_oldOf l G σ0 (.inl (some (pI r))) σe Se 41 [(3, pI x3), (0, pR (gmo G)), (2, pI x2)] [pI s0] σe S := by
  unfold f_X3_oldOf_41 at h
  refine V_istore (i := 5) (L' := [(5, pI s0), (3, pI x3), (0, pR (gmo G)), (2, pI x2)]) dX3_oldOf_41 (by decide) rfl ?_
  refine V_iload (i := 5) 0 dX3_oldOf_43 rfl ?_
  refine V_iconst (v := (-1)) dX3_oldOf_45 (by decide) ?_
  refine V_icmp_eq 53 dX3_oldOf_46 (by decide) (fun c1 => ?_) (fun c1 => ?_)
  · replace h := it_t c1 h
    refine V_iconst (v := 0) dX3_oldOf_53 (by decide) ?_
    refine V_sub [0, 1, 2, 3] rfl ?_
    exact v_X3_oldOf_54 hst hm hk15 h
  · replace h := it_f c1 h
    refine V_iconst (v := 1) dX3_oldOf_49 (by decide) ?_
    refine V_goto 54 dX3_oldOf_50 (by decide) ?_
    refine V_sub [0, 1, 2, 3] rfl ?_
    exact v_X3_oldOf_54 hst hm hk15 h
def f_X3_oldOf_15_b (k15 : Ms → Int32 → Int32 → Int32 → Option (Int32 × Ms)) (S : Ms) (x4 : Int32) (x3 : Int32) (x2 : Int32) : Option (Int32 × Ms) :=
  if (S.1 17) ≤ (0 : Int32) then (f_X3_oldOf_96 S x3 x2) else (if x4 = (0 : Int32) then (f_X3_oldOf_96 S x3 x2) else (if (6 : Int32) ≤ x3 then (f_X3_oldOf_41 k15 S x3 x2 (-1 : Int32)) else (bp (f_X3_nextOld S ) fun y4 S5 => f_X3_oldOf_41 k15 S5 x3 x2 y4)))
set_option maxHeartbeats 4000000 in
theorem v_X3_oldOf_15_b {l : Launch} {G : Gx} (hst : l.stackTraces = false) (hm : gmo G ≠ 0) {σ0 σe : Hp} {Se : Ms} {r : Int32} {k15 : Ms → Int32 → Int32 → Int32 → Option (Int32 × Ms)} (hk15 : ∀ (S : Ms) (x4 : Int32) (x3 : Int32) (x2 : Int32), k15 S x4 x3 x2 = some (r, Se) → VV_X3_oldOf l G σ0 (.inl (some (pI r))) σe Se 15 [(4, pI x4), (3, pI x3), (0, pR (gmo G)), (2, pI x2)] [] σe S) {S : Ms} {x4 : Int32} {x3 : Int32} {x2 : Int32} (h : f_X3_oldOf_15_b k15 S x4 x3 x2 = some (r, Se)) : VV_X3_oldOf l G σ0 (.inl (some (pI r))) σe Se 15 [(4, pI x4), (3, pI x3), (0, pR (gmo G)), (2, pI x2)] [] σe S := by
  unfold f_X3_oldOf_15_b at h
  refine V_aload_n (i := 0) 2 dX3_oldOf_15 rfl rfl ?_
  refine V_mrdI hm gf_X3_227 (by decide) rfl dX3_oldOf_16 ?_
  refine V_if_le 96 dX3_oldOf_19 (by decide) (fun c1 => ?_) (fun c1 => ?_)
  · replace h := it_t c1 h
    refine V_sub [1, 2, 3] rfl ?_
    exact v_X3_oldOf_96 hst hm h
  · replace h := it_f c1 h
    refine V_iload (i := 4) 0 dX3_oldOf_22 rfl ?_
    refine V_if_eq 96 dX3_oldOf_24 (by decide) (fun c2 => ?_) (fun c2 => ?_)
    · replace h := it_t c2 h
      refine V_sub [1, 2, 3] rfl ?_
      exact v_X3_oldOf_96 hst hm h
    · replace h := it_f c2 h
      refine V_iload_n (i := 3) 1 dX3_oldOf_27 rfl rfl ?_
      refine V_bipush (v := 6) dX3_oldOf_28 (by decide) ?_
      refine V_icmp_ge 40 dX3_oldOf_30 (by decide) (fun c3 => ?_) (fun c3 => ?_)
      · replace h := it_t c3 h
        refine V_iconst (v := (-1)) dX3_oldOf_40 (by decide) ?_
        refine V_sub [1, 2, 3] rfl ?_
        exact v_X3_oldOf_41 hst hm hk15 h
      · replace h := it_f c3 h
        refine V_aload_n (i := 0) 2 dX3_oldOf_33 rfl rfl ?_
        obtain ⟨y4, S5, e6, h⟩ := bp_s h
        refine V_callM_v (n9 := 0) [] hm (v_X3_nextOld l G hst hm _ e6) rfl rfl (lw_V q2364 q2366 qs73 q90 q2367) (by decide +kernel) (by decide) (Nat.le_of_ble_eq_true rfl) dX3_oldOf_34 ?_
        refine V_goto 41 dX3_oldOf_37 (by decide) ?_
        refine V_sub [1, 2, 3] rfl ?_
        exact v_X3_oldOf_41 hst hm hk15 h
def f_X3_oldOf_15 : Nat → Ms → Int32 → Int32 → Int32 → Option (Int32 × Ms)
  | 0, _, _, _, _ => none
  | n + 1, S, x4, x3, x2 => f_X3_oldOf_15_b (f_X3_oldOf_15 n) S x4 x3 x2
theorem v_X3_oldOf_15 {l : Launch} {G : Gx} (hst : l.stackTraces = false) (hm : gmo G ≠ 0) {σ0 σe : Hp} {Se : Ms} {r : Int32} : ∀ (n : Nat) (S : Ms) (x4 : Int32) (x3 : Int32) (x2 : Int32), f_X3_oldOf_15 n S x4 x3 x2 = some (r, Se) → VV_X3_oldOf l G σ0 (.inl (some (pI r))) σe Se 15 [(4, pI x4), (3, pI x3), (0, pR (gmo G)), (2, pI x2)] [] σe S
  | 0, _, _, _, _, h => by cases h
  | n + 1, _, _, _, _, h => v_X3_oldOf_15_b hst hm (v_X3_oldOf_15 hst hm n) h
def f_X3_oldOf (S : Ms) (x1 : Int32) (x2 : Int32) : Option (Int32 × Ms) :=
  f_X3_oldOf_15 FU (sM (sM S 16 (0 : Int32)) 17 x1) (1 : Int32) (0 : Int32) x2
set_option maxHeartbeats 4000000 in
theorem v_X3_oldOf (l : Launch) (G : Gx) (hst : l.stackTraces = false) (hm : gmo G ≠ 0) (σ : Hp) {S Se : Ms} {x1 : Int32} {x2 : Int32} {r : Int32} (h : f_X3_oldOf S x1 x2 = some (r, Se)) : MT l G yX3_oldOf (ws_ yX3_oldOf cX3_oldOf 6 (some .int)) 4 98 [pR (gmo G), pI x1, pI x2] σ S (.inl (some (pI r))) σ Se := by
  refine MT_of (own := RX3) (nL := 6) (ini := false) (by decide +kernel) rfl (Nat.le_of_ble_eq_true rfl) (fun h => by cases h) hst ?_
  show VV_X3_oldOf l G σ (.inl (some (pI r))) σ Se 0 [(0, pR (gmo G)), (1, pI x1), (2, pI x2)] [] σ S
  unfold f_X3_oldOf at h
  refine V_aload_n (i := 0) 0 dX3_oldOf_0 rfl rfl ?_
  refine V_iconst (v := 0) dX3_oldOf_1 (by decide) ?_
  refine V_mput hm gw_X3_230 (by decide) rfl dX3_oldOf_2 ?_
  refine V_aload_n (i := 0) 0 dX3_oldOf_5 rfl rfl ?_
  refine V_iload_n (i := 1) 1 dX3_oldOf_6 rfl rfl ?_
  refine V_mput hm gw_X3_227 (by decide) rfl dX3_oldOf_7 ?_
  refine V_iconst (v := 0) dX3_oldOf_10 (by decide) ?_
  refine V_istore_n (i := 3) (L' := [(3, pI (0 : Int32)), (0, pR (gmo G)), (1, pI x1), (2, pI x2)]) dX3_oldOf_11 rfl (by decide) rfl ?_
  refine V_iconst (v := 1) dX3_oldOf_12 (by decide) ?_
  refine V_istore (i := 4) (L' := [(4, pI (1 : Int32)), (3, pI (0 : Int32)), (0, pR (gmo G)), (1, pI x1), (2, pI x2)]) dX3_oldOf_13 (by decide) rfl ?_
  refine V_sub [0, 1, 2, 4] rfl ?_
  exact v_X3_oldOf_15 hst hm FU _ _ _ _ h

abbrev VV_X3_oldWay (l : Launch) (G : Gx) (σ0 : Hp) (o : Oc) (σe : Hp) (Se : Ms) := V l G RX3 cX3_oldWay 3 (some .int) [] false 5 123 σ0 o σe Se
def f_X3_oldWay_35 (S : Ms) (s0 : Int32) : Option (Int32 × Ms) :=
  some (s0, S)
set_option maxHeartbeats 4000000 in
theorem v_X3_oldWay_35 {l : Launch} {G : Gx} (hst : l.stackTraces = false) (hm : gmo G ≠ 0) {σ0 σe : Hp} {Se : Ms} {r : Int32} {S : Ms} {s0 : Int32} (h : f_X3_oldWay_35 S s0 = some (r, Se)) : VV_X3_oldWay l G σ0 (.inl (some (pI r))) σe Se 35 [] [pI s0] σe S := by
  unfold f_X3_oldWay_35 at h
  cases h
  exact V_iret rfl dX3_oldWay_35
def f_X3_oldWay_30 (S : Ms) : Option (Int32 × Ms) :=
  bp (f_X3_fails S (1 : Int32)) fun y1 S2 => f_X3_oldWay_35 S2 y1
set_option maxHeartbeats 4000000 in
theorem v_X3_oldWay_30 {l : Launch} {G : Gx} (hst : l.stackTraces = false) (hm : gmo G ≠ 0) {σ0 σe : Hp} {Se : Ms} {r : Int32} {S : Ms} (h : f_X3_oldWay_30 S  = some (r, Se)) : VV_X3_oldWay l G σ0 (.inl (some (pI r))) σe Se 30 [(0, pR (gmo G))] [] σe S := by
  unfold f_X3_oldWay_30 at h
  refine V_aload_n (i := 0) 0 dX3_oldWay_30 rfl rfl ?_
  refine V_iconst (v := 1) dX3_oldWay_31 (by decide) ?_
  obtain ⟨y1, S2, e3, h⟩ := bp_s h
  refine V_callM_v (n9 := 1) [] hm (v_X3_fails l G hst hm _ e3) rfl rfl (lw_V q2062 q2064 qs28 q90 q2065) (by decide +kernel) (by decide) (Nat.le_of_ble_eq_true rfl) dX3_oldWay_32 ?_
  refine V_sub [] rfl ?_
  exact v_X3_oldWay_35 hst hm h
def f_X3_oldWay (S : Ms) (x1 : Int32) (x2 : Int32) : Option (Int32 × Ms) :=
  bd (f_X3_isLength x1) fun y1 => if y1 = (0 : Int32) then (f_X3_oldWay_30 (sM S 5 (0 : Int32)) ) else (bd (f_X3_in x2 (0 : Int32) (2 : Int32)) fun y4 => if y4 = (0 : Int32) then (f_X3_oldWay_30 (sM S 5 (0 : Int32)) ) else (bp (f_X3_oldOf (sM S 5 (0 : Int32)) x1 x2) fun y7 S8 => f_X3_oldWay_35 S8 y7))
set_option maxHeartbeats 4000000 in
theorem v_X3_oldWay (l : Launch) (G : Gx) (hst : l.stackTraces = false) (hm : gmo G ≠ 0) (σ : Hp) {S Se : Ms} {x1 : Int32} {x2 : Int32} {r : Int32} (h : f_X3_oldWay S x1 x2 = some (r, Se)) : MT l G yX3_oldWay (ws_ yX3_oldWay cX3_oldWay 3 (some .int)) 5 123 [pR (gmo G), pI x1, pI x2] σ S (.inl (some (pI r))) σ Se := by
  refine MT_of (own := RX3) (nL := 3) (ini := false) (by decide +kernel) rfl (Nat.le_of_ble_eq_true rfl) (fun h => by cases h) hst ?_
  show VV_X3_oldWay l G σ (.inl (some (pI r))) σ Se 0 [(0, pR (gmo G)), (1, pI x1), (2, pI x2)] [] σ S
  unfold f_X3_oldWay at h
  refine V_aload_n (i := 0) 0 dX3_oldWay_0 rfl rfl ?_
  refine V_iconst (v := 0) dX3_oldWay_1 (by decide) ?_
  refine V_mput hm gw_X3_38 (by decide) rfl dX3_oldWay_2 ?_
  refine V_iload_n (i := 1) 1 dX3_oldWay_5 rfl rfl ?_
  obtain ⟨y1, e2, h⟩ := bd_s h
  refine V_callS_v (n9 := 1) [] (v_X3_isLength l G hst _ _ e2) rfl rfl (lw_S q2194 q2195 q90 q2196) (by decide +kernel) (by decide) (Nat.le_of_ble_eq_true rfl) dX3_oldWay_6 ?_
  refine V_if_eq 30 dX3_oldWay_9 (by decide) (fun c3 => ?_) (fun c3 => ?_)
  · replace h := it_t c3 h
    refine V_sub [0] rfl ?_
    exact v_X3_oldWay_30 hst hm h
  · replace h := it_f c3 h
    refine V_iload_n (i := 2) 2 dX3_oldWay_12 rfl rfl ?_
    refine V_iconst (v := 0) dX3_oldWay_13 (by decide) ?_
    refine V_iconst (v := 2) dX3_oldWay_14 (by decide) ?_
    obtain ⟨y4, e5, h⟩ := bd_s h
    refine V_callS_v (n9 := 3) [] (v_X3_in l G hst _ _ e5) rfl rfl (lw_S q2070 q2071 q90 q2072) (by decide +kernel) (by decide) (Nat.le_of_ble_eq_true rfl) dX3_oldWay_15 ?_
    refine V_if_eq 30 dX3_oldWay_18 (by decide) (fun c6 => ?_) (fun c6 => ?_)
    · replace h := it_t c6 h
      refine V_sub [0] rfl ?_
      exact v_X3_oldWay_30 hst hm h
    · replace h := it_f c6 h
      refine V_aload_n (i := 0) 0 dX3_oldWay_21 rfl rfl ?_
      refine V_iload_n (i := 1) 1 dX3_oldWay_22 rfl rfl ?_
      refine V_iload_n (i := 2) 2 dX3_oldWay_23 rfl rfl ?_
      obtain ⟨y7, S8, e9, h⟩ := bp_s h
      refine V_callM_v (n9 := 2) [] hm (v_X3_oldOf l G hst hm _ e9) rfl rfl (lw_V q2360 q2362 qs72 q90 q2363) (by decide +kernel) (by decide) (Nat.le_of_ble_eq_true rfl) dX3_oldWay_24 ?_
      refine V_goto 35 dX3_oldWay_27 (by decide) ?_
      refine V_sub [] rfl ?_
      exact v_X3_oldWay_35 hst hm h

abbrev VV_X3_nearer (l : Launch) (G : Gx) (σ0 : Hp) (o : Oc) (σe : Hp) (Se : Ms) := V l G RX3 cX3_nearer 4 (some .int) [] false 2 50 σ0 o σe Se
def f_X3_nearer_37 (s0 : Int32) : Option Int32 :=
  some s0
set_option maxHeartbeats 4000000 in
theorem v_X3_nearer_37 {l : Launch} {G : Gx} (hst : l.stackTraces = false) {σ0 σe : Hp} {Se : Ms} {r : Int32} {s0 : Int32} (h : f_X3_nearer_37 s0 = some r) : VV_X3_nearer l G σ0 (.inl (some (pI r))) σe Se 37 [] [pI s0] σe Se := by
  unfold f_X3_nearer_37 at h
  cases h
  exact V_iret rfl dX3_nearer_37
def f_X3_nearer_32 (x1 : Int32) : Option Int32 :=
  f_X3_nearer_37 x1
set_option maxHeartbeats 4000000 in
theorem v_X3_nearer_32 {l : Launch} {G : Gx} (hst : l.stackTraces = false) {σ0 σe : Hp} {Se : Ms} {r : Int32} {x1 : Int32} (h : f_X3_nearer_32 x1 = some r) : VV_X3_nearer l G σ0 (.inl (some (pI r))) σe Se 32 [(1, pI x1)] [] σe Se := by
  unfold f_X3_nearer_32 at h
  refine V_iload_n (i := 1) 0 dX3_nearer_32 rfl rfl ?_
  refine V_goto 37 dX3_nearer_33 (by decide) ?_
  refine V_sub [] rfl ?_
  exact v_X3_nearer_37 hst h
def f_X3_nearer_36 (x0 : Int32) : Option Int32 :=
  f_X3_nearer_37 x0
set_option maxHeartbeats 4000000 in
theorem v_X3_nearer_36 {l : Launch} {G : Gx} (hst : l.stackTraces = false) {σ0 σe : Hp} {Se : Ms} {r : Int32} {x0 : Int32} (h : f_X3_nearer_36 x0 = some r) : VV_X3_nearer l G σ0 (.inl (some (pI r))) σe Se 36 [(0, pI x0)] [] σe Se := by
  unfold f_X3_nearer_36 at h
  refine V_iload_n (i := 0) 0 dX3_nearer_36 rfl rfl ?_
  refine V_sub [] rfl ?_
  exact v_X3_nearer_37 hst h
def f_X3_nearer (x0 : Int32) (x1 : Int32) (x2 : Int32) : Option Int32 :=
  bd (f_X3_size (x1 - x2)) fun y1 => bd (f_X3_size (x0 - x2)) fun y3 => if x0 = (-1 : Int32) then (f_X3_nearer_32 x1) else (if (y1 - y3) < (0 : Int32) then (f_X3_nearer_32 x1) else (if (y1 - y3) = (0 : Int32) then (if x0 ≤ x1 then (f_X3_nearer_36 x0) else (f_X3_nearer_32 x1)) else (f_X3_nearer_36 x0)))
set_option maxHeartbeats 4000000 in
theorem v_X3_nearer (l : Launch) (G : Gx) (hst : l.stackTraces = false) (σ : Hp) (S : Ms) {x0 : Int32} {x1 : Int32} {x2 : Int32} {r : Int32} (h : f_X3_nearer x0 x1 x2 = some r) : MT l G yX3_nearer (ws_ yX3_nearer cX3_nearer 4 (some .int)) 2 50 [pI x0, pI x1, pI x2] σ S (.inl (some (pI r))) σ S := by
  refine MT_of (own := RX3) (nL := 4) (ini := false) (by decide +kernel) rfl (Nat.le_of_ble_eq_true rfl) (fun h => by cases h) hst ?_
  show VV_X3_nearer l G σ (.inl (some (pI r))) σ S 0 [(0, pI x0), (1, pI x1), (2, pI x2)] [] σ S
  unfold f_X3_nearer at h
  refine V_iload_n (i := 1) 1 dX3_nearer_0 rfl rfl ?_
  refine V_iload_n (i := 2) 2 dX3_nearer_1 rfl rfl ?_
  refine V_isub dX3_nearer_2 ?_
  obtain ⟨y1, e2, h⟩ := bd_s h
  refine V_callS_v (n9 := 1) [] (v_X3_size l G hst _ _ e2) rfl rfl (lw_S q2122 q2123 q90 q2124) (by decide +kernel) (by decide) (Nat.le_of_ble_eq_true rfl) dX3_nearer_3 ?_
  refine V_iload_n (i := 0) 0 dX3_nearer_6 rfl rfl ?_
  refine V_iload_n (i := 2) 2 dX3_nearer_7 rfl rfl ?_
  refine V_isub dX3_nearer_8 ?_
  obtain ⟨y3, e4, h⟩ := bd_s h
  refine V_callS_v (n9 := 1) [pI y1] (v_X3_size l G hst _ _ e4) rfl rfl (lw_S q2122 q2123 q90 q2124) (by decide +kernel) (by decide) (Nat.le_of_ble_eq_true rfl) dX3_nearer_9 ?_
  refine V_isub dX3_nearer_12 ?_
  refine V_istore_n (i := 3) (L' := [(3, pI (y1 - y3)), (0, pI x0), (1, pI x1), (2, pI x2)]) dX3_nearer_13 rfl (by decide) rfl ?_
  refine V_iload_n (i := 0) 1 dX3_nearer_14 rfl rfl ?_
  refine V_iconst (v := (-1)) dX3_nearer_15 (by decide) ?_
  refine V_icmp_eq 32 dX3_nearer_16 (by decide) (fun c5 => ?_) (fun c5 => ?_)
  · replace h := it_t c5 h
    refine V_sub [2] rfl ?_
    exact v_X3_nearer_32 hst h
  · replace h := it_f c5 h
    refine V_iload_n (i := 3) 0 dX3_nearer_19 rfl rfl ?_
    refine V_if_lt 32 dX3_nearer_20 (by decide) (fun c6 => ?_) (fun c6 => ?_)
    · replace h := it_t c6 h
      refine V_sub [2] rfl ?_
      exact v_X3_nearer_32 hst h
    · replace h := it_f c6 h
      refine V_iload_n (i := 3) 0 dX3_nearer_23 rfl rfl ?_
      refine V_if_ne 36 dX3_nearer_24 (by decide) (fun c7 => ?_) (fun c7 => ?_)
      · replace h := it_f c7 h
        refine V_sub [1] rfl ?_
        exact v_X3_nearer_36 hst h
      · replace h := it_t c7 h
        refine V_iload_n (i := 1) 2 dX3_nearer_27 rfl rfl ?_
        refine V_iload_n (i := 0) 1 dX3_nearer_28 rfl rfl ?_
        refine V_icmp_ge 36 dX3_nearer_29 (by decide) (fun c8 => ?_) (fun c8 => ?_)
        · replace h := it_t c8 h
          refine V_sub [1] rfl ?_
          exact v_X3_nearer_36 hst h
        · replace h := it_f c8 h
          refine V_sub [2] rfl ?_
          exact v_X3_nearer_32 hst h

abbrev VV_X3_nearestTo (l : Launch) (G : Gx) (σ0 : Hp) (o : Oc) (σe : Hp) (Se : Ms) := V l G RX3 cX3_nearestTo 5 (some .int) [] false 4 94 σ0 o σe Se
def f_X3_nearestTo_36_b (k8 : Ms → Int32 → Int32 → Int32 → Option (Int32 × Ms)) (k36 : Ms → Int32 → Int32 → Int32 → Int32 → Option (Int32 × Ms)) (S : Ms) (x4 : Int32) (x2 : Int32) (x3 : Int32) (x1 : Int32) : Option (Int32 × Ms) :=
  if x3 ≤ x4 then (k8 S (x3 + (1 : Int32)) x2 x1) else (bd (mrd S 6 20 x3) fun y2 => bp (f_X3_of S y2 (0 : Int32)) fun y4 S5 => bd (mrd S5 6 20 x4) fun y7 => bp (f_X3_of S5 y7 (0 : Int32)) fun y9 S10 => bd (f_X3_nearer x2 (y4 + y9) x1) fun y12 => k36 S10 (x4 + (1 : Int32)) y12 x3 x1)
set_option maxHeartbeats 4000000 in
theorem v_X3_nearestTo_36_b {l : Launch} {G : Gx} (hst : l.stackTraces = false) (hm : gmo G ≠ 0) {σ0 σe : Hp} {Se : Ms} {r : Int32} {k8 : Ms → Int32 → Int32 → Int32 → Option (Int32 × Ms)} {k36 : Ms → Int32 → Int32 → Int32 → Int32 → Option (Int32 × Ms)} (hk8 : ∀ (S : Ms) (x3 : Int32) (x2 : Int32) (x1 : Int32), k8 S x3 x2 x1 = some (r, Se) → VV_X3_nearestTo l G σ0 (.inl (some (pI r))) σe Se 8 [(3, pI x3), (2, pI x2), (0, pR (gmo G)), (1, pI x1)] [] σe S) (hk36 : ∀ (S : Ms) (x4 : Int32) (x2 : Int32) (x3 : Int32) (x1 : Int32), k36 S x4 x2 x3 x1 = some (r, Se) → VV_X3_nearestTo l G σ0 (.inl (some (pI r))) σe Se 36 [(4, pI x4), (2, pI x2), (3, pI x3), (0, pR (gmo G)), (1, pI x1)] [] σe S) {S : Ms} {x4 : Int32} {x2 : Int32} {x3 : Int32} {x1 : Int32} (h : f_X3_nearestTo_36_b k8 k36 S x4 x2 x3 x1 = some (r, Se)) : VV_X3_nearestTo l G σ0 (.inl (some (pI r))) σe Se 36 [(4, pI x4), (2, pI x2), (3, pI x3), (0, pR (gmo G)), (1, pI x1)] [] σe S := by
  unfold f_X3_nearestTo_36_b at h
  refine V_iload (i := 4) 0 dX3_nearestTo_36 rfl ?_
  refine V_iload_n (i := 3) 2 dX3_nearestTo_38 rfl rfl ?_
  refine V_icmp_ge 78 dX3_nearestTo_39 (by decide) (fun c1 => ?_) (fun c1 => ?_)
  · replace h := it_t c1 h
    refine V_iinc (v := (x3 + (1 : Int32))) (L' := [(3, pI (x3 + (1 : Int32))), (4, pI x4), (2, pI x2), (0, pR (gmo G)), (1, pI x1)]) 2 dX3_nearestTo_78 rfl rfl (by decide) rfl ?_
    refine V_goto 8 dX3_nearestTo_81 (by decide) ?_
    refine V_sub [0, 2, 3, 4] rfl ?_
    exact hk8 _ _ _ _ h
  · replace h := it_f c1 h
    refine V_iload_n (i := 2) 1 dX3_nearestTo_42 rfl rfl ?_
    refine V_aload_n (i := 0) 3 dX3_nearestTo_43 rfl rfl ?_
    refine V_aload_n (i := 0) 3 dX3_nearestTo_44 rfl rfl ?_
    refine V_mrdA hm gf_X3_23 (by decide) rfl dX3_nearestTo_45 ?_
    refine V_iload_n (i := 3) 2 dX3_nearestTo_48 rfl rfl ?_
    obtain ⟨y2, e3, h⟩ := bd_s h
    refine V_mel hm e3 (by decide) rfl (by decide) dX3_nearestTo_49 ?_
    refine V_iconst (v := 0) dX3_nearestTo_50 (by decide) ?_
    obtain ⟨y4, S5, e6, h⟩ := bp_s h
    refine V_callM_v (n9 := 2) [pI x2] hm (v_X3_of l G hst hm _ e6) rfl rfl (lw_V q2106 q2108 qs34 q90 q2109) (by decide +kernel) (by decide) (Nat.le_of_ble_eq_true rfl) dX3_nearestTo_51 ?_
    refine V_aload_n (i := 0) 3 dX3_nearestTo_54 rfl rfl ?_
    refine V_aload_n (i := 0) 3 dX3_nearestTo_55 rfl rfl ?_
    refine V_mrdA hm gf_X3_23 (by decide) rfl dX3_nearestTo_56 ?_
    refine V_iload (i := 4) 0 dX3_nearestTo_59 rfl ?_
    obtain ⟨y7, e8, h⟩ := bd_s h
    refine V_mel hm e8 (by decide) rfl (by decide) dX3_nearestTo_61 ?_
    refine V_iconst (v := 0) dX3_nearestTo_62 (by decide) ?_
    obtain ⟨y9, S10, e11, h⟩ := bp_s h
    refine V_callM_v (n9 := 2) [pI y4, pI x2] hm (v_X3_of l G hst hm _ e11) rfl rfl (lw_V q2106 q2108 qs34 q90 q2109) (by decide +kernel) (by decide) (Nat.le_of_ble_eq_true rfl) dX3_nearestTo_63 ?_
    refine V_iadd dX3_nearestTo_66 ?_
    refine V_iload_n (i := 1) 4 dX3_nearestTo_67 rfl rfl ?_
    obtain ⟨y12, e13, h⟩ := bd_s h
    refine V_callS_v (n9 := 3) [] (v_X3_nearer l G hst _ _ e13) rfl rfl (lw_S q2376 q2377 q90 q2378) (by decide +kernel) (by decide) (Nat.le_of_ble_eq_true rfl) dX3_nearestTo_68 ?_
    refine V_istore_n (i := 2) (L' := [(2, pI y12), (4, pI x4), (3, pI x3), (0, pR (gmo G)), (1, pI x1)]) dX3_nearestTo_71 rfl (by decide) rfl ?_
    refine V_iinc (v := (x4 + (1 : Int32))) (L' := [(4, pI (x4 + (1 : Int32))), (2, pI y12), (3, pI x3), (0, pR (gmo G)), (1, pI x1)]) 1 dX3_nearestTo_72 rfl rfl (by decide) rfl ?_
    refine V_goto 36 dX3_nearestTo_75 (by decide) ?_
    refine V_sub [0, 1, 2, 3, 4] rfl ?_
    exact hk36 _ _ _ _ _ h
def f_X3_nearestTo_36 (k8 : Ms → Int32 → Int32 → Int32 → Option (Int32 × Ms)) : Nat → Ms → Int32 → Int32 → Int32 → Int32 → Option (Int32 × Ms)
  | 0, _, _, _, _, _ => none
  | n + 1, S, x4, x2, x3, x1 => f_X3_nearestTo_36_b k8 (f_X3_nearestTo_36 k8 n) S x4 x2 x3 x1
theorem v_X3_nearestTo_36 {l : Launch} {G : Gx} (hst : l.stackTraces = false) (hm : gmo G ≠ 0) {σ0 σe : Hp} {Se : Ms} {r : Int32} {k8 : Ms → Int32 → Int32 → Int32 → Option (Int32 × Ms)} (hk8 : ∀ (S : Ms) (x3 : Int32) (x2 : Int32) (x1 : Int32), k8 S x3 x2 x1 = some (r, Se) → VV_X3_nearestTo l G σ0 (.inl (some (pI r))) σe Se 8 [(3, pI x3), (2, pI x2), (0, pR (gmo G)), (1, pI x1)] [] σe S) : ∀ (n : Nat) (S : Ms) (x4 : Int32) (x2 : Int32) (x3 : Int32) (x1 : Int32), f_X3_nearestTo_36 k8 n S x4 x2 x3 x1 = some (r, Se) → VV_X3_nearestTo l G σ0 (.inl (some (pI r))) σe Se 36 [(4, pI x4), (2, pI x2), (3, pI x3), (0, pR (gmo G)), (1, pI x1)] [] σe S
  | 0, _, _, _, _, _, h => by cases h
  | n + 1, _, _, _, _, _, h => v_X3_nearestTo_36_b hst hm hk8 (v_X3_nearestTo_36 hst hm hk8 n) h
def f_X3_nearestTo_8_b (k8 : Ms → Int32 → Int32 → Int32 → Option (Int32 × Ms)) (S : Ms) (x3 : Int32) (x2 : Int32) (x1 : Int32) : Option (Int32 × Ms) :=
  if (S.1 7) ≤ x3 then (some (x2, S)) else (bd (mrd S 6 20 x3) fun y2 => bp (f_X3_of S y2 (0 : Int32)) fun y4 S5 => bd (f_X3_nearer x2 y4 x1) fun y7 => f_X3_nearestTo_36 k8 FU S5 (0 : Int32) y7 x3 x1)
set_option maxHeartbeats 4000000 in
theorem v_X3_nearestTo_8_b {l : Launch} {G : Gx} (hst : l.stackTraces = false) (hm : gmo G ≠ 0) {σ0 σe : Hp} {Se : Ms} {r : Int32} {k8 : Ms → Int32 → Int32 → Int32 → Option (Int32 × Ms)} (hk8 : ∀ (S : Ms) (x3 : Int32) (x2 : Int32) (x1 : Int32), k8 S x3 x2 x1 = some (r, Se) → VV_X3_nearestTo l G σ0 (.inl (some (pI r))) σe Se 8 [(3, pI x3), (2, pI x2), (0, pR (gmo G)), (1, pI x1)] [] σe S) {S : Ms} {x3 : Int32} {x2 : Int32} {x1 : Int32} (h : f_X3_nearestTo_8_b k8 S x3 x2 x1 = some (r, Se)) : VV_X3_nearestTo l G σ0 (.inl (some (pI r))) σe Se 8 [(3, pI x3), (2, pI x2), (0, pR (gmo G)), (1, pI x1)] [] σe S := by
  unfold f_X3_nearestTo_8_b at h
  refine V_iload_n (i := 3) 0 dX3_nearestTo_8 rfl rfl ?_
  refine V_aload_n (i := 0) 2 dX3_nearestTo_9 rfl rfl ?_
  refine V_mrdI hm gf_X3_97 (by decide) rfl dX3_nearestTo_10 ?_
  refine V_icmp_ge 84 dX3_nearestTo_13 (by decide) (fun c1 => ?_) (fun c1 => ?_)
  · replace h := it_t c1 h
    refine V_iload_n (i := 2) 1 dX3_nearestTo_84 rfl rfl ?_
    cases h
    exact V_iret rfl dX3_nearestTo_85
  · replace h := it_f c1 h
    refine V_iload_n (i := 2) 1 dX3_nearestTo_16 rfl rfl ?_
    refine V_aload_n (i := 0) 2 dX3_nearestTo_17 rfl rfl ?_
    refine V_aload_n (i := 0) 2 dX3_nearestTo_18 rfl rfl ?_
    refine V_mrdA hm gf_X3_23 (by decide) rfl dX3_nearestTo_19 ?_
    refine V_iload_n (i := 3) 0 dX3_nearestTo_22 rfl rfl ?_
    obtain ⟨y2, e3, h⟩ := bd_s h
    refine V_mel hm e3 (by decide) rfl (by decide) dX3_nearestTo_23 ?_
    refine V_iconst (v := 0) dX3_nearestTo_24 (by decide) ?_
    obtain ⟨y4, S5, e6, h⟩ := bp_s h
    refine V_callM_v (n9 := 2) [pI x2] hm (v_X3_of l G hst hm _ e6) rfl rfl (lw_V q2106 q2108 qs34 q90 q2109) (by decide +kernel) (by decide) (Nat.le_of_ble_eq_true rfl) dX3_nearestTo_25 ?_
    refine V_iload_n (i := 1) 3 dX3_nearestTo_28 rfl rfl ?_
    obtain ⟨y7, e8, h⟩ := bd_s h
    refine V_callS_v (n9 := 3) [] (v_X3_nearer l G hst _ _ e8) rfl rfl (lw_S q2376 q2377 q90 q2378) (by decide +kernel) (by decide) (Nat.le_of_ble_eq_true rfl) dX3_nearestTo_29 ?_
    refine V_istore_n (i := 2) (L' := [(2, pI y7), (3, pI x3), (0, pR (gmo G)), (1, pI x1)]) dX3_nearestTo_32 rfl (by decide) rfl ?_
    refine V_iconst (v := 0) dX3_nearestTo_33 (by decide) ?_
    refine V_istore (i := 4) (L' := [(4, pI (0 : Int32)), (2, pI y7), (3, pI x3), (0, pR (gmo G)), (1, pI x1)]) dX3_nearestTo_34 (by decide) rfl ?_
    refine V_sub [0, 1, 2, 3, 4] rfl ?_
    exact v_X3_nearestTo_36 hst hm hk8 FU _ _ _ _ _ h
def f_X3_nearestTo_8 : Nat → Ms → Int32 → Int32 → Int32 → Option (Int32 × Ms)
  | 0, _, _, _, _ => none
  | n + 1, S, x3, x2, x1 => f_X3_nearestTo_8_b (f_X3_nearestTo_8 n) S x3 x2 x1
theorem v_X3_nearestTo_8 {l : Launch} {G : Gx} (hst : l.stackTraces = false) (hm : gmo G ≠ 0) {σ0 σe : Hp} {Se : Ms} {r : Int32} : ∀ (n : Nat) (S : Ms) (x3 : Int32) (x2 : Int32) (x1 : Int32), f_X3_nearestTo_8 n S x3 x2 x1 = some (r, Se) → VV_X3_nearestTo l G σ0 (.inl (some (pI r))) σe Se 8 [(3, pI x3), (2, pI x2), (0, pR (gmo G)), (1, pI x1)] [] σe S
  | 0, _, _, _, _, h => by cases h
  | n + 1, _, _, _, _, h => v_X3_nearestTo_8_b hst hm (v_X3_nearestTo_8 hst hm n) h
def f_X3_nearestTo (S : Ms) (x1 : Int32) : Option (Int32 × Ms) :=
  bp (f_X3_lookForFree S ) fun e1 S2 => f_X3_nearestTo_8 FU S2 (0 : Int32) (-1 : Int32) x1
set_option maxHeartbeats 4000000 in
theorem v_X3_nearestTo (l : Launch) (G : Gx) (hst : l.stackTraces = false) (hm : gmo G ≠ 0) (σ : Hp) {S Se : Ms} {x1 : Int32} {r : Int32} (h : f_X3_nearestTo S x1 = some (r, Se)) : MT l G yX3_nearestTo (ws_ yX3_nearestTo cX3_nearestTo 5 (some .int)) 4 94 [pR (gmo G), pI x1] σ S (.inl (some (pI r))) σ Se := by
  refine MT_of (own := RX3) (nL := 5) (ini := false) (by decide +kernel) rfl (Nat.le_of_ble_eq_true rfl) (fun h => by cases h) hst ?_
  show VV_X3_nearestTo l G σ (.inl (some (pI r))) σ Se 0 [(0, pR (gmo G)), (1, pI x1)] [] σ S
  unfold f_X3_nearestTo at h
  refine V_aload_n (i := 0) 0 dX3_nearestTo_0 rfl rfl ?_
  obtain ⟨e1, S2, e3, h⟩ := bp_s h
  refine V_callM_0 (n9 := 0) [] hm (v_X3_lookForFree l G hst hm _ e3) rfl rfl (lw_V q2206 q2208 qs48 q90 q2209) (by decide +kernel) (by decide) (Nat.le_of_ble_eq_true rfl) dX3_nearestTo_1 ?_
  refine V_iconst (v := (-1)) dX3_nearestTo_4 (by decide) ?_
  refine V_istore_n (i := 2) (L' := [(2, pI (-1 : Int32)), (0, pR (gmo G)), (1, pI x1)]) dX3_nearestTo_5 rfl (by decide) rfl ?_
  refine V_iconst (v := 0) dX3_nearestTo_6 (by decide) ?_
  refine V_istore_n (i := 3) (L' := [(3, pI (0 : Int32)), (2, pI (-1 : Int32)), (0, pR (gmo G)), (1, pI x1)]) dX3_nearestTo_7 rfl (by decide) rfl ?_
  refine V_sub [0, 1, 2, 3] rfl ?_
  exact v_X3_nearestTo_8 hst hm FU _ _ _ _ h

abbrev VV_X3_nearest (l : Launch) (G : Gx) (σ0 : Hp) (o : Oc) (σe : Hp) (Se : Ms) := V l G RX3 cX3_nearest 2 (some .int) [] false 5 118 σ0 o σe Se
def f_X3_nearest_25 (S : Ms) (s0 : Int32) : Option (Int32 × Ms) :=
  some (s0, S)
set_option maxHeartbeats 4000000 in
theorem v_X3_nearest_25 {l : Launch} {G : Gx} (hst : l.stackTraces = false) (hm : gmo G ≠ 0) {σ0 σe : Hp} {Se : Ms} {r : Int32} {S : Ms} {s0 : Int32} (h : f_X3_nearest_25 S s0 = some (r, Se)) : VV_X3_nearest l G σ0 (.inl (some (pI r))) σe Se 25 [] [pI s0] σe S := by
  unfold f_X3_nearest_25 at h
  cases h
  exact V_iret rfl dX3_nearest_25
def f_X3_nearest (S : Ms) (x1 : Int32) : Option (Int32 × Ms) :=
  bd (f_X3_isLength x1) fun y1 => if y1 = (0 : Int32) then (bp (f_X3_fails (sM S 5 (0 : Int32)) (1 : Int32)) fun y4 S5 => f_X3_nearest_25 S5 y4) else (bp (f_X3_nearestTo (sM S 5 (0 : Int32)) x1) fun y7 S8 => f_X3_nearest_25 S8 y7)
set_option maxHeartbeats 4000000 in
theorem v_X3_nearest (l : Launch) (G : Gx) (hst : l.stackTraces = false) (hm : gmo G ≠ 0) (σ : Hp) {S Se : Ms} {x1 : Int32} {r : Int32} (h : f_X3_nearest S x1 = some (r, Se)) : MT l G yX3_nearest (ws_ yX3_nearest cX3_nearest 2 (some .int)) 5 118 [pR (gmo G), pI x1] σ S (.inl (some (pI r))) σ Se := by
  refine MT_of (own := RX3) (nL := 2) (ini := false) (by decide +kernel) rfl (Nat.le_of_ble_eq_true rfl) (fun h => by cases h) hst ?_
  show VV_X3_nearest l G σ (.inl (some (pI r))) σ Se 0 [(0, pR (gmo G)), (1, pI x1)] [] σ S
  unfold f_X3_nearest at h
  refine V_aload_n (i := 0) 0 dX3_nearest_0 rfl rfl ?_
  refine V_iconst (v := 0) dX3_nearest_1 (by decide) ?_
  refine V_mput hm gw_X3_38 (by decide) rfl dX3_nearest_2 ?_
  refine V_iload_n (i := 1) 1 dX3_nearest_5 rfl rfl ?_
  obtain ⟨y1, e2, h⟩ := bd_s h
  refine V_callS_v (n9 := 1) [] (v_X3_isLength l G hst _ _ e2) rfl rfl (lw_S q2194 q2195 q90 q2196) (by decide +kernel) (by decide) (Nat.le_of_ble_eq_true rfl) dX3_nearest_6 ?_
  refine V_if_eq 20 dX3_nearest_9 (by decide) (fun c3 => ?_) (fun c3 => ?_)
  · replace h := it_t c3 h
    refine V_aload_n (i := 0) 0 dX3_nearest_20 rfl rfl ?_
    refine V_iconst (v := 1) dX3_nearest_21 (by decide) ?_
    obtain ⟨y4, S5, e6, h⟩ := bp_s h
    refine V_callM_v (n9 := 1) [] hm (v_X3_fails l G hst hm _ e6) rfl rfl (lw_V q2062 q2064 qs28 q90 q2065) (by decide +kernel) (by decide) (Nat.le_of_ble_eq_true rfl) dX3_nearest_22 ?_
    refine V_sub [] rfl ?_
    exact v_X3_nearest_25 hst hm h
  · replace h := it_f c3 h
    refine V_aload_n (i := 0) 0 dX3_nearest_12 rfl rfl ?_
    refine V_iload_n (i := 1) 1 dX3_nearest_13 rfl rfl ?_
    obtain ⟨y7, S8, e9, h⟩ := bp_s h
    refine V_callM_v (n9 := 1) [] hm (v_X3_nearestTo l G hst hm _ e9) rfl rfl (lw_V q2372 q2374 qs74 q90 q2375) (by decide +kernel) (by decide) (Nat.le_of_ble_eq_true rfl) dX3_nearest_14 ?_
    refine V_goto 25 dX3_nearest_17 (by decide) ?_
    refine V_sub [] rfl ?_
    exact v_X3_nearest_25 hst hm h

abbrev VV_X3_coolIn (l : Launch) (G : Gx) (σ0 : Hp) (o : Oc) (σe : Hp) (Se : Ms) := V l G RX3 cX3_coolIn 4 (some .int) [] false 3 73 σ0 o σe Se
def f_X3_coolIn_28_b (k28 : Ms → Int32 → Int32 → Option (Int32 × Ms)) (S : Ms) (x3 : Int32) (x2 : Int32) : Option (Int32 × Ms) :=
  bd (mrd S 0 149 (1 : Int32)) fun y1 => if x3 ≤ y1 then (some (x2, S)) else (bd (f_X3_cooled x3) fun y4 => k28 S y4 (x2 + (1 : Int32)))
set_option maxHeartbeats 4000000 in
theorem v_X3_coolIn_28_b {l : Launch} {G : Gx} (hst : l.stackTraces = false) (hm : gmo G ≠ 0) {σ0 σe : Hp} {Se : Ms} {r : Int32} {k28 : Ms → Int32 → Int32 → Option (Int32 × Ms)} (hk28 : ∀ (S : Ms) (x3 : Int32) (x2 : Int32), k28 S x3 x2 = some (r, Se) → VV_X3_coolIn l G σ0 (.inl (some (pI r))) σe Se 28 [(3, pI x3), (2, pI x2), (0, pR (gmo G))] [] σe S) {S : Ms} {x3 : Int32} {x2 : Int32} (h : f_X3_coolIn_28_b k28 S x3 x2 = some (r, Se)) : VV_X3_coolIn l G σ0 (.inl (some (pI r))) σe Se 28 [(3, pI x3), (2, pI x2), (0, pR (gmo G))] [] σe S := by
  unfold f_X3_coolIn_28_b at h
  refine V_iload_n (i := 3) 0 dX3_coolIn_28 rfl rfl ?_
  refine V_aload_n (i := 0) 2 dX3_coolIn_29 rfl rfl ?_
  refine V_mrdA hm gf_X3_7 (by decide) rfl dX3_coolIn_30 ?_
  refine V_iconst (v := 1) dX3_coolIn_33 (by decide) ?_
  obtain ⟨y1, e2, h⟩ := bd_s h
  refine V_mel hm e2 (by decide) rfl (by decide) dX3_coolIn_34 ?_
  refine V_icmp_le 49 dX3_coolIn_35 (by decide) (fun c3 => ?_) (fun c3 => ?_)
  · replace h := it_t c3 h
    refine V_iload_n (i := 2) 1 dX3_coolIn_49 rfl rfl ?_
    cases h
    exact V_iret rfl dX3_coolIn_50
  · replace h := it_f c3 h
    refine V_iinc (v := (x2 + (1 : Int32))) (L' := [(2, pI (x2 + (1 : Int32))), (3, pI x3), (0, pR (gmo G))]) 1 dX3_coolIn_38 rfl rfl (by decide) rfl ?_
    refine V_iload_n (i := 3) 1 dX3_coolIn_41 rfl rfl ?_
    obtain ⟨y4, e5, h⟩ := bd_s h
    refine V_callS_v (n9 := 1) [] (v_X3_cooled l G hst _ _ e5) rfl rfl (lw_S q2145 q2146 q90 q2147) (by decide +kernel) (by decide) (Nat.le_of_ble_eq_true rfl) dX3_coolIn_42 ?_
    refine V_istore_n (i := 3) (L' := [(3, pI y4), (2, pI (x2 + (1 : Int32))), (0, pR (gmo G))]) dX3_coolIn_45 rfl (by decide) rfl ?_
    refine V_goto 28 dX3_coolIn_46 (by decide) ?_
    refine V_sub [0, 1, 2] rfl ?_
    exact hk28 _ _ _ h
def f_X3_coolIn_28 : Nat → Ms → Int32 → Int32 → Option (Int32 × Ms)
  | 0, _, _, _ => none
  | n + 1, S, x3, x2 => f_X3_coolIn_28_b (f_X3_coolIn_28 n) S x3 x2
theorem v_X3_coolIn_28 {l : Launch} {G : Gx} (hst : l.stackTraces = false) (hm : gmo G ≠ 0) {σ0 σe : Hp} {Se : Ms} {r : Int32} : ∀ (n : Nat) (S : Ms) (x3 : Int32) (x2 : Int32), f_X3_coolIn_28 n S x3 x2 = some (r, Se) → VV_X3_coolIn l G σ0 (.inl (some (pI r))) σe Se 28 [(3, pI x3), (2, pI x2), (0, pR (gmo G))] [] σe S
  | 0, _, _, _, h => by cases h
  | n + 1, _, _, _, h => v_X3_coolIn_28_b hst hm (v_X3_coolIn_28 hst hm n) h
def f_X3_coolIn (S : Ms) (x1 : Int32) : Option (Int32 × Ms) :=
  bp (f_X3_isBlock (sM S 5 (0 : Int32)) x1) fun y1 S2 => if y1 = (0 : Int32) then (bp (f_X3_fails S2 (1 : Int32)) fun y8 S9 => some (y8, S9)) else (bp (f_X3_of S2 x1 (3 : Int32)) fun y5 S6 => f_X3_coolIn_28 FU S6 y5 (0 : Int32))
set_option maxHeartbeats 4000000 in
theorem v_X3_coolIn (l : Launch) (G : Gx) (hst : l.stackTraces = false) (hm : gmo G ≠ 0) (σ : Hp) {S Se : Ms} {x1 : Int32} {r : Int32} (h : f_X3_coolIn S x1 = some (r, Se)) : MT l G yX3_coolIn (ws_ yX3_coolIn cX3_coolIn 4 (some .int)) 3 73 [pR (gmo G), pI x1] σ S (.inl (some (pI r))) σ Se := by
  refine MT_of (own := RX3) (nL := 4) (ini := false) (by decide +kernel) rfl (Nat.le_of_ble_eq_true rfl) (fun h => by cases h) hst ?_
  show VV_X3_coolIn l G σ (.inl (some (pI r))) σ Se 0 [(0, pR (gmo G)), (1, pI x1)] [] σ S
  unfold f_X3_coolIn at h
  refine V_aload_n (i := 0) 0 dX3_coolIn_0 rfl rfl ?_
  refine V_iconst (v := 0) dX3_coolIn_1 (by decide) ?_
  refine V_mput hm gw_X3_38 (by decide) rfl dX3_coolIn_2 ?_
  refine V_aload_n (i := 0) 0 dX3_coolIn_5 rfl rfl ?_
  refine V_iload_n (i := 1) 1 dX3_coolIn_6 rfl rfl ?_
  obtain ⟨y1, S2, e3, h⟩ := bp_s h
  refine V_callM_v (n9 := 1) [] hm (v_X3_isBlock l G hst hm _ e3) rfl rfl (lw_V q2098 q2100 qs32 q90 q2101) (by decide +kernel) (by decide) (Nat.le_of_ble_eq_true rfl) dX3_coolIn_7 ?_
  refine V_if_ne 19 dX3_coolIn_10 (by decide) (fun c4 => ?_) (fun c4 => ?_)
  · replace h := it_f c4 h
    refine V_iconst (v := 0) dX3_coolIn_19 (by decide) ?_
    refine V_istore_n (i := 2) (L' := [(2, pI (0 : Int32)), (0, pR (gmo G)), (1, pI x1)]) dX3_coolIn_20 rfl (by decide) rfl ?_
    refine V_aload_n (i := 0) 1 dX3_coolIn_21 rfl rfl ?_
    refine V_iload_n (i := 1) 2 dX3_coolIn_22 rfl rfl ?_
    refine V_iconst (v := 3) dX3_coolIn_23 (by decide) ?_
    obtain ⟨y5, S6, e7, h⟩ := bp_s h
    refine V_callM_v (n9 := 2) [] hm (v_X3_of l G hst hm _ e7) rfl rfl (lw_V q2106 q2108 qs34 q90 q2109) (by decide +kernel) (by decide) (Nat.le_of_ble_eq_true rfl) dX3_coolIn_24 ?_
    refine V_istore_n (i := 3) (L' := [(3, pI y5), (2, pI (0 : Int32)), (0, pR (gmo G)), (1, pI x1)]) dX3_coolIn_27 rfl (by decide) rfl ?_
    refine V_sub [0, 1, 2] rfl ?_
    exact v_X3_coolIn_28 hst hm FU _ _ _ h
  · replace h := it_t c4 h
    refine V_aload_n (i := 0) 0 dX3_coolIn_13 rfl rfl ?_
    refine V_iconst (v := 1) dX3_coolIn_14 (by decide) ?_
    obtain ⟨y8, S9, e10, h⟩ := bp_s h
    refine V_callM_v (n9 := 1) [] hm (v_X3_fails l G hst hm _ e10) rfl rfl (lw_V q2062 q2064 qs28 q90 q2065) (by decide +kernel) (by decide) (Nat.le_of_ble_eq_true rfl) dX3_coolIn_15 ?_
    cases h
    exact V_iret rfl dX3_coolIn_18

abbrev VV_X3_lengthIn (l : Launch) (G : Gx) (σ0 : Hp) (o : Oc) (σe : Hp) (Se : Ms) := V l G RX3 cX3_lengthIn 3 (some .int) [] false 5 122 σ0 o σe Se
def f_X3_lengthIn_43 (S : Ms) (s0 : Int32) : Option (Int32 × Ms) :=
  some (s0, S)
set_option maxHeartbeats 4000000 in
theorem v_X3_lengthIn_43 {l : Launch} {G : Gx} (hst : l.stackTraces = false) (hm : gmo G ≠ 0) {σ0 σe : Hp} {Se : Ms} {r : Int32} {S : Ms} {s0 : Int32} (h : f_X3_lengthIn_43 S s0 = some (r, Se)) : VV_X3_lengthIn l G σ0 (.inl (some (pI r))) σe Se 43 [] [pI s0] σe S := by
  unfold f_X3_lengthIn_43 at h
  cases h
  exact V_iret rfl dX3_lengthIn_43
def f_X3_lengthIn (S : Ms) (x1 : Int32) (x2 : Int32) : Option (Int32 × Ms) :=
  bd (f_X3_isStack x1) fun y1 => if y1 = (0 : Int32) then (bp (f_X3_fails (sM S 5 (0 : Int32)) (1 : Int32)) fun y13 S14 => some (y13, S14)) else (bd (f_X3_in x2 (0 : Int32) (600 : Int32)) fun y4 => if y4 = (0 : Int32) then (bp (f_X3_fails (sM S 5 (0 : Int32)) (2 : Int32)) fun y7 S8 => f_X3_lengthIn_43 S8 y7) else (bp (f_X3_lengthBehind (sM S 5 (0 : Int32)) x1 x2) fun y10 S11 => f_X3_lengthIn_43 S11 y10))
set_option maxHeartbeats 4000000 in
theorem v_X3_lengthIn (l : Launch) (G : Gx) (hst : l.stackTraces = false) (hm : gmo G ≠ 0) (σ : Hp) {S Se : Ms} {x1 : Int32} {x2 : Int32} {r : Int32} (h : f_X3_lengthIn S x1 x2 = some (r, Se)) : MT l G yX3_lengthIn (ws_ yX3_lengthIn cX3_lengthIn 3 (some .int)) 5 122 [pR (gmo G), pI x1, pI x2] σ S (.inl (some (pI r))) σ Se := by
  refine MT_of (own := RX3) (nL := 3) (ini := false) (by decide +kernel) rfl (Nat.le_of_ble_eq_true rfl) (fun h => by cases h) hst ?_
  show VV_X3_lengthIn l G σ (.inl (some (pI r))) σ Se 0 [(0, pR (gmo G)), (1, pI x1), (2, pI x2)] [] σ S
  unfold f_X3_lengthIn at h
  refine V_aload_n (i := 0) 0 dX3_lengthIn_0 rfl rfl ?_
  refine V_iconst (v := 0) dX3_lengthIn_1 (by decide) ?_
  refine V_mput hm gw_X3_38 (by decide) rfl dX3_lengthIn_2 ?_
  refine V_iload_n (i := 1) 1 dX3_lengthIn_5 rfl rfl ?_
  obtain ⟨y1, e2, h⟩ := bd_s h
  refine V_callS_v (n9 := 1) [] (v_X3_isStack l G hst _ _ e2) rfl rfl (lw_S q2159 q2160 q90 q2161) (by decide +kernel) (by decide) (Nat.le_of_ble_eq_true rfl) dX3_lengthIn_6 ?_
  refine V_if_ne 18 dX3_lengthIn_9 (by decide) (fun c3 => ?_) (fun c3 => ?_)
  · replace h := it_f c3 h
    refine V_iload_n (i := 2) 2 dX3_lengthIn_18 rfl rfl ?_
    refine V_iconst (v := 0) dX3_lengthIn_19 (by decide) ?_
    refine V_sipush (v := 600) dX3_lengthIn_20 (by decide) ?_
    obtain ⟨y4, e5, h⟩ := bd_s h
    refine V_callS_v (n9 := 3) [] (v_X3_in l G hst _ _ e5) rfl rfl (lw_S q2070 q2071 q90 q2072) (by decide +kernel) (by decide) (Nat.le_of_ble_eq_true rfl) dX3_lengthIn_23 ?_
    refine V_if_eq 38 dX3_lengthIn_26 (by decide) (fun c6 => ?_) (fun c6 => ?_)
    · replace h := it_t c6 h
      refine V_aload_n (i := 0) 0 dX3_lengthIn_38 rfl rfl ?_
      refine V_iconst (v := 2) dX3_lengthIn_39 (by decide) ?_
      obtain ⟨y7, S8, e9, h⟩ := bp_s h
      refine V_callM_v (n9 := 1) [] hm (v_X3_fails l G hst hm _ e9) rfl rfl (lw_V q2062 q2064 qs28 q90 q2065) (by decide +kernel) (by decide) (Nat.le_of_ble_eq_true rfl) dX3_lengthIn_40 ?_
      refine V_sub [] rfl ?_
      exact v_X3_lengthIn_43 hst hm h
    · replace h := it_f c6 h
      refine V_aload_n (i := 0) 0 dX3_lengthIn_29 rfl rfl ?_
      refine V_iload_n (i := 1) 1 dX3_lengthIn_30 rfl rfl ?_
      refine V_iload_n (i := 2) 2 dX3_lengthIn_31 rfl rfl ?_
      obtain ⟨y10, S11, e12, h⟩ := bp_s h
      refine V_callM_v (n9 := 2) [] hm (v_X3_lengthBehind l G hst hm _ e12) rfl rfl (lw_V q2289 q2291 qs62 q90 q2292) (by decide +kernel) (by decide) (Nat.le_of_ble_eq_true rfl) dX3_lengthIn_32 ?_
      refine V_goto 43 dX3_lengthIn_35 (by decide) ?_
      refine V_sub [] rfl ?_
      exact v_X3_lengthIn_43 hst hm h
  · replace h := it_t c3 h
    refine V_aload_n (i := 0) 0 dX3_lengthIn_12 rfl rfl ?_
    refine V_iconst (v := 1) dX3_lengthIn_13 (by decide) ?_
    obtain ⟨y13, S14, e15, h⟩ := bp_s h
    refine V_callM_v (n9 := 1) [] hm (v_X3_fails l G hst hm _ e15) rfl rfl (lw_V q2062 q2064 qs28 q90 q2065) (by decide +kernel) (by decide) (Nat.le_of_ble_eq_true rfl) dX3_lengthIn_14 ?_
    cases h
    exact V_iret rfl dX3_lengthIn_17

abbrev VV_X3_meanError (l : Launch) (G : Gx) (σ0 : Hp) (o : Oc) (σe : Hp) (Se : Ms) := V l G RX3 cX3_meanError 3 (some .double) [] false 3 73 σ0 o σe Se
def f_X3_meanError_62 (S : Ms) (s0 : UInt64) : Option (UInt64 × Ms) :=
  some (s0, S)
set_option maxHeartbeats 4000000 in
theorem v_X3_meanError_62 {l : Launch} {G : Gx} (hst : l.stackTraces = false) (hm : gmo G ≠ 0) {σ0 σe : Hp} {Se : Ms} {r : UInt64} {S : Ms} {s0 : UInt64} (h : f_X3_meanError_62 S s0 = some (r, Se)) : VV_X3_meanError l G σ0 (.inl (some (pD r))) σe Se 62 [] [pD s0] σe S := by
  unfold f_X3_meanError_62 at h
  cases h
  exact V_dret rfl dX3_meanError_62
def f_X3_meanError_9_b (k9 : Ms → Int32 → Int32 → Option (UInt64 × Ms)) (S : Ms) (x2 : Int32) (x1 : Int32) : Option (UInt64 × Ms) :=
  bd (mrd S 0 149 (8 : Int32)) fun y1 => if y1 ≤ x2 then (bd (mrd S 0 149 (8 : Int32)) fun y4 => if y4 = (0 : Int32) then (f_X3_meanError_62 S 0) else (bd (mrd S 0 149 (8 : Int32)) fun y7 => bd (ddv (FP.i2d x1) (FP.i2d y7)) fun d9 => f_X3_meanError_62 S d9)) else (bp (f_X3_error S x2) fun y11 S12 => bd (f_X3_size y11) fun y14 => k9 S12 (x2 + (1 : Int32)) (x1 + y14))
set_option maxHeartbeats 4000000 in
theorem v_X3_meanError_9_b {l : Launch} {G : Gx} (hst : l.stackTraces = false) (hm : gmo G ≠ 0) {σ0 σe : Hp} {Se : Ms} {r : UInt64} {k9 : Ms → Int32 → Int32 → Option (UInt64 × Ms)} (hk9 : ∀ (S : Ms) (x2 : Int32) (x1 : Int32), k9 S x2 x1 = some (r, Se) → VV_X3_meanError l G σ0 (.inl (some (pD r))) σe Se 9 [(2, pI x2), (1, pI x1), (0, pR (gmo G))] [] σe S) {S : Ms} {x2 : Int32} {x1 : Int32} (h : f_X3_meanError_9_b k9 S x2 x1 = some (r, Se)) : VV_X3_meanError l G σ0 (.inl (some (pD r))) σe Se 9 [(2, pI x2), (1, pI x1), (0, pR (gmo G))] [] σe S := by
  unfold f_X3_meanError_9_b at h
  refine V_iload_n (i := 2) 0 dX3_meanError_9 rfl rfl ?_
  refine V_aload_n (i := 0) 2 dX3_meanError_10 rfl rfl ?_
  refine V_mrdA hm gf_X3_7 (by decide) rfl dX3_meanError_11 ?_
  refine V_bipush (v := 8) dX3_meanError_14 (by decide) ?_
  obtain ⟨y1, e2, h⟩ := bd_s h
  refine V_mel hm e2 (by decide) rfl (by decide) dX3_meanError_16 ?_
  refine V_icmp_ge 37 dX3_meanError_17 (by decide) (fun c3 => ?_) (fun c3 => ?_)
  · replace h := it_t c3 h
    refine V_aload_n (i := 0) 2 dX3_meanError_37 rfl rfl ?_
    refine V_mrdA hm gf_X3_7 (by decide) rfl dX3_meanError_38 ?_
    refine V_bipush (v := 8) dX3_meanError_41 (by decide) ?_
    obtain ⟨y4, e5, h⟩ := bd_s h
    refine V_mel hm e5 (by decide) rfl (by decide) dX3_meanError_43 ?_
    refine V_if_ne 51 dX3_meanError_44 (by decide) (fun c6 => ?_) (fun c6 => ?_)
    · replace h := it_f c6 h
      refine V_iload_n (i := 1) 1 dX3_meanError_51 rfl rfl ?_
      refine V_i2d dX3_meanError_52 ?_
      refine V_aload_n (i := 0) 2 dX3_meanError_53 rfl rfl ?_
      refine V_mrdA hm gf_X3_7 (by decide) rfl dX3_meanError_54 ?_
      refine V_bipush (v := 8) dX3_meanError_57 (by decide) ?_
      obtain ⟨y7, e8, h⟩ := bd_s h
      refine V_mel hm e8 (by decide) rfl (by decide) dX3_meanError_59 ?_
      refine V_i2d dX3_meanError_60 ?_
      obtain ⟨d9, e10, h⟩ := bd_s h
      refine V_ddv e10 dX3_meanError_61 ?_
      refine V_sub [] rfl ?_
      exact v_X3_meanError_62 hst hm h
    · replace h := it_t c6 h
      refine V_dconst0 dX3_meanError_47 ?_
      refine V_goto 62 dX3_meanError_48 (by decide) ?_
      refine V_sub [] rfl ?_
      exact v_X3_meanError_62 hst hm h
  · replace h := it_f c3 h
    refine V_iload_n (i := 1) 1 dX3_meanError_20 rfl rfl ?_
    refine V_aload_n (i := 0) 2 dX3_meanError_21 rfl rfl ?_
    refine V_iload_n (i := 2) 0 dX3_meanError_22 rfl rfl ?_
    obtain ⟨y11, S12, e13, h⟩ := bp_s h
    refine V_callM_v (n9 := 1) [pI x1] hm (v_X3_error l G hst hm _ e13) rfl rfl (lw_V q2114 q2116 qs35 q90 q2117) (by decide +kernel) (by decide) (Nat.le_of_ble_eq_true rfl) dX3_meanError_23 ?_
    obtain ⟨y14, e15, h⟩ := bd_s h
    refine V_callS_v (n9 := 1) [pI x1] (v_X3_size l G hst _ _ e15) rfl rfl (lw_S q2122 q2123 q90 q2124) (by decide +kernel) (by decide) (Nat.le_of_ble_eq_true rfl) dX3_meanError_26 ?_
    refine V_iadd dX3_meanError_29 ?_
    refine V_istore_n (i := 1) (L' := [(1, pI (x1 + y14)), (2, pI x2), (0, pR (gmo G))]) dX3_meanError_30 rfl (by decide) rfl ?_
    refine V_iinc (v := (x2 + (1 : Int32))) (L' := [(2, pI (x2 + (1 : Int32))), (1, pI (x1 + y14)), (0, pR (gmo G))]) 1 dX3_meanError_31 rfl rfl (by decide) rfl ?_
    refine V_goto 9 dX3_meanError_34 (by decide) ?_
    refine V_sub [0, 1, 2] rfl ?_
    exact hk9 _ _ _ h
def f_X3_meanError_9 : Nat → Ms → Int32 → Int32 → Option (UInt64 × Ms)
  | 0, _, _, _ => none
  | n + 1, S, x2, x1 => f_X3_meanError_9_b (f_X3_meanError_9 n) S x2 x1
theorem v_X3_meanError_9 {l : Launch} {G : Gx} (hst : l.stackTraces = false) (hm : gmo G ≠ 0) {σ0 σe : Hp} {Se : Ms} {r : UInt64} : ∀ (n : Nat) (S : Ms) (x2 : Int32) (x1 : Int32), f_X3_meanError_9 n S x2 x1 = some (r, Se) → VV_X3_meanError l G σ0 (.inl (some (pD r))) σe Se 9 [(2, pI x2), (1, pI x1), (0, pR (gmo G))] [] σe S
  | 0, _, _, _, h => by cases h
  | n + 1, _, _, _, h => v_X3_meanError_9_b hst hm (v_X3_meanError_9 hst hm n) h
def f_X3_meanError (S : Ms) : Option (UInt64 × Ms) :=
  f_X3_meanError_9 FU (sM S 5 (0 : Int32)) (0 : Int32) (0 : Int32)
set_option maxHeartbeats 4000000 in
theorem v_X3_meanError (l : Launch) (G : Gx) (hst : l.stackTraces = false) (hm : gmo G ≠ 0) (σ : Hp) {S Se : Ms} {r : UInt64} (h : f_X3_meanError S  = some (r, Se)) : MT l G yX3_meanError (ws_ yX3_meanError cX3_meanError 3 (some .double)) 3 73 [pR (gmo G)] σ S (.inl (some (pD r))) σ Se := by
  refine MT_of (own := RX3) (nL := 3) (ini := false) (by decide +kernel) rfl (Nat.le_of_ble_eq_true rfl) (fun h => by cases h) hst ?_
  show VV_X3_meanError l G σ (.inl (some (pD r))) σ Se 0 [(0, pR (gmo G))] [] σ S
  unfold f_X3_meanError at h
  refine V_aload_n (i := 0) 0 dX3_meanError_0 rfl rfl ?_
  refine V_iconst (v := 0) dX3_meanError_1 (by decide) ?_
  refine V_mput hm gw_X3_38 (by decide) rfl dX3_meanError_2 ?_
  refine V_iconst (v := 0) dX3_meanError_5 (by decide) ?_
  refine V_istore_n (i := 1) (L' := [(1, pI (0 : Int32)), (0, pR (gmo G))]) dX3_meanError_6 rfl (by decide) rfl ?_
  refine V_iconst (v := 0) dX3_meanError_7 (by decide) ?_
  refine V_istore_n (i := 2) (L' := [(2, pI (0 : Int32)), (1, pI (0 : Int32)), (0, pR (gmo G))]) dX3_meanError_8 rfl (by decide) rfl ?_
  refine V_sub [0, 1, 2] rfl ?_
  exact v_X3_meanError_9 hst hm FU _ _ _ h

