/-! ROWS OF V, sixth part: interface and super calls, small Integers, throws -/
section VSpecial2
variable {l : Launch} {G : Gx} {own : String} {cc : ByteArray} {nL : Nat} {ret : Option FieldType} {xt : List ExceptionTableEntry} {ini : Bool} {fr lo : Nat} {σ0 σe : Hp} {o : Oc} {Se : Ms} {pc : Nat} {L L' : Lo} {st st0 : List PV} {σ σ1 : Hp} {S S1 : Ms}
theorem V_of_run5 {oc : Oc} {σ1 : Hp} {S1 : Ms} {rest st0 : List PV} {p : Program} {e : Env} {s : State} {m : MethodId} {args : Array Value} {below : List Frame} {meth : Method} {c9 : Code} {H : Heap} {locs : List Loc} {ls : Array Slot} {cells slots : Nat} {a : Array Value}
    (C : Cx l G own cc nL ret xt ini p s m args meth c9) (hS : va_S (Af G) s.heap H locs) (hl : lv_has ls nL (L.map tq)) (e1 : cells + hN σ0 = hN σ) (e2 : slots + hU σ0 = hU σ) (hm : hN σ ≤ hN σ1 ∧ hU σ ≤ hU σ1)
    (hr : vx_Run5 p l e ({ frames := fr, cells := hN σe - hN σ0, slots := hU σe - hU σ0, locals := lo }) s m args below meth c9 H locs cells slots (hN σ1 - hN σ) (hU σ1 - hU σ) (F0 m pc ls (st0.map tv)) (rest.map tv) (QR G oc σ1 S1 a) (QX G oc σ1 S1) (Af G))
    (kk : ∀ v, oc = .inl v → V l G own cc nL ret xt ini fr lo σ0 o σe Se (pc + 5) L (v.toList ++ rest) σ1 S1) (kx : ∀ E q, oc = .inr (E, q) → VX l G own cc nL ret xt ini fr lo σ0 o σe Se pc L E q σ1 S1) :
    W p l e ({ frames := fr, cells := hN σe - hN σ0, slots := hU σe - hU σ0, locals := lo }) s m args below meth c9 H locs cells slots (vx_MQ below (QR G o σe Se) (QX G o σe Se) args s (hN σe - hN σ0) (hU σe - hU σ0) (Af G)) (F0 m pc ls (st0.map tv)) := by
  intro T hT X
  rcases hr T hT X with ⟨v, st₀, t, T', L1, h0, X', hL1, f1, f2, hq, st⟩ | ⟨q, st₀, t, T', L1, E, ce, h0, X', hL1, f1, f2, ⟨⟨ho, hRe⟩, hF⟩, hce, hcv, hcl, st⟩
  · obtain ⟨w, ho, rfl, hRe, hF⟩ := QR_nil hq
    obtain ⟨k1, k2, k3⟩ := vx_keep h0 f1 hS (fun q _ h => h) (fun q h => h) hL1 hF
    have h9 := (kk w ho).2 p e s m args below meth c9 T'.heap (locs ++ L1) ls (cells + (hN σ1 - hN σ)) (slots + (hU σ1 - hU σ)) C (by rw [f1]; exact hRe) k3 hl (by omega) (by omega) T' rfl
    have h8 : (w.map tv).toList ++ rest.map tv = (w.toList ++ rest).map tv := by cases w <;> rfl
    have st' : Goes p e below T (F0 m pc ls (st0.map tv)) T' (F0 m (pc + 5) ls ((w.map tv).toList ++ rest.map tv)) := st
    rw [h8] at st'
    obtain ⟨t2, a1, b1⟩ := h9 X'
    exact ⟨t2, st' t2 a1, b1⟩
  · obtain ⟨k1, k2, k3⟩ := vx_keep h0 f1 hS (fun q _ h => h) (fun q h => h) hL1 hF
    obtain ⟨t2, a1, b1⟩ := (kx E (q + 1) ho).2 p e s m args below meth c9 T'.heap (locs ++ L1) ls (cells + (hN σ1 - hN σ)) (slots + (hU σ1 - hU σ)) (rest.map tv) q ce C (by rw [f1]; exact hRe) k3 hl (by omega) (by omega) rfl (by rw [f1]; exact hce) hcv hcl T' rfl X'
    exact ⟨t2, st.trans a1, b1⟩
theorem V_callF_v {x y : MethodName} {bytes : ByteArray} {maxL frc loc idx cnt : Nat} {retc : Option FieldType} {av : List PV} {b c n9 : Nat} {r : vw_C} {v : PV} (rest : List PV) (hM : MT l G y (ws_ y bytes maxL retc) frc loc (pR b :: av) σ S (.inl (some v)) σ1 S1) (hs : st0 = av.reverse ++ pR b :: rest) (hn9 : av.length = n9) (hw : GoodIn lw_all (va_wsF own idx r.1 x y (ws_ y bytes maxL retc))) (hF : (r.1, x, y) ∈ nwI) (hd0 : x.cls ≠ "java/lang/invoke/MethodHandle" ∧ x.cls ≠ "java/lang/invoke/VarHandle" ∧ (parseMethodDescriptor x.desc).map (fun d => d.parameters.length) = some n9) (hrm : frc + 1 ≤ fr ∧ 8 + (maxL + 11) + loc ≤ lo) (hcat : (rest.map fun v => if c2 v = true then 2 else 1).sum ≤ 8) (hk : hK σ b = c + 1) (hcr : CL[c]? = some r) (hd : decode cc pc = .ok (.invokeinterface idx cnt, 5)) (kk : V l G own cc nL ret xt ini fr lo σ0 o σe Se (pc + 5) L (v :: rest) σ1 S1) : V l G own cc nL ret xt ini fr lo σ0 o σe Se pc L st0 σ S := by
  subst hs; subst hn9
  have hm1 := hM.1
  have hmo := kk.1
  refine ⟨by omega, fun p e s m args below meth c9 H locs ls cells slots C hRe hS hl e1 e2 => ?_⟩
  · have C' := C
    obtain ⟨hx, hb, hml, hown, hts, hrt, hlk, hxt, hin, hst9, hE⟩ := C
    obtain ⟨p1, rfl, -, cellB, g1, g2, g3, -⟩ := hRe.ob (C := r.1) (T := r.2.1) (N := r.2.2) hk hcr
    have hcls := (hE.1.1 c _ hcr).2
    have hp : PreV s H r.1 p1 (va_Pc ((pR (p1 + 1) :: av).map tv) (Inv G σ S)) (av.map tv) := ⟨Inv_blind, ⟨cellB, g1, by rw [g3]; rfl, by rw [g2]; exact hcls.1⟩, (V_pre (av := pR (p1 + 1) :: av) hE hRe hS).2⟩
    exact V_of_run5 (oc := .inl (some v)) C' hS hl e1 e2 hm1 (vx_runF hcls ⟨hx, hb, hml, hown, hts⟩ hM.2 (va_cwF av.length hts hw rfl rfl rfl (hE.2.2.2.2.2.2.1 _ hF) hd0 hrm) hp rfl (List.length_map _) hl.1 (by show (av.reverse ++ pR (p1 + 1) :: rest).map tv = _; rw [List.map_append, List.map_reverse]; rfl) (rest_cat hcat) hd ⟨by show cells + (hN σ1 - hN σ) ≤ hN σe - hN σ0; omega, by show slots + (hU σ1 - hU σ) ≤ hU σe - hU σ0; omega⟩) (fun w hw => by cases hw; exact kk) (fun E q hq => by cases hq)
theorem V_callSU_v {y : MethodName} {bytes : ByteArray} {maxL frc loc idx : Nat} {retc : Option FieldType} {av : List PV} {b c n9 : Nat} {r : vw_C} {v : PV} (rest : List PV) (hM : MT l G y (ws_ y bytes maxL retc) frc loc (pR b :: av) σ S (.inl (some v)) σ1 S1) (hs : st0 = av.reverse ++ pR b :: rest) (hn9 : av.length = n9) (hw : GoodIn lw_all (va_wsSU own idx y (ws_ y bytes maxL retc))) (hd0 : y.name ≠ "<init>" ∧ (parseMethodDescriptor y.desc).map (fun d => d.parameters.length) = some n9) (hrm : frc + 1 ≤ fr ∧ 8 + (maxL + 11) + loc ≤ lo) (hcat : (rest.map fun v => if c2 v = true then 2 else 1).sum ≤ 8) (hk : hK σ b = c + 1) (hcr : CL[c]? = some r) (hd : decode cc pc = .ok (.invokespecial idx, 3)) (kk : V l G own cc nL ret xt ini fr lo σ0 o σe Se (pc + 3) L (v :: rest) σ1 S1) : V l G own cc nL ret xt ini fr lo σ0 o σe Se pc L st0 σ S := by
  subst hs; subst hn9
  have hm1 := hM.1
  have hmo := kk.1
  refine ⟨by omega, fun p e s m args below meth c9 H locs ls cells slots C hRe hS hl e1 e2 => ?_⟩
  · have C' := C
    obtain ⟨hx, hb, hml, hown, hts, hrt, hlk, hxt, hin, hst9, hE⟩ := C
    obtain ⟨p1, rfl, -, cellB, g1, g2, g3, -⟩ := hRe.ob (C := r.1) (T := r.2.1) (N := r.2.2) hk hcr
    have hcls := (hE.1.1 c _ hcr).2
    have hp : PreV s H r.1 p1 (va_Pc ((pR (p1 + 1) :: av).map tv) (Inv G σ S)) (av.map tv) := ⟨Inv_blind, ⟨cellB, g1, by rw [g3]; rfl, by rw [g2]; exact hcls.1⟩, (V_pre (av := pR (p1 + 1) :: av) hE hRe hS).2⟩
    exact V_of_run (oc := .inl (some v)) C' hS hl e1 e2 hm1 (vx_runSU hcls ⟨hx, hb, hml, hown, hts⟩ hM.2 (va_cwSU av.length hts hw rfl rfl rfl hd0 hrm) hp rfl (List.length_map _) hl.1 (by show (av.reverse ++ pR (p1 + 1) :: rest).map tv = _; rw [List.map_append, List.map_reverse]; rfl) (rest_cat hcat) hd ⟨by show cells + (hN σ1 - hN σ) ≤ hN σe - hN σ0; omega, by show slots + (hU σ1 - hU σ) ≤ hU σe - hU σ0; omega⟩) (fun w hw => by cases hw; exact kk) (fun E q hq => by cases hq)
theorem V_callF_0 {x y : MethodName} {bytes : ByteArray} {maxL frc loc idx cnt : Nat} {retc : Option FieldType} {av : List PV} {b c n9 : Nat} {r : vw_C} (rest : List PV) (hM : MT l G y (ws_ y bytes maxL retc) frc loc (pR b :: av) σ S (.inl (none)) σ1 S1) (hs : st0 = av.reverse ++ pR b :: rest) (hn9 : av.length = n9) (hw : GoodIn lw_all (va_wsF own idx r.1 x y (ws_ y bytes maxL retc))) (hF : (r.1, x, y) ∈ nwI) (hd0 : x.cls ≠ "java/lang/invoke/MethodHandle" ∧ x.cls ≠ "java/lang/invoke/VarHandle" ∧ (parseMethodDescriptor x.desc).map (fun d => d.parameters.length) = some n9) (hrm : frc + 1 ≤ fr ∧ 8 + (maxL + 11) + loc ≤ lo) (hcat : (rest.map fun v => if c2 v = true then 2 else 1).sum ≤ 8) (hk : hK σ b = c + 1) (hcr : CL[c]? = some r) (hd : decode cc pc = .ok (.invokeinterface idx cnt, 5)) (kk : V l G own cc nL ret xt ini fr lo σ0 o σe Se (pc + 5) L (rest) σ1 S1) : V l G own cc nL ret xt ini fr lo σ0 o σe Se pc L st0 σ S := by
  subst hs; subst hn9
  have hm1 := hM.1
  have hmo := kk.1
  refine ⟨by omega, fun p e s m args below meth c9 H locs ls cells slots C hRe hS hl e1 e2 => ?_⟩
  · have C' := C
    obtain ⟨hx, hb, hml, hown, hts, hrt, hlk, hxt, hin, hst9, hE⟩ := C
    obtain ⟨p1, rfl, -, cellB, g1, g2, g3, -⟩ := hRe.ob (C := r.1) (T := r.2.1) (N := r.2.2) hk hcr
    have hcls := (hE.1.1 c _ hcr).2
    have hp : PreV s H r.1 p1 (va_Pc ((pR (p1 + 1) :: av).map tv) (Inv G σ S)) (av.map tv) := ⟨Inv_blind, ⟨cellB, g1, by rw [g3]; rfl, by rw [g2]; exact hcls.1⟩, (V_pre (av := pR (p1 + 1) :: av) hE hRe hS).2⟩
    exact V_of_run5 (oc := .inl (none)) C' hS hl e1 e2 hm1 (vx_runF hcls ⟨hx, hb, hml, hown, hts⟩ hM.2 (va_cwF av.length hts hw rfl rfl rfl (hE.2.2.2.2.2.2.1 _ hF) hd0 hrm) hp rfl (List.length_map _) hl.1 (by show (av.reverse ++ pR (p1 + 1) :: rest).map tv = _; rw [List.map_append, List.map_reverse]; rfl) (rest_cat hcat) hd ⟨by show cells + (hN σ1 - hN σ) ≤ hN σe - hN σ0; omega, by show slots + (hU σ1 - hU σ) ≤ hU σe - hU σ0; omega⟩) (fun w hw => by cases hw; exact kk) (fun E q hq => by cases hq)
theorem V_callSU_0 {y : MethodName} {bytes : ByteArray} {maxL frc loc idx : Nat} {retc : Option FieldType} {av : List PV} {b c n9 : Nat} {r : vw_C} (rest : List PV) (hM : MT l G y (ws_ y bytes maxL retc) frc loc (pR b :: av) σ S (.inl (none)) σ1 S1) (hs : st0 = av.reverse ++ pR b :: rest) (hn9 : av.length = n9) (hw : GoodIn lw_all (va_wsSU own idx y (ws_ y bytes maxL retc))) (hd0 : y.name ≠ "<init>" ∧ (parseMethodDescriptor y.desc).map (fun d => d.parameters.length) = some n9) (hrm : frc + 1 ≤ fr ∧ 8 + (maxL + 11) + loc ≤ lo) (hcat : (rest.map fun v => if c2 v = true then 2 else 1).sum ≤ 8) (hk : hK σ b = c + 1) (hcr : CL[c]? = some r) (hd : decode cc pc = .ok (.invokespecial idx, 3)) (kk : V l G own cc nL ret xt ini fr lo σ0 o σe Se (pc + 3) L (rest) σ1 S1) : V l G own cc nL ret xt ini fr lo σ0 o σe Se pc L st0 σ S := by
  subst hs; subst hn9
  have hm1 := hM.1
  have hmo := kk.1
  refine ⟨by omega, fun p e s m args below meth c9 H locs ls cells slots C hRe hS hl e1 e2 => ?_⟩
  · have C' := C
    obtain ⟨hx, hb, hml, hown, hts, hrt, hlk, hxt, hin, hst9, hE⟩ := C
    obtain ⟨p1, rfl, -, cellB, g1, g2, g3, -⟩ := hRe.ob (C := r.1) (T := r.2.1) (N := r.2.2) hk hcr
    have hcls := (hE.1.1 c _ hcr).2
    have hp : PreV s H r.1 p1 (va_Pc ((pR (p1 + 1) :: av).map tv) (Inv G σ S)) (av.map tv) := ⟨Inv_blind, ⟨cellB, g1, by rw [g3]; rfl, by rw [g2]; exact hcls.1⟩, (V_pre (av := pR (p1 + 1) :: av) hE hRe hS).2⟩
    exact V_of_run (oc := .inl (none)) C' hS hl e1 e2 hm1 (vx_runSU hcls ⟨hx, hb, hml, hown, hts⟩ hM.2 (va_cwSU av.length hts hw rfl rfl rfl hd0 hrm) hp rfl (List.length_map _) hl.1 (by show (av.reverse ++ pR (p1 + 1) :: rest).map tv = _; rw [List.map_append, List.map_reverse]; rfl) (rest_cat hcat) hd ⟨by show cells + (hN σ1 - hN σ) ≤ hN σe - hN σ0; omega, by show slots + (hU σ1 - hU σ) ≤ hU σe - hU σ0; omega⟩) (fun w hw => by cases hw; exact kk) (fun E q hq => by cases hq)
theorem V_callA_v {x y : MethodName} {owner : String} {bytes : ByteArray} {maxL frc loc idx : Nat} {retc : Option FieldType} {av : List PV} {b c n9 : Nat} {r : vw_C} {v : PV} (rest : List PV) (hM : MT l G y (ws_ y bytes maxL retc) frc loc (pR b :: av) σ S (.inl (some v)) σ1 S1) (hs : st0 = av.reverse ++ pR b :: rest) (hn9 : av.length = n9) (hw : GoodIn lw_all (va_wsU own idx r.1 owner x y (ws_ y bytes maxL retc))) (hz : (⟨owner, x.name, x.desc⟩ : MethodName) ∈ nwD) (hd0 : owner ≠ "java/lang/invoke/MethodHandle" ∧ owner ≠ "java/lang/invoke/VarHandle" ∧ (parseMethodDescriptor x.desc).map (fun d => d.parameters.length) = some n9) (hrm : frc + 1 ≤ fr ∧ 8 + (maxL + 11) + loc ≤ lo) (hcat : (rest.map fun v => if c2 v = true then 2 else 1).sum ≤ 8) (hk : hK σ b = c + 1) (hcr : CL[c]? = some r) (hd : decode cc pc = .ok (.invokevirtual idx, 3)) (kk : V l G own cc nL ret xt ini fr lo σ0 o σe Se (pc + 3) L (v :: rest) σ1 S1) : V l G own cc nL ret xt ini fr lo σ0 o σe Se pc L st0 σ S := by
  subst hs; subst hn9
  have hm1 := hM.1
  have hmo := kk.1
  refine ⟨by omega, fun p e s m args below meth c9 H locs ls cells slots C hRe hS hl e1 e2 => ?_⟩
  · have C' := C
    obtain ⟨hx, hb, hml, hown, hts, hrt, hlk, hxt, hin, hst9, hE⟩ := C
    obtain ⟨p1, rfl, -, cellB, g1, g2, g3, -⟩ := hRe.ob (C := r.1) (T := r.2.1) (N := r.2.2) hk hcr
    have hcls := (hE.1.1 c _ hcr).2
    have hp : PreV s H r.1 p1 (va_Pc ((pR (p1 + 1) :: av).map tv) (Inv G σ S)) (av.map tv) := ⟨Inv_blind, ⟨cellB, g1, by rw [g3]; rfl, by rw [g2]; exact hcls.1⟩, (V_pre (av := pR (p1 + 1) :: av) hE hRe hS).2⟩
    exact V_of_run (oc := .inl (some v)) C' hS hl e1 e2 hm1 (vx_runU ⟨hx, hb, hml, hown, hts⟩ hM.2 (va_cwA av.length hts hw rfl rfl rfl (hE.2.2.2.2.2.1 _ hz) hd0 hrm) hp rfl (List.length_map _) hl.1 (by show (av.reverse ++ pR (p1 + 1) :: rest).map tv = _; rw [List.map_append, List.map_reverse]; rfl) (rest_cat hcat) hd ⟨by show cells + (hN σ1 - hN σ) ≤ hN σe - hN σ0; omega, by show slots + (hU σ1 - hU σ) ≤ hU σe - hU σ0; omega⟩) (fun w hw => by cases hw; exact kk) (fun E q hq => by cases hq)
theorem V_callP_v {y : MethodName} {bytes : ByteArray} {maxL frc loc idx : Nat} {retc : Option FieldType} {av : List PV} {b c n9 : Nat} {r : vw_C} {v : PV} (rest : List PV) (hM : MT l G y (ws_ y bytes maxL retc) frc loc (pR b :: av) σ S (.inl (some v)) σ1 S1) (hs : st0 = av.reverse ++ pR b :: rest) (hn9 : av.length = n9) (q1 : Cond.methodLink own idx y ∈ lw_all) (q2 : Cond.sameMethod y.cls y.cls y.name y.desc ∈ lw_all) (q3 : Cond.selects r.1 y y ∈ nwS) (q4 : Cond.instanceMethod y ∈ lw_all) (q5 : Cond.initialized y.cls ∈ lw_all) (q6 : Cond.code y bytes maxL retc ∈ lw_all) (hd0 : y.cls ≠ "java/lang/invoke/MethodHandle" ∧ y.cls ≠ "java/lang/invoke/VarHandle" ∧ (parseMethodDescriptor y.desc).map (fun d => d.parameters.length) = some n9) (hrm : frc + 1 ≤ fr ∧ 8 + (maxL + 11) + loc ≤ lo) (hcat : (rest.map fun v => if c2 v = true then 2 else 1).sum ≤ 8) (hk : hK σ b = c + 1) (hcr : CL[c]? = some r) (hd : decode cc pc = .ok (.invokevirtual idx, 3)) (kk : V l G own cc nL ret xt ini fr lo σ0 o σe Se (pc + 3) L (v :: rest) σ1 S1) : V l G own cc nL ret xt ini fr lo σ0 o σe Se pc L st0 σ S := by
  subst hs; subst hn9
  have hm1 := hM.1
  have hmo := kk.1
  have gd : ∀ w, w ∈ lw_all → w ∈ nwS ++ lw_all ∧ ((w.onTables && w.keeps) = true ∨ ∃ ty, w = .arrayClass ty) := fun w h => ⟨List.mem_append_right _ h, (lw_self w h).2⟩
  have hT : GoodIn (nwS ++ lw_all) (va_wsU own idx r.1 y.cls y y (ws_ y bytes maxL retc)) := by
    intro w hw
    simp only [va_wsU, List.mem_append, List.mem_cons, List.not_mem_nil, or_false] at hw
    rcases hw with (rfl | rfl | rfl | rfl | rfl) | (rfl | hw)
    · exact gd _ q1
    · exact gd _ q2
    · exact ⟨List.mem_append_left _ q3, Or.inl rfl⟩
    · exact gd _ q4
    · exact gd _ q5
    · exact gd _ q6
    · exact gd _ hw
  refine ⟨by omega, fun p e s m args below meth c9 H locs ls cells slots C hRe hS hl e1 e2 => ?_⟩
  · have C' := C
    obtain ⟨hx, hb, hml, hown, hts, hrt, hlk, hxt, hin, hst9, hE⟩ := C
    have hts2 : ∀ w ∈ nwS ++ lw_all, w.before args s = true := fun w hw => (List.mem_append.mp hw).elim (fun h => by
      have h9 := hE.2.2.2.2.2.2.2.2.2.1 w h
      simp only [List.mem_cons, List.not_mem_nil, or_false] at h
      rcases h with rfl | rfl <;> exact va_Nw.use rfl h9) (hts w)
    obtain ⟨p1, rfl, -, cellB, g1, g2, g3, -⟩ := hRe.ob (C := r.1) (T := r.2.1) (N := r.2.2) hk hcr
    have hcls := (hE.1.1 c _ hcr).2
    have hp : PreV s H r.1 p1 (va_Pc ((pR (p1 + 1) :: av).map tv) (Inv G σ S)) (av.map tv) := ⟨Inv_blind, ⟨cellB, g1, by rw [g3]; rfl, by rw [g2]; exact hcls.1⟩, (V_pre (av := pR (p1 + 1) :: av) hE hRe hS).2⟩
    exact V_of_run (oc := .inl (some v)) C' hS hl e1 e2 hm1 (vx_runU ⟨hx, hb, hml, hown, hts2⟩ hM.2 (va_cwU av.length hts2 hT rfl rfl rfl rfl hd0 hrm) hp rfl (List.length_map _) hl.1 (by show (av.reverse ++ pR (p1 + 1) :: rest).map tv = _; rw [List.map_append, List.map_reverse]; rfl) (rest_cat hcat) hd ⟨by show cells + (hN σ1 - hN σ) ≤ hN σe - hN σ0; omega, by show slots + (hU σ1 - hU σ) ≤ hU σe - hU σ0; omega⟩) (fun w hw => by cases hw; exact kk) (fun E q hq => by cases hq)
theorem V_callA_0 {x y : MethodName} {owner : String} {bytes : ByteArray} {maxL frc loc idx : Nat} {retc : Option FieldType} {av : List PV} {b c n9 : Nat} {r : vw_C} (rest : List PV) (hM : MT l G y (ws_ y bytes maxL retc) frc loc (pR b :: av) σ S (.inl (none)) σ1 S1) (hs : st0 = av.reverse ++ pR b :: rest) (hn9 : av.length = n9) (hw : GoodIn lw_all (va_wsU own idx r.1 owner x y (ws_ y bytes maxL retc))) (hz : (⟨owner, x.name, x.desc⟩ : MethodName) ∈ nwD) (hd0 : owner ≠ "java/lang/invoke/MethodHandle" ∧ owner ≠ "java/lang/invoke/VarHandle" ∧ (parseMethodDescriptor x.desc).map (fun d => d.parameters.length) = some n9) (hrm : frc + 1 ≤ fr ∧ 8 + (maxL + 11) + loc ≤ lo) (hcat : (rest.map fun v => if c2 v = true then 2 else 1).sum ≤ 8) (hk : hK σ b = c + 1) (hcr : CL[c]? = some r) (hd : decode cc pc = .ok (.invokevirtual idx, 3)) (kk : V l G own cc nL ret xt ini fr lo σ0 o σe Se (pc + 3) L (rest) σ1 S1) : V l G own cc nL ret xt ini fr lo σ0 o σe Se pc L st0 σ S := by
  subst hs; subst hn9
  have hm1 := hM.1
  have hmo := kk.1
  refine ⟨by omega, fun p e s m args below meth c9 H locs ls cells slots C hRe hS hl e1 e2 => ?_⟩
  · have C' := C
    obtain ⟨hx, hb, hml, hown, hts, hrt, hlk, hxt, hin, hst9, hE⟩ := C
    obtain ⟨p1, rfl, -, cellB, g1, g2, g3, -⟩ := hRe.ob (C := r.1) (T := r.2.1) (N := r.2.2) hk hcr
    have hcls := (hE.1.1 c _ hcr).2
    have hp : PreV s H r.1 p1 (va_Pc ((pR (p1 + 1) :: av).map tv) (Inv G σ S)) (av.map tv) := ⟨Inv_blind, ⟨cellB, g1, by rw [g3]; rfl, by rw [g2]; exact hcls.1⟩, (V_pre (av := pR (p1 + 1) :: av) hE hRe hS).2⟩
    exact V_of_run (oc := .inl (none)) C' hS hl e1 e2 hm1 (vx_runU ⟨hx, hb, hml, hown, hts⟩ hM.2 (va_cwA av.length hts hw rfl rfl rfl (hE.2.2.2.2.2.1 _ hz) hd0 hrm) hp rfl (List.length_map _) hl.1 (by show (av.reverse ++ pR (p1 + 1) :: rest).map tv = _; rw [List.map_append, List.map_reverse]; rfl) (rest_cat hcat) hd ⟨by show cells + (hN σ1 - hN σ) ≤ hN σe - hN σ0; omega, by show slots + (hU σ1 - hU σ) ≤ hU σe - hU σ0; omega⟩) (fun w hw => by cases hw; exact kk) (fun E q hq => by cases hq)
theorem V_callP_0 {y : MethodName} {bytes : ByteArray} {maxL frc loc idx : Nat} {retc : Option FieldType} {av : List PV} {b c n9 : Nat} {r : vw_C} (rest : List PV) (hM : MT l G y (ws_ y bytes maxL retc) frc loc (pR b :: av) σ S (.inl (none)) σ1 S1) (hs : st0 = av.reverse ++ pR b :: rest) (hn9 : av.length = n9) (q1 : Cond.methodLink own idx y ∈ lw_all) (q2 : Cond.sameMethod y.cls y.cls y.name y.desc ∈ lw_all) (q3 : Cond.selects r.1 y y ∈ nwS) (q4 : Cond.instanceMethod y ∈ lw_all) (q5 : Cond.initialized y.cls ∈ lw_all) (q6 : Cond.code y bytes maxL retc ∈ lw_all) (hd0 : y.cls ≠ "java/lang/invoke/MethodHandle" ∧ y.cls ≠ "java/lang/invoke/VarHandle" ∧ (parseMethodDescriptor y.desc).map (fun d => d.parameters.length) = some n9) (hrm : frc + 1 ≤ fr ∧ 8 + (maxL + 11) + loc ≤ lo) (hcat : (rest.map fun v => if c2 v = true then 2 else 1).sum ≤ 8) (hk : hK σ b = c + 1) (hcr : CL[c]? = some r) (hd : decode cc pc = .ok (.invokevirtual idx, 3)) (kk : V l G own cc nL ret xt ini fr lo σ0 o σe Se (pc + 3) L (rest) σ1 S1) : V l G own cc nL ret xt ini fr lo σ0 o σe Se pc L st0 σ S := by
  subst hs; subst hn9
  have hm1 := hM.1
  have hmo := kk.1
  have gd : ∀ w, w ∈ lw_all → w ∈ nwS ++ lw_all ∧ ((w.onTables && w.keeps) = true ∨ ∃ ty, w = .arrayClass ty) := fun w h => ⟨List.mem_append_right _ h, (lw_self w h).2⟩
  have hT : GoodIn (nwS ++ lw_all) (va_wsU own idx r.1 y.cls y y (ws_ y bytes maxL retc)) := by
    intro w hw
    simp only [va_wsU, List.mem_append, List.mem_cons, List.not_mem_nil, or_false] at hw
    rcases hw with (rfl | rfl | rfl | rfl | rfl) | (rfl | hw)
    · exact gd _ q1
    · exact gd _ q2
    · exact ⟨List.mem_append_left _ q3, Or.inl rfl⟩
    · exact gd _ q4
    · exact gd _ q5
    · exact gd _ q6
    · exact gd _ hw
  refine ⟨by omega, fun p e s m args below meth c9 H locs ls cells slots C hRe hS hl e1 e2 => ?_⟩
  · have C' := C
    obtain ⟨hx, hb, hml, hown, hts, hrt, hlk, hxt, hin, hst9, hE⟩ := C
    have hts2 : ∀ w ∈ nwS ++ lw_all, w.before args s = true := fun w hw => (List.mem_append.mp hw).elim (fun h => by
      have h9 := hE.2.2.2.2.2.2.2.2.2.1 w h
      simp only [List.mem_cons, List.not_mem_nil, or_false] at h
      rcases h with rfl | rfl <;> exact va_Nw.use rfl h9) (hts w)
    obtain ⟨p1, rfl, -, cellB, g1, g2, g3, -⟩ := hRe.ob (C := r.1) (T := r.2.1) (N := r.2.2) hk hcr
    have hcls := (hE.1.1 c _ hcr).2
    have hp : PreV s H r.1 p1 (va_Pc ((pR (p1 + 1) :: av).map tv) (Inv G σ S)) (av.map tv) := ⟨Inv_blind, ⟨cellB, g1, by rw [g3]; rfl, by rw [g2]; exact hcls.1⟩, (V_pre (av := pR (p1 + 1) :: av) hE hRe hS).2⟩
    exact V_of_run (oc := .inl (none)) C' hS hl e1 e2 hm1 (vx_runU ⟨hx, hb, hml, hown, hts2⟩ hM.2 (va_cwU av.length hts2 hT rfl rfl rfl rfl hd0 hrm) hp rfl (List.length_map _) hl.1 (by show (av.reverse ++ pR (p1 + 1) :: rest).map tv = _; rw [List.map_append, List.map_reverse]; rfl) (rest_cat hcat) hd ⟨by show cells + (hN σ1 - hN σ) ≤ hN σe - hN σ0; omega, by show slots + (hU σ1 - hU σ) ≤ hU σe - hU σ0; omega⟩) (fun w hw => by cases hw; exact kk) (fun E q hq => by cases hq)
theorem V_inst {idx a c : Nat} {r : vw_C} (h : gk σ (c + 1) a = some ()) (hcl : Cond.classLink own idx r.1 ∈ lw_all) (hcr : CL[c]? = some r) (hd : decode cc pc = .ok (.instanceof idx, 3)) (kk : V l G own cc nL ret xt ini fr lo σ0 o σe Se (pc + 3) L (pI 1 :: st) σ S) : V l G own cc nL ret xt ini fr lo σ0 o σe Se pc L (pR a :: st) σ S :=
  ⟨kk.1, fun p e s m args below meth c9 H locs ls cells slots C hRe hS hl e1 e2 => by
    have C' := C
    obtain ⟨hx, hb, hml, hown, hts, hrt, hlk, hxt, hin, hst9, hE⟩ := C
    have k9 := (kk.2 p e s m args below meth c9 H locs ls cells slots C' hRe hS hl e1 e2)
    obtain ⟨p1, rfl, -, cell, g1, g2, g3, -⟩ := hRe.ob (C := r.1) (T := r.2.1) (N := r.2.2) (gd_s h).1 hcr
    have hcls := (hE.1.1 c _ hcr).2
    exact va_instS hx hb hown (hts _ hcl) hcls ⟨cell, g1, by rw [g3]; rfl, by rw [g2]; exact hcls.1⟩ hd k9⟩
theorem V_rdN {idx a : Nat} {x : Int32} (hf : GFR own idx 18 0) (hq9 : Cond.fieldLink own idx "java/lang/Integer" "value" "I" ∈ lw_all) (h : rdN σ a = some x) (hd : decode cc pc = .ok (.getfield idx, 3)) (kk : V l G own cc nL ret xt ini fr lo σ0 o σe Se (pc + 3) L (pI x :: st) σ S) : V l G own cc nL ret xt ini fr lo σ0 o σe Se pc L (pR a :: st) σ S := by
  obtain ⟨h1, rfl⟩ := gd_s h
  rcases h1 with h1 | h1
  · exact V_getI (c := 18) (k := 0) hf rfl h1 hd kk
  · exact ⟨kk.1, fun p e s m args below meth c9 H locs ls cells slots C hRe hS hl e1 e2 => by
    have C' := C
    obtain ⟨hx, hb, hml, hown, hts, hrt, hlk, hxt, hin, hst9, hE⟩ := C
    have k9 := (kk.2 p e s m args below meth c9 H locs ls cells slots C' hRe hS hl e1 e2)
    cases a with
    | zero => rw [hRe.2.2.1] at h1; cases h1
    | succ p1 =>
      rcases hRe.2.2.2.1 p1 (by rw [h1]; decide) with ⟨c', r, z1, z2, -⟩ | ⟨t', z1, z2, z3, -⟩ | ⟨-, -, j, z2, z3, z4⟩ | ⟨z1, -⟩
      · have := CL_lt z2; omega
      · omega
      · obtain ⟨cf, k, fi, f, cell, w1, w2, w3, w4, w5, w6⟩ := (hE.2.1.kept hS.2.1).1.2 j z2
        rw [← z3] at w3
        rw [z4] at k9
        exact W.getf (a := p1) hx hb hown (hts _ hq9) w1 w2 w3 w4 (v := .int (vb_c j)) w5 rfl rfl hd k9
      · omega⟩
/-- the cache's array on the stack is used at once -/
theorem V_icGet {idx : Nat} {i9 : Int32} (L9 : Nat) (hq : Cond.fieldLink own idx "java/lang/Integer$IntegerCache" "cache" "[Ljava/lang/Integer;" ∈ lw_all) (hi : inB i9 256) (hd : decode cc pc = .ok (.getstatic idx, 3)) {n : Fin 4} {j : Nat} (hd1 : decode cc (pc + 3) = .ok (.iload_n n, 1)) {x : Int32} (hj : L[j]? = some ((n : Nat), pI x)) {k9 : Int} {v9 : Int32} (hd2 : decode cc (pc + 4) = .ok (.sipush k9, 3)) (hv9 : (Int16.ofInt k9).toInt32 = v9) (hd3 : decode cc (pc + 7) = .ok (.iadd, 1)) (hd4 : decode cc (pc + 8) = .ok (.aaload, 1)) (hix : x + v9 = i9) (kk : V l G own cc nL ret xt ini fr lo σ0 o σe Se (pc + 9) L (pR (hQ σ (10 + i9.toNatClampNeg)) :: st) σ S) : V l G own cc nL ret xt ini fr lo σ0 o σe Se pc L st σ S :=
  ⟨kk.1, fun p e s m args below meth c9 H locs ls cells slots C hRe hS hl e1 e2 => by
    have C' := C
    obtain ⟨hx, hb, hml, hown, hts, hrt, hlk, hxt, hin, hst9, hE⟩ := C
    have k9 := (kk.2 p e s m args below meth c9 H locs ls cells slots C' hRe hS hl e1 e2)
    have e9 : hQ σ (10 + i9.toNatClampNeg) = gic G i9.toNatClampNeg + 1 := by
      rw [hRe.2.2.2.2.1]
      simp only [qG]
      rw [if_neg (by omega), if_neg (by omega), if_neg (by omega), Nat.add_sub_cancel_left]
    rw [e9] at k9
    obtain ⟨-, -, -, -, hZ, hT, -⟩ := hE.2.1
    refine va_gets hx hb hZ hS hown (hts _ hq) (fun _ h => h) hd ?_
    refine lv_iload_n hx hb hd1 rfl (lv_at hl j (show (L.map tq)[j]? = some ((n : Nat), .int x) by rw [List.getElem?_map, hj]; rfl)) ?_
    refine lv_sipush hx hb hd2 hv9 ?_
    refine lv_iadd hx hb hd3 ?_
    rw [hix]
    exact vb_tq hx hb hT hS (inB_vp hi) rfl hd4 k9⟩
theorem V_mmax {idx : Nat} {x y : Int32} (q1 : Cond.methodLink own idx Lib.Math.max.name ∈ lw_all) (q2 : Cond.static Lib.Math.max.name ∈ lw_all) (q3 : Cond.initialized "java/lang/Math" ∈ lw_all) (q4 : Cond.code Lib.Math.max.name Lib.Math.max.code 2 (some .int) ∈ lw_all) (hfr : 1 ≤ fr) (hlo : (st.map fun v => if c2 v = true then 2 else 1).sum + 13 ≤ lo) (hd : decode cc pc = .ok (.invokestatic idx, 3)) (kk : V l G own cc nL ret xt ini fr lo σ0 o σe Se (pc + 3) L (pI (if x < y then y else x) :: st) σ S) : V l G own cc nL ret xt ini fr lo σ0 o σe Se pc L (pI y :: pI x :: st) σ S :=
  ⟨kk.1, fun p e s m args below meth c9 H locs ls cells slots C hRe hS hl e1 e2 => by
    have C' := C
    obtain ⟨hx, hb, hml, hown, hts, hrt, hlk, hxt, hin, hst9, hE⟩ := C
    have k9 := (kk.2 p e s m args below meth c9 H locs ls cells slots C' hRe hS hl e1 e2)
    have h8 : ((st.map tv).map fun v => v.category).sum + 13 ≤ lo := by
      rw [cat_sum]
      exact hlo
    have hm1 := kk.1
    exact va_mmax hx hb (hml.trans hl.1.symm) hown (hts _ q1) (hts _ q2) (hts _ q3) (hts _ q4) hfr h8 (by show cells ≤ hN σe - hN σ0; omega) (by show slots ≤ hU σe - hU σ0; omega) hd k9⟩
theorem V_mmin {idx : Nat} {x y : Int32} (q1 : Cond.methodLink own idx Lib.Math.min.name ∈ lw_all) (q2 : Cond.static Lib.Math.min.name ∈ lw_all) (q3 : Cond.initialized "java/lang/Math" ∈ lw_all) (q4 : Cond.code Lib.Math.min.name Lib.Math.min.code 2 (some .int) ∈ lw_all) (hfr : 1 ≤ fr) (hlo : (st.map fun v => if c2 v = true then 2 else 1).sum + 13 ≤ lo) (hd : decode cc pc = .ok (.invokestatic idx, 3)) (kk : V l G own cc nL ret xt ini fr lo σ0 o σe Se (pc + 3) L (pI (if y < x then y else x) :: st) σ S) : V l G own cc nL ret xt ini fr lo σ0 o σe Se pc L (pI y :: pI x :: st) σ S :=
  ⟨kk.1, fun p e s m args below meth c9 H locs ls cells slots C hRe hS hl e1 e2 => by
    have C' := C
    obtain ⟨hx, hb, hml, hown, hts, hrt, hlk, hxt, hin, hst9, hE⟩ := C
    have k9 := (kk.2 p e s m args below meth c9 H locs ls cells slots C' hRe hS hl e1 e2)
    have h8 : ((st.map tv).map fun v => v.category).sum + 13 ≤ lo := by
      rw [cat_sum]
      exact hlo
    have hm1 := kk.1
    exact va_mmin hx hb (hml.trans hl.1.symm) hown (hts _ q1) (hts _ q2) (hts _ q3) (hts _ q4) hfr h8 (by show cells ≤ hN σe - hN σ0; omega) (by show slots ≤ hU σe - hU σ0; omega) hd k9⟩
theorem V_mabs {idx : Nat} {x : Int32} (q1 : Cond.methodLink own idx Lib.Math.abs.name ∈ lw_all) (q2 : Cond.static Lib.Math.abs.name ∈ lw_all) (q3 : Cond.initialized "java/lang/Math" ∈ lw_all) (q4 : Cond.code Lib.Math.abs.name Lib.Math.abs.code 1 (some .int) ∈ lw_all) (hfr : 1 ≤ fr) (hlo : (st.map fun v => if c2 v = true then 2 else 1).sum + 13 ≤ lo) (hd : decode cc pc = .ok (.invokestatic idx, 3)) (kk : V l G own cc nL ret xt ini fr lo σ0 o σe Se (pc + 3) L (pI (if 0 ≤ x then x else 0 - x) :: st) σ S) : V l G own cc nL ret xt ini fr lo σ0 o σe Se pc L (pI x :: st) σ S :=
  ⟨kk.1, fun p e s m args below meth c9 H locs ls cells slots C hRe hS hl e1 e2 => by
    have C' := C
    obtain ⟨hx, hb, hml, hown, hts, hrt, hlk, hxt, hin, hst9, hE⟩ := C
    have k9 := (kk.2 p e s m args below meth c9 H locs ls cells slots C' hRe hS hl e1 e2)
    have h8 : ((st.map tv).map fun v => v.category).sum + 13 ≤ lo := by
      rw [cat_sum]
      exact hlo
    have hm1 := kk.1
    exact va_mabs hx hb (hml.trans hl.1.symm) hown (hts _ q1) (hts _ q2) (hts _ q3) (hts _ q4) hfr h8 (by show cells ≤ hN σe - hN σ0; omega) (by show slots ≤ hU σe - hU σ0; omega) hd k9⟩
/-- what a method that may throw answers: a value, or the thrown object's class and address -/
abbrev Ex (α : Type) : Type := α ⊕ (String × Nat)
def tOI : Ex Int32 → Oc
  | .inl v => .inl (some (pI v))
  | .inr x => .inr x
def tOR : Ex Nat → Oc
  | .inl v => .inl (some (pR v))
  | .inr x => .inr x
def tOV : Ex Unit → Oc
  | .inl _ => .inl none
  | .inr x => .inr x
def ex {α β : Type} (r : Ex α) (F : α → β) (X : String × Nat → β) : β := match r with
  | .inl v => F v
  | .inr x => X x
theorem ex_l {α β : Type} {v : α} {F : α → β} {X : String × Nat → β} {r : β} (h : ex (.inl v) F X = r) : F v = r := h
theorem ex_r {α β : Type} {v : String × Nat} {F : α → β} {X : String × Nat → β} {r : β} (h : ex (.inr v) F X = r) : X v = r := h
/-- the words of a throw: places in the tables -/
theorem at0_of {L : List Cond} {args : Array Value} {s : State} (ps : List Nat) (hp : L.filter goodWord = ps.filterMap (fun i => lw_tbl[i]?)) (hn : ∀ w ∈ L.filter (fun w => !goodWord w), (∃ q ∈ nwC, w = .castable q.1 q.2) ∨ ∃ x ∈ nwD, w = .declares x) (hts : ∀ w ∈ lw_all, w.before args s = true) (hE : Nws s) : ∀ w ∈ L, w.before args s = true := by
  intro w hw
  by_cases g : goodWord w = true
  · have h1 : w ∈ L.filter goodWord := List.mem_filter.mpr ⟨hw, g⟩
    rw [hp] at h1
    obtain ⟨i, -, hi⟩ := List.mem_filterMap.mp h1
    exact hts w (lw_w i hi g)
  · have h1 : w ∈ L.filter (fun w => !goodWord w) := List.mem_filter.mpr ⟨hw, by simpa using g⟩
    rcases hn w h1 with ⟨q, hq, rfl⟩ | ⟨x, hx, rfl⟩
    · exact va_Nw.use rfl (hE.2.2.1 q hq)
    · exact va_Nw.use rfl (hE.2.2.2.1 x hx)
theorem V_throw0 {E : String} {names : List String} {ik ic : Nat} (hcls : Bundle.fit E = true) (hnames : ∀ n ∈ names, Bundle.fit n = true) (hk : Cond.classLink own ik E ∈ lw_all) (hi9 : Cond.initialized E ∈ lw_all) (hat : ∀ (args : Array Value) (s : State), (∀ w ∈ lw_all, w.before args s = true) → Nws s → ∀ w ∈ vx_at0 own ic E names, w.before args s = true)
    (hgood : ∀ w ∈ Cond.classLink own ik E :: Cond.initialized E :: vx_at0 own ic E names, vx_ot w = true) (hx9 : ∀ x ∈ xt, covers x (pc + 7) = false)
    (d0 : decode cc pc = .ok (.new ik, 3)) (d3 : decode cc (pc + 3) = .ok (.dup, 1)) (d4 : decode cc (pc + 4) = .ok (.invokespecial ic, 3)) (d7 : decode cc (pc + 7) = .ok (.athrow, 1))
    (hfr : names.length + 3 < fr) (hlo : (st.map fun v => if c2 v = true then 2 else 1).sum + (13 * (names.length + 1) + 42) ≤ lo) (ho : o = .inr (E, hN σ) := by rfl) (hσ : σe = nX σ 6 := by rfl) (hSe : Se = S := by rfl) : V l G own cc nL ret xt ini fr lo σ0 o σe Se pc L st σ S := by
  subst ho; subst hσ; subst hSe
  exact ⟨⟨Nat.le_succ _, Nat.le_add_right _ _⟩, fun p e s m args below meth c9 H locs ls cells slots C hRe hS hl e1 e2 => by
    have C' := C
    obtain ⟨hx, hb, hml, hown, hts, hrt, hlk, hxt, hin, hst9, hE⟩ := C
    have hn1 := hRe.1
    have m1 : hN (nX σ 6) = hN σ + 1 := rfl
    have m2 : hU (nX σ 6) = hU σ + 6 := rfl
    have h8 : ((st.map tv).map fun v => v.category).sum + (13 * (names.length + 1) + 42) ≤ lo := by
      rw [cat_sum]
      exact hlo
    refine vx_throw0 (A := Af G) hx hb hst9 hown hcls hnames (hts _ hk) (hts _ hi9) (hat args s hts hE.2.2) hgood hE.2.1.2.2.2.2.2.2.2.2.2.1 hE.2.1.2.2.2.2.2.2.2.2.2.2.1 hS (hl.1.trans hml.symm) d0 d3 d4 d7 (fun x hx => by rw [hxt] at hx; exact hx9 x hx) hfr h8 (by show cells + 1 ≤ hN (nX σ 6) - hN σ0; omega) (by show slots + 6 ≤ hU (nX σ 6) - hU σ0; omega) hlk (fun t hal hz hkp => ?_) hS.2.2 (by omega) (by omega)
    refine ⟨⟨by rw [hn1], hRe.newX hz hkp⟩, ⟨by rw [hz]; exact Nat.le_trans hS.1 (Nat.le_succ _), fun q h1 h2 => ?_⟩⟩
    rw [hkp q (Nat.lt_of_lt_of_le h1 hS.1)]
    exact hS.2.1 q h1 h2⟩
theorem V_callVxI {y : MethodName} {bytes : ByteArray} {maxL frc loc idx n9 : Nat} {retc : Option FieldType} {av : List PV} {b c : Nat} {r : vw_C} {r9 : Ex Int32} (rest : List PV) (hM : MT l G y (ws_ y bytes maxL retc) frc loc (pR b :: av) σ S (tOI r9) σ1 S1) (hs : st0 = av.reverse ++ pR b :: rest) (hn9 : av.length = n9) (hw : GoodIn lw_all (wsV own idx r.1 y (ws_ y bytes maxL retc))) (hd0 : y.cls = r.1 ∧ y.cls ≠ "java/lang/invoke/MethodHandle" ∧ y.cls ≠ "java/lang/invoke/VarHandle" ∧ (parseMethodDescriptor y.desc).map (fun d => d.parameters.length) = some n9) (hrm : frc + 1 ≤ fr ∧ 8 + (maxL + 11) + loc ≤ lo) (hcat : (rest.map fun v => if c2 v = true then 2 else 1).sum ≤ 8) (hk : hK σ b = c + 1) (hcr : CL[c]? = some r) (hd : decode cc pc = .ok (.invokevirtual idx, 3)) (kk : ∀ y9, r9 = .inl y9 → V l G own cc nL ret xt ini fr lo σ0 o σe Se (pc + 3) L (pI y9 :: rest) σ1 S1) (kx : ∀ x9, r9 = .inr x9 → VX l G own cc nL ret xt ini fr lo σ0 o σe Se pc L x9.1 x9.2 σ1 S1) : V l G own cc nL ret xt ini fr lo σ0 o σe Se pc L st0 σ S := by
  subst hs; subst hn9
  rcases r9 with y9 | x9
  · exact V_callV hM hw hd0 hrm hcat hk hcr hd (fun w hw => by cases hw; exact kk y9 rfl) (fun E q hq => by cases hq)
  · exact V_callV hM hw hd0 hrm hcat hk hcr hd (fun w hw => by cases hw) (fun E q hq => by cases hq; exact kx _ rfl)
theorem V_callVxR {y : MethodName} {bytes : ByteArray} {maxL frc loc idx n9 : Nat} {retc : Option FieldType} {av : List PV} {b c : Nat} {r : vw_C} {r9 : Ex Nat} (rest : List PV) (hM : MT l G y (ws_ y bytes maxL retc) frc loc (pR b :: av) σ S (tOR r9) σ1 S1) (hs : st0 = av.reverse ++ pR b :: rest) (hn9 : av.length = n9) (hw : GoodIn lw_all (wsV own idx r.1 y (ws_ y bytes maxL retc))) (hd0 : y.cls = r.1 ∧ y.cls ≠ "java/lang/invoke/MethodHandle" ∧ y.cls ≠ "java/lang/invoke/VarHandle" ∧ (parseMethodDescriptor y.desc).map (fun d => d.parameters.length) = some n9) (hrm : frc + 1 ≤ fr ∧ 8 + (maxL + 11) + loc ≤ lo) (hcat : (rest.map fun v => if c2 v = true then 2 else 1).sum ≤ 8) (hk : hK σ b = c + 1) (hcr : CL[c]? = some r) (hd : decode cc pc = .ok (.invokevirtual idx, 3)) (kk : ∀ y9, r9 = .inl y9 → V l G own cc nL ret xt ini fr lo σ0 o σe Se (pc + 3) L (pR y9 :: rest) σ1 S1) (kx : ∀ x9, r9 = .inr x9 → VX l G own cc nL ret xt ini fr lo σ0 o σe Se pc L x9.1 x9.2 σ1 S1) : V l G own cc nL ret xt ini fr lo σ0 o σe Se pc L st0 σ S := by
  subst hs; subst hn9
  rcases r9 with y9 | x9
  · exact V_callV hM hw hd0 hrm hcat hk hcr hd (fun w hw => by cases hw; exact kk y9 rfl) (fun E q hq => by cases hq)
  · exact V_callV hM hw hd0 hrm hcat hk hcr hd (fun w hw => by cases hw) (fun E q hq => by cases hq; exact kx _ rfl)
theorem V_callVxV {y : MethodName} {bytes : ByteArray} {maxL frc loc idx n9 : Nat} {retc : Option FieldType} {av : List PV} {b c : Nat} {r : vw_C} {r9 : Ex Unit} (rest : List PV) (hM : MT l G y (ws_ y bytes maxL retc) frc loc (pR b :: av) σ S (tOV r9) σ1 S1) (hs : st0 = av.reverse ++ pR b :: rest) (hn9 : av.length = n9) (hw : GoodIn lw_all (wsV own idx r.1 y (ws_ y bytes maxL retc))) (hd0 : y.cls = r.1 ∧ y.cls ≠ "java/lang/invoke/MethodHandle" ∧ y.cls ≠ "java/lang/invoke/VarHandle" ∧ (parseMethodDescriptor y.desc).map (fun d => d.parameters.length) = some n9) (hrm : frc + 1 ≤ fr ∧ 8 + (maxL + 11) + loc ≤ lo) (hcat : (rest.map fun v => if c2 v = true then 2 else 1).sum ≤ 8) (hk : hK σ b = c + 1) (hcr : CL[c]? = some r) (hd : decode cc pc = .ok (.invokevirtual idx, 3)) (kk : ∀ y9, r9 = .inl y9 → V l G own cc nL ret xt ini fr lo σ0 o σe Se (pc + 3) L (rest) σ1 S1) (kx : ∀ x9, r9 = .inr x9 → VX l G own cc nL ret xt ini fr lo σ0 o σe Se pc L x9.1 x9.2 σ1 S1) : V l G own cc nL ret xt ini fr lo σ0 o σe Se pc L st0 σ S := by
  subst hs; subst hn9
  rcases r9 with y9 | x9
  · exact V_callV hM hw hd0 hrm hcat hk hcr hd (fun w hw => by cases hw; exact kk y9 rfl) (fun E q hq => by cases hq)
  · exact V_callV hM hw hd0 hrm hcat hk hcr hd (fun w hw => by cases hw) (fun E q hq => by cases hq; exact kx _ rfl)
theorem V_callSxI {y : MethodName} {bytes : ByteArray} {maxL frc loc idx n9 : Nat} {retc : Option FieldType} {av : List PV} {r9 : Ex Int32} (rest : List PV) (hM : MT l G y (ws_ y bytes maxL retc) frc loc (av) σ S (tOI r9) σ1 S1) (hs : st0 = av.reverse ++ rest) (hn9 : av.length = n9) (hw : GoodIn lw_all (va_wsS own idx y (ws_ y bytes maxL retc))) (hd0 : y.cls ≠ "java/lang/invoke/MethodHandle" ∧ y.cls ≠ "java/lang/invoke/VarHandle" ∧ (parseMethodDescriptor y.desc).map (fun d => d.parameters.length) = some n9) (hrm : frc + 1 ≤ fr ∧ 8 + (maxL + 11) + loc ≤ lo) (hcat : (rest.map fun v => if c2 v = true then 2 else 1).sum ≤ 8) (hd : decode cc pc = .ok (.invokestatic idx, 3)) (kk : ∀ y9, r9 = .inl y9 → V l G own cc nL ret xt ini fr lo σ0 o σe Se (pc + 3) L (pI y9 :: rest) σ1 S1) (kx : ∀ x9, r9 = .inr x9 → VX l G own cc nL ret xt ini fr lo σ0 o σe Se pc L x9.1 x9.2 σ1 S1) : V l G own cc nL ret xt ini fr lo σ0 o σe Se pc L st0 σ S := by
  subst hs; subst hn9
  rcases r9 with y9 | x9
  · exact V_callS hM hw hd0 hrm hcat hd (fun w hw => by cases hw; exact kk y9 rfl) (fun E q hq => by cases hq)
  · exact V_callS hM hw hd0 hrm hcat hd (fun w hw => by cases hw) (fun E q hq => by cases hq; exact kx _ rfl)
theorem V_callSxR {y : MethodName} {bytes : ByteArray} {maxL frc loc idx n9 : Nat} {retc : Option FieldType} {av : List PV} {r9 : Ex Nat} (rest : List PV) (hM : MT l G y (ws_ y bytes maxL retc) frc loc (av) σ S (tOR r9) σ1 S1) (hs : st0 = av.reverse ++ rest) (hn9 : av.length = n9) (hw : GoodIn lw_all (va_wsS own idx y (ws_ y bytes maxL retc))) (hd0 : y.cls ≠ "java/lang/invoke/MethodHandle" ∧ y.cls ≠ "java/lang/invoke/VarHandle" ∧ (parseMethodDescriptor y.desc).map (fun d => d.parameters.length) = some n9) (hrm : frc + 1 ≤ fr ∧ 8 + (maxL + 11) + loc ≤ lo) (hcat : (rest.map fun v => if c2 v = true then 2 else 1).sum ≤ 8) (hd : decode cc pc = .ok (.invokestatic idx, 3)) (kk : ∀ y9, r9 = .inl y9 → V l G own cc nL ret xt ini fr lo σ0 o σe Se (pc + 3) L (pR y9 :: rest) σ1 S1) (kx : ∀ x9, r9 = .inr x9 → VX l G own cc nL ret xt ini fr lo σ0 o σe Se pc L x9.1 x9.2 σ1 S1) : V l G own cc nL ret xt ini fr lo σ0 o σe Se pc L st0 σ S := by
  subst hs; subst hn9
  rcases r9 with y9 | x9
  · exact V_callS hM hw hd0 hrm hcat hd (fun w hw => by cases hw; exact kk y9 rfl) (fun E q hq => by cases hq)
  · exact V_callS hM hw hd0 hrm hcat hd (fun w hw => by cases hw) (fun E q hq => by cases hq; exact kx _ rfl)
theorem V_callSxV {y : MethodName} {bytes : ByteArray} {maxL frc loc idx n9 : Nat} {retc : Option FieldType} {av : List PV} {r9 : Ex Unit} (rest : List PV) (hM : MT l G y (ws_ y bytes maxL retc) frc loc (av) σ S (tOV r9) σ1 S1) (hs : st0 = av.reverse ++ rest) (hn9 : av.length = n9) (hw : GoodIn lw_all (va_wsS own idx y (ws_ y bytes maxL retc))) (hd0 : y.cls ≠ "java/lang/invoke/MethodHandle" ∧ y.cls ≠ "java/lang/invoke/VarHandle" ∧ (parseMethodDescriptor y.desc).map (fun d => d.parameters.length) = some n9) (hrm : frc + 1 ≤ fr ∧ 8 + (maxL + 11) + loc ≤ lo) (hcat : (rest.map fun v => if c2 v = true then 2 else 1).sum ≤ 8) (hd : decode cc pc = .ok (.invokestatic idx, 3)) (kk : ∀ y9, r9 = .inl y9 → V l G own cc nL ret xt ini fr lo σ0 o σe Se (pc + 3) L (rest) σ1 S1) (kx : ∀ x9, r9 = .inr x9 → VX l G own cc nL ret xt ini fr lo σ0 o σe Se pc L x9.1 x9.2 σ1 S1) : V l G own cc nL ret xt ini fr lo σ0 o σe Se pc L st0 σ S := by
  subst hs; subst hn9
  rcases r9 with y9 | x9
  · exact V_callS hM hw hd0 hrm hcat hd (fun w hw => by cases hw; exact kk y9 rfl) (fun E q hq => by cases hq)
  · exact V_callS hM hw hd0 hrm hcat hd (fun w hw => by cases hw) (fun E q hq => by cases hq; exact kx _ rfl)
end VSpecial2
