/-! METHODS WITH HANDLERS -/
section VHand
variable {l : Launch} {G : Gx} {own : String} {cc : ByteArray} {nL : Nat} {ret : Option FieldType} {xt : List ExceptionTableEntry} {ini : Bool} {fr lo : Nat} {σ0 σe : Hp} {o : Oc} {Se : Ms} {pc : Nat} {L L' : Lo} {st st0 : List PV} {σ σ1 : Hp} {S S1 : Ms}

theorem V_callVH {y : MethodName} {bytes : ByteArray} {maxL frc loc idx : Nat} {retc : Option FieldType} {hh : List (Nat × Nat × Nat × Nat)} {av rest : List PV} {σ1 : Hp} {S1 : Ms} {oc : Oc} {b c : Nat} {r : vw_C} (hM : MT l G y (wsW_ y bytes maxL retc hh) frc loc (pR b :: av) σ S oc σ1 S1) (hw : GoodIn lw_all (wsV own idx r.1 y (wsW_ y bytes maxL retc hh))) (hd0 : y.cls = r.1 ∧ y.cls ≠ "java/lang/invoke/MethodHandle" ∧ y.cls ≠ "java/lang/invoke/VarHandle" ∧ (parseMethodDescriptor y.desc).map (fun d => d.parameters.length) = some av.length) (hrm : frc + 1 ≤ fr ∧ 8 + (maxL + 11) + loc ≤ lo) (hcat : (rest.map fun v => if c2 v = true then 2 else 1).sum ≤ 8) (hk : hK σ b = c + 1) (hcr : CL[c]? = some r) (hd : decode cc pc = .ok (.invokevirtual idx, 3)) (kk : ∀ v, oc = .inl v → V l G own cc nL ret xt ini fr lo σ0 o σe Se (pc + 3) L (v.toList ++ rest) σ1 S1) (kx : ∀ E q, oc = .inr (E, q) → VX l G own cc nL ret xt ini fr lo σ0 o σe Se pc L E q σ1 S1) : V l G own cc nL ret xt ini fr lo σ0 o σe Se pc L (av.reverse ++ pR b :: rest) σ S :=
  ⟨by
    have hm1 := hM.1
    rcases oc with v | ⟨E, q⟩
    · have := (kk v rfl).1; omega
    · have := (kx E q rfl).1; omega, fun p e s m args below meth c9 H locs ls cells slots C hRe hS hl e1 e2 => by
    have C' := C
    obtain ⟨hx, hb, hml, hown, hts, hrt, hlk, hxt, hin, hst9, hE⟩ := C
    have hmo : hN σ1 ≤ hN σe ∧ hU σ1 ≤ hU σe := by
      rcases oc with v | ⟨E, q⟩
      · exact (kk v rfl).1
      · exact (kx E q rfl).1
    have hm1 := hM.1
    obtain ⟨p1, rfl, -, cellB, g1, g2, g3, -⟩ := hRe.ob (C := r.1) (T := r.2.1) (N := r.2.2) hk hcr
    have hcls := (hE.1.1 c _ hcr).2
    have hp : PreV s H r.1 p1 (va_Pc ((pR (p1 + 1) :: av).map tv) (Inv G σ S)) (av.map tv) := ⟨Inv_blind, ⟨cellB, g1, by rw [g3]; rfl, by rw [g2]; exact hcls.1⟩, (V_pre (av := pR (p1 + 1) :: av) hE hRe hS).2⟩
    exact V_of_run C' hS hl e1 e2 hm1 (vx_runVX ⟨hx, hb, hml, hown, hts⟩ hM.2 (vx_cwVW av.length hts hw rfl rfl rfl hd0 hrm) hp rfl (List.length_map _) hl.1 (by show (av.reverse ++ pR (p1 + 1) :: rest).map tv = _; rw [List.map_append, List.map_reverse]; rfl) (rest_cat hcat) hd ⟨by show cells + (hN σ1 - hN σ) ≤ hN σe - hN σ0; omega, by show slots + (hU σ1 - hU σ) ≤ hU σe - hU σ0; omega⟩) kk kx⟩

theorem V_callSH {y : MethodName} {bytes : ByteArray} {maxL frc loc idx : Nat} {retc : Option FieldType} {hh : List (Nat × Nat × Nat × Nat)} {av rest : List PV} {σ1 : Hp} {S1 : Ms} {oc : Oc} (hM : MT l G y (wsW_ y bytes maxL retc hh) frc loc (av) σ S oc σ1 S1) (hw : GoodIn lw_all (va_wsS own idx y (wsW_ y bytes maxL retc hh))) (hd0 : y.cls ≠ "java/lang/invoke/MethodHandle" ∧ y.cls ≠ "java/lang/invoke/VarHandle" ∧ (parseMethodDescriptor y.desc).map (fun d => d.parameters.length) = some av.length) (hrm : frc + 1 ≤ fr ∧ 8 + (maxL + 11) + loc ≤ lo) (hcat : (rest.map fun v => if c2 v = true then 2 else 1).sum ≤ 8) (hd : decode cc pc = .ok (.invokestatic idx, 3)) (kk : ∀ v, oc = .inl v → V l G own cc nL ret xt ini fr lo σ0 o σe Se (pc + 3) L (v.toList ++ rest) σ1 S1) (kx : ∀ E q, oc = .inr (E, q) → VX l G own cc nL ret xt ini fr lo σ0 o σe Se pc L E q σ1 S1) : V l G own cc nL ret xt ini fr lo σ0 o σe Se pc L (av.reverse ++ rest) σ S :=
  ⟨by
    have hm1 := hM.1
    rcases oc with v | ⟨E, q⟩
    · have := (kk v rfl).1; omega
    · have := (kx E q rfl).1; omega, fun p e s m args below meth c9 H locs ls cells slots C hRe hS hl e1 e2 => by
    have C' := C
    obtain ⟨hx, hb, hml, hown, hts, hrt, hlk, hxt, hin, hst9, hE⟩ := C
    have hmo : hN σ1 ≤ hN σe ∧ hU σ1 ≤ hU σe := by
      rcases oc with v | ⟨E, q⟩
      · exact (kk v rfl).1
      · exact (kx E q rfl).1
    have hm1 := hM.1
    exact V_of_run C' hS hl e1 e2 hm1 (vx_runSX ⟨hx, hb, hml, hown, hts⟩ hM.2 (vx_cwSW av.length hts hw rfl rfl rfl hd0 hrm) (V_pre hE hRe hS) rfl (List.length_map _) hl.1 (by show (av.reverse ++ rest).map tv = _; rw [List.map_append, List.map_reverse]) (rest_cat hcat) hd ⟨by show cells + (hN σ1 - hN σ) ≤ hN σe - hN σ0; omega, by show slots + (hU σ1 - hU σ) ≤ hU σe - hU σ0; omega⟩) kk kx⟩

theorem V_callVH_v {y : MethodName} {bytes : ByteArray} {maxL frc loc idx : Nat} {retc : Option FieldType} {hh : List (Nat × Nat × Nat × Nat)} {av : List PV} {b c : Nat} {r : vw_C} {v : PV} (rest : List PV) (hM : MT l G y (wsW_ y bytes maxL retc hh) frc loc (pR b :: av) σ S (.inl (some v)) σ1 S1) {n9 : Nat} (hs : st0 = av.reverse ++ pR b :: rest) (hn9 : av.length = n9) (hw : GoodIn lw_all (wsV own idx r.1 y (wsW_ y bytes maxL retc hh))) (hd0 : y.cls = r.1 ∧ y.cls ≠ "java/lang/invoke/MethodHandle" ∧ y.cls ≠ "java/lang/invoke/VarHandle" ∧ (parseMethodDescriptor y.desc).map (fun d => d.parameters.length) = some n9) (hrm : frc + 1 ≤ fr ∧ 8 + (maxL + 11) + loc ≤ lo) (hcat : (rest.map fun v => if c2 v = true then 2 else 1).sum ≤ 8) (hk : hK σ b = c + 1) (hcr : CL[c]? = some r) (hd : decode cc pc = .ok (.invokevirtual idx, 3)) (kk : V l G own cc nL ret xt ini fr lo σ0 o σe Se (pc + 3) L (v :: rest) σ1 S1) : V l G own cc nL ret xt ini fr lo σ0 o σe Se pc L st0 σ S := by
  subst hs; subst hn9
  exact V_callVH hM hw hd0 hrm hcat hk hcr hd (fun w hw => by cases hw; exact kk) (fun E q hq => by cases hq)

theorem V_callSH_v {y : MethodName} {bytes : ByteArray} {maxL frc loc idx : Nat} {retc : Option FieldType} {hh : List (Nat × Nat × Nat × Nat)} {av : List PV} {v : PV} (rest : List PV) (hM : MT l G y (wsW_ y bytes maxL retc hh) frc loc (av) σ S (.inl (some v)) σ1 S1) {n9 : Nat} (hs : st0 = av.reverse ++ rest) (hn9 : av.length = n9) (hw : GoodIn lw_all (va_wsS own idx y (wsW_ y bytes maxL retc hh))) (hd0 : y.cls ≠ "java/lang/invoke/MethodHandle" ∧ y.cls ≠ "java/lang/invoke/VarHandle" ∧ (parseMethodDescriptor y.desc).map (fun d => d.parameters.length) = some n9) (hrm : frc + 1 ≤ fr ∧ 8 + (maxL + 11) + loc ≤ lo) (hcat : (rest.map fun v => if c2 v = true then 2 else 1).sum ≤ 8) (hd : decode cc pc = .ok (.invokestatic idx, 3)) (kk : V l G own cc nL ret xt ini fr lo σ0 o σe Se (pc + 3) L (v :: rest) σ1 S1) : V l G own cc nL ret xt ini fr lo σ0 o σe Se pc L st0 σ S := by
  subst hs; subst hn9
  exact V_callSH hM hw hd0 hrm hcat hd (fun w hw => by cases hw; exact kk) (fun E q hq => by cases hq)

theorem V_callVHxI {y : MethodName} {bytes : ByteArray} {maxL frc loc idx n9 : Nat} {retc : Option FieldType} {hh : List (Nat × Nat × Nat × Nat)} {av : List PV} {b c : Nat} {r : vw_C} {r9 : Ex Int32} (rest : List PV) (hM : MT l G y (wsW_ y bytes maxL retc hh) frc loc (pR b :: av) σ S (tOI r9) σ1 S1) (hs : st0 = av.reverse ++ pR b :: rest) (hn9 : av.length = n9) (hw : GoodIn lw_all (wsV own idx r.1 y (wsW_ y bytes maxL retc hh))) (hd0 : y.cls = r.1 ∧ y.cls ≠ "java/lang/invoke/MethodHandle" ∧ y.cls ≠ "java/lang/invoke/VarHandle" ∧ (parseMethodDescriptor y.desc).map (fun d => d.parameters.length) = some n9) (hrm : frc + 1 ≤ fr ∧ 8 + (maxL + 11) + loc ≤ lo) (hcat : (rest.map fun v => if c2 v = true then 2 else 1).sum ≤ 8) (hk : hK σ b = c + 1) (hcr : CL[c]? = some r) (hd : decode cc pc = .ok (.invokevirtual idx, 3)) (kk : ∀ y9, r9 = .inl y9 → V l G own cc nL ret xt ini fr lo σ0 o σe Se (pc + 3) L (pI y9 :: rest) σ1 S1) (kx : ∀ x9, r9 = .inr x9 → VX l G own cc nL ret xt ini fr lo σ0 o σe Se pc L x9.1 x9.2 σ1 S1) : V l G own cc nL ret xt ini fr lo σ0 o σe Se pc L st0 σ S := by
  subst hs; subst hn9
  rcases r9 with y9 | x9
  · exact V_callVH hM hw hd0 hrm hcat hk hcr hd (fun w hw => by cases hw; exact kk y9 rfl) (fun E q hq => by cases hq)
  · exact V_callVH hM hw hd0 hrm hcat hk hcr hd (fun w hw => by cases hw) (fun E q hq => by cases hq; exact kx _ rfl)

theorem MT_ofH {hh : List (Nat × Nat × Nat × Nat)} {y : MethodName} {av : List PV} {σ' : Hp} {S' : Ms} (hy : plainName y.cls = true) (hown : y.cls = own) (hsz : (av.map fun v => if c2 v = true then 2 else 1).sum ≤ nL) (hini : ini = true → y.name = "<init>") (hst : l.stackTraces = false)
    (k : V l G own cc nL ret (tableOf hh) ini fr lo σ o σ' S' 0 (entL 0 av) [] σ S) : MT l G y (wsW_ y cc nL ret hh) fr lo av σ S o σ' S' := by
  refine ⟨k.1, vx_ofWH (cc := cc) (maxL := nL) (ret := ret) hy rfl ?_⟩
  intro p e s m args below meth c s₁ B hml hv
  obtain ⟨rfl, hR, hE⟩ := hv
  have hts := atoms_spec (ws := wsW_ y cc nL ret hh) B.pre
  have hts9 := hts
  have hts : ∀ w ∈ lw_all, w.before _ s = true := fun w h => hts w (List.mem_cons_of_mem _ h)
  have hl := lv_entry (av.map tv) (n := nL) (by rw [lg_len]; exact hsz)
  rw [lg_entry_eq]
  generalize (lg_sl (av.map tv) ++ List.replicate (nL - (lg_sl (av.map tv)).length) Slot.unset).toArray = ls at hl ⊢
  rw [← entL_map] at hl
  have hx0 : c.exceptionTable.toList = tableOf hh := vx_table (x := y) B (hts9 _ List.mem_cons_self)
  exact k.2 p e s m _ below meth c s.heap [] ls 0 0 ⟨B.exec, B.bytes, hml, by rw [← hown]; exact findClass_of_methodNamed B.named, hts, B.returns, B.notSynchronized, hx0, fun h => ((name_of_methodNamed B.named B.method).1).trans (hini h), hst, hE⟩ hR va_S.rf hl (by omega) (by omega)
/-! the model's cells -/

/-- caught here: by the row z of the table -/
theorem VX_catch {E nm : String} {a : Nat} (pre : List ExceptionTableEntry) (z : ExceptionTableEntry) (suf : List ExceptionTableEntry) (hx9 : xt = pre ++ z :: suf) (hpass : ∀ y ∈ pre, covers y pc = false ∨ (y.catchType ≠ 0 ∧ ∃ n9 : String, Cond.classLink own y.catchType n9 ∈ lw_all ∧ (E, n9) ∈ nwK)) (hc : covers z pc = true) (h0 : z.catchType ≠ 0) (hl9 : Cond.classLink own z.catchType nm ∈ lw_all) (hcast : (E, nm) ∈ nwC) (kk : V l G own cc nL ret xt ini fr lo σ0 o σe Se z.handlerPc L [pR a] σ S) : VX l G own cc nL ret xt ini fr lo σ0 o σe Se pc L E a σ S :=
  ⟨kk.1, fun p e s m args below meth c9 H locs ls cells slots rest q ce C hRe hS hl e1 e2 e3 h1 h2 h3 => by
    have h9 := kk.2 p e s m args below meth c9 H locs ls cells slots C hRe hS hl e1 e2
    obtain ⟨hx, hb, hml, hown, hts, hrt, hlk, hxt, hin, hst9, hE⟩ := C
    subst e3
    exact vx_catch (name := nm) hown pre z suf (hxt.trans hx9) (fun y hy => by
      rcases hpass y hy with h | ⟨g1, n9, g2, g3⟩
      · exact Or.inl h
      · exact Or.inr ⟨g1, n9, hts _ g2, hE.2.2.2.2.2.2.2.2.2.2 _ g3⟩) hc h0 (hts _ hl9) (va_Nw.use rfl (hE.2.2.2.2.1 (E, nm) hcast)) h1 h2 h3 h9⟩
end VHand
theorem hp_1 {P : ExceptionTableEntry → Prop} {a : Nat × Nat × Nat × Nat} (h : P ⟨a.1, a.2.1, a.2.2.1, a.2.2.2⟩) : ∀ y ∈ tableOf [a], P y := by
  intro y hy
  obtain ⟨z, hz, rfl⟩ := List.mem_map.mp hy
  cases List.mem_singleton.mp hz
  exact h
theorem hp_2 {P : ExceptionTableEntry → Prop} {a b : Nat × Nat × Nat × Nat} (h : P ⟨a.1, a.2.1, a.2.2.1, a.2.2.2⟩) (h2 : P ⟨b.1, b.2.1, b.2.2.1, b.2.2.2⟩) : ∀ y ∈ tableOf [a, b], P y := by
  intro y hy
  obtain ⟨z, hz, rfl⟩ := List.mem_map.mp hy
  rcases List.mem_cons.mp hz with rfl | hz
  · exact h
  · cases List.mem_singleton.mp hz
    exact h2
