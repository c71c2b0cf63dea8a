/-! ROWS OF V, fourth part: a method out of its body; the model's own cells; exceptions -/
section VModel
variable {l : Launch} {G : Gx} {own : String} {cc : ByteArray} {nL : Nat} {ret : Option FieldType} {xt : List ExceptionTableEntry} {ini : Bool} {fr lo : Nat} {σ0 σe : Hp} {o : Oc} {Se : Ms} {pc : Nat} {L L' : Lo} {st : List PV} {σ : Hp} {S : Ms}
def entL : Nat → List PV → Lo
  | _, [] => []
  | i, v :: vs => (i, v) :: entL (if c2 v = true then i + 2 else i + 1) vs
theorem entL_map : ∀ (av : List PV) (i : Nat), (entL i av).map tq = lv_args i (av.map tv)
  | [], _ => rfl
  | v :: vs, i => by
    show tq (i, v) :: (entL _ vs).map tq = (i, tv v) :: lv_args (if (tv v).category = 2 then i + 2 else i + 1) (vs.map tv)
    rw [entL_map vs, tv_cat]
    cases c2 v <;> rfl
theorem lg_len : ∀ (av : List PV), (lg_sl (av.map tv)).length = (av.map fun v => if c2 v = true then 2 else 1).sum
  | [] => rfl
  | v :: vs => by
    show (lg_sl (tv v :: vs.map tv)).length = _
    have ih := lg_len vs
    simp only [lg_sl, List.flatMap_cons, List.length_append, List.map_cons, List.sum_cons] at ih ⊢
    rw [ih, ← tv_cat]
    rcases lv_cat (tv v) with h | h <;> simp [h]
theorem MT_of {y : MethodName} {av : List PV} {σ' : Hp} {S' : Ms} (hy : plainName y.cls = true) (hown : y.cls = own) (hsz : (av.map fun v => if c2 v = true then 2 else 1).sum ≤ nL) (hini : ini = true → y.name = "<init>") (hst : l.stackTraces = false)
    (k : V l G own cc nL ret [] ini fr lo σ o σ' S' 0 (entL 0 av) [] σ S) : MT l G y (ws_ y cc nL ret) fr lo av σ S o σ' S' := by
  refine ⟨k.1, vx_ofW (cc := cc) (maxL := nL) (ret := ret) hy rfl ?_⟩
  intro p e s m args below meth c s₁ B hml hxt hv
  obtain ⟨rfl, hR, hE⟩ := hv
  have hts := atoms_spec (ws := ws_ y cc nL ret) B.pre
  have hts : ∀ w ∈ lw_all, w.before _ s = true := fun w h => hts w (List.mem_cons_of_mem _ h)
  have hl := lv_entry (av.map tv) (n := nL) (by rw [lg_len]; exact hsz)
  rw [lg_entry_eq]
  generalize (lg_sl (av.map tv) ++ List.replicate (nL - (lg_sl (av.map tv)).length) Slot.unset).toArray = ls at hl ⊢
  rw [← entL_map] at hl
  have hx0 : c.exceptionTable.toList = [] := by
    cases h : c.exceptionTable.toList with
    | nil => rfl
    | cons a b => exact absurd (show a ∈ c.exceptionTable.toList by rw [h]; exact List.mem_cons_self) (hxt a)
  exact k.2 p e s m _ below meth c s.heap [] ls 0 0 ⟨B.exec, B.bytes, hml, by rw [← hown]; exact findClass_of_methodNamed B.named, hts, B.returns, B.notSynchronized, hx0, fun h => ((name_of_methodNamed B.named B.method).1).trans (hini h), hst, hE⟩ hR va_S.rf hl (by omega) (by omega)
/-! the model's cells -/
theorem Rep.mob {H : Heap} (hR : Rep G σ S H) (hm : gmo G ≠ 0) : (∃ p, gmo G = p + 1 ∧ gB G ≤ p ∧ hK σ (p + 1) = 0 ∧ t_OB p (gC G 19) 18 (gI G 19) H (mfv G S)) ∧
   (∀ k ∈ mar, ∃ p, gma G k = p + 1 ∧ gB G ≤ p ∧ hK σ (p + 1) = 0 ∧ p + 1 ≠ gmo G ∧ H[p]? = some (arrV (gA G (mty k)) (mlen k) (fun j => .int (S.2 k j)))) ∧
   (∀ k ∈ mar, ∀ j ∈ mar, gma G k = gma G j → k = j) := hR.2.2.2.2.2.resolve_left hm
theorem V_mget {idx k : Nat} {v : PV} (hm : gmo G ≠ 0) (hf : GFR own idx 19 k) (hk : k < 18) (hv : mfv G S k = tv v) (hd : decode cc pc = .ok (.getfield idx, 3)) (kk : V l G own cc nL ret xt ini fr lo σ0 o σe Se (pc + 3) L (v :: st) σ S) : V l G own cc nL ret xt ini fr lo σ0 o σe Se pc L (pR (gmo G) :: st) σ S :=
  ⟨kk.1, fun p e s m args below meth c9 H locs ls cells slots C hRe hS hl e1 e2 => by
    have C' := C
    obtain ⟨hx, hb, hml, hown, hts, hrt, hlk, hxt, hin, hst9, hE⟩ := C
    obtain ⟨C1, T, N, ref, ⟨h1, h2, h3, h4⟩, h5, h6, h7⟩ := hf
    obtain ⟨⟨p1, ep, -, -, cell, q1, q2, q3, q4⟩, -⟩ := hRe.mob hm
    obtain ⟨hSl, hfc, kC, hkC, hkind⟩ := hE.1.1 19 _ h1
    obtain ⟨cf, kf, fi, f, hi, hsl⟩ := hSl k h5
    have hi' : s.fieldFound? ref (T k).2.1 (T k).2.2.1 = some (cf, kf, fi, f) := by
      rcases h7 with e | e
      · rw [e]; exact hi
      · exact u_same (hts _ e) _ hi
    have k9 := (kk.2 p e s m args below meth c9 H locs ls cells slots C' hRe hS hl e1 e2)
    rw [ep]
    refine W.getf (a := p1) hx hb hown (hts _ h6) hi' (u_facts hfc hkC (u_lays hts h2 h5) hi).1 q1 (by rw [q3]; exact fun h => by cases h) (v := tv v) ?_ rfl rfl hd k9
    rw [hsl, q4 k hk, hv]⟩
theorem V_mput {idx k : Nat} {x : Int32} (hm : gmo G ≠ 0) (hf : GF own idx 19 k false) (hk : k < 18) (hi9 : fty 19 k = .int) (hd : decode cc pc = .ok (.putfield idx, 3)) (kk : V l G own cc nL ret xt ini fr lo σ0 o σe Se (pc + 3) L st σ (sM S k x)) : V l G own cc nL ret xt ini fr lo σ0 o σe Se pc L (pI x :: pR (gmo G) :: st) σ S :=
  ⟨kk.1, fun p e s m args below meth c9 H locs ls cells slots C hRe hS hl e1 e2 => by
    have C' := C
    obtain ⟨hx, hb, hml, hown, hts, hrt, hlk, hxt, hin, hst9, hE⟩ := C
    obtain ⟨C1, T, N, ref, hci, h5, h6, h7, h8, h9⟩ := hf
    have hap := ap_of hci hts hE.1
    obtain ⟨h1, h2, h3, h4⟩ := hci
    have hN18 : (C1, T, N) = (RX3, TX3, 18) := Option.some.inj (h1.symm.trans (show CL[19]? = some (RX3, TX3, 18) from rfl))
    obtain ⟨⟨p1, ep, hgb, hk0, cell, q1, q2, q3, q4⟩, g5, g6⟩ := hRe.mob hm
    obtain ⟨hSl, hfc, kC, hkC, hkind⟩ := hE.1.1 19 _ h1
    obtain ⟨cf, kf, fi, f, hi, hsl⟩ := hSl k h5
    have hi' : s.fieldFound? ref (T k).2.1 (T k).2.2.1 = some (cf, kf, fi, f) := by
      rcases h7 with e | e
      · rw [e]; exact hi
      · exact u_same (hts _ e) _ hi
    have hlay := hts _ (h2 _ (u_in_lay h5))
    unfold u_lay at hlay
    rw [if_neg (by rw [h8]; decide)] at hlay
    have hst := (u_facts hfc hkC (u_lays hts h2 h5) hi).1
    have h6' := u_store (v := .int x) hfc hkC hkind hlay hi (h3 k h5) (by rw [hi9]; rfl) (by rw [hi9]; rfl)
    show W _ _ _ _ _ _ _ _ _ _ _ _ _ _ _ (F0 m pc ls (.int x :: rv (gmo G) :: st.map tv))
    rw [ep]
    refine W.putK (a := p1) hx hb (f := f) ⟨hown, hts _ h6, ⟨_, _, _, hi'⟩, hst⟩ (by rw [q2]; exact h6') q1 q3 (by rw [hsl]; exact k2_hasslot (q4 k hk)) rfl rfl hd fun H' f1 f2 f3 => ?_
    rw [hsl] at f1 ⊢
    cases hN18
    have hR' : Rep G σ (sM S k x) H' := by
      obtain ⟨a1, a2, a3, a4, a5, -⟩ := hRe
      refine ⟨by rw [f2]; exact a1, by rw [f2]; exact a2, a3, fun b hb => (a4 b hb).congr ⟨rfl, rfl, rfl, rfl, rfl, rfl⟩ (f3 b (fun e => hb (by rw [e]; exact hk0))), a5, Or.inr ⟨⟨p1, ep, hgb, hk0, ?_⟩, fun j hj => ?_, g6⟩⟩
      · refine t_OB.to (V := updV (mfv G S) k (.int x)) ⟨_, f1, q2, q3, t_set q4 hap hk (.int x)⟩ (fun j _ => ?_)
        by_cases h : j = k
        · subst h
          simp [updV, mfv, hi9, isRf, sM, u1]
        · simp [updV, mfv, sM, u1, h]
      · obtain ⟨z, z1, z2, z3, z4, z5⟩ := g5 j hj
        exact ⟨z, z1, z2, z3, z4, by rw [f3 z (fun e => z4 (by rw [e, ep]))]; exact z5⟩
    exact kk.2 p e s m args below meth c9 H' _ ls cells slots C' hR' (hS.put f2 f3 hgb) hl e1 e2⟩
theorem V_mald {k : Nat} {i : Int32} (hm : gmo G ≠ 0) (hk : k ∈ mar) (hk4 : k ≠ 4) (hi : inB i (mlen k)) (hd : decode cc pc = .ok (.iaload, 1)) (kk : V l G own cc nL ret xt ini fr lo σ0 o σe Se (pc + 1) L (pI (S.2 k i.toNatClampNeg) :: st) σ S) : V l G own cc nL ret xt ini fr lo σ0 o σe Se pc L (pI i :: pR (gma G k) :: st) σ S :=
  ⟨kk.1, fun p e s m args below meth c9 H locs ls cells slots C hRe hS hl e1 e2 => by
    have C' := C
    obtain ⟨hx, hb, hml, hown, hts, hrt, hlk, hxt, hin, hst9, hE⟩ := C
    obtain ⟨p1, ep, hgb, hk0, hne, q1⟩ := (hRe.mob hm).2.1 k hk
    have ht : mty k = 1 := by simp [mty, hk4]
    rw [ht] at q1
    have k9 := (kk.2 p e s m args below meth c9 H locs ls cells slots C' hRe hS hl e1 e2)
    show W _ _ _ _ _ _ _ _ _ _ _ _ _ _ _ (F0 m pc ls (.int i :: rv (gma G k) :: st.map tv))
    rw [ep]
    exact W.iald (a := p1) (v := .int (S.2 k i.toNatClampNeg)) hx hb q1 ((hE.1.2 0 _ rfl).1 _ _) (fun q => by cases q) (by show ¬ (i < 0 ∨ (arrV _ _ _).slots.size ≤ _); rw [arrV_size]; exact inB_vp' hi) (by show (arrV _ _ _).slots[_]? = _; rw [arrV_read _ _ hi.2]) rfl rfl hd k9⟩
theorem V_mzald {k : Nat} {i : Int32} (hm : gmo G ≠ 0) (hk : k ∈ mar) (hk4 : k = 4) (hi : inB i (mlen k)) (hd : decode cc pc = .ok (.baload, 1)) (kk : V l G own cc nL ret xt ini fr lo σ0 o σe Se (pc + 1) L (pI (S.2 k i.toNatClampNeg) :: st) σ S) : V l G own cc nL ret xt ini fr lo σ0 o σe Se pc L (pI i :: pR (gma G k) :: st) σ S :=
  ⟨kk.1, fun p e s m args below meth c9 H locs ls cells slots C hRe hS hl e1 e2 => by
    have C' := C
    obtain ⟨hx, hb, hml, hown, hts, hrt, hlk, hxt, hin, hst9, hE⟩ := C
    obtain ⟨p1, ep, hgb, hk0, hne, q1⟩ := (hRe.mob hm).2.1 k hk
    have ht : mty k = 2 := by simp [mty, hk4]
    rw [ht] at q1
    have k9 := (kk.2 p e s m args below meth c9 H locs ls cells slots C' hRe hS hl e1 e2)
    show W _ _ _ _ _ _ _ _ _ _ _ _ _ _ _ (F0 m pc ls (.int i :: rv (gma G k) :: st.map tv))
    rw [ep]
    exact W.zald (a := p1) (v := .int (S.2 k i.toNatClampNeg)) hx hb q1 ((hE.1.2 1 _ rfl).1 _ _) (fun q => by cases q) (by show ¬ (i < 0 ∨ (arrV _ _ _).slots.size ≤ _); rw [arrV_size]; exact inB_vp' hi) (by show (arrV _ _ _).slots[_]? = _; rw [arrV_read _ _ hi.2]) rfl rfl hd k9⟩
theorem V_mast {k : Nat} {i x : Int32} (hm : gmo G ≠ 0) (hk : k ∈ mar) (hk4 : k ≠ 4) (hi : inB i (mlen k)) (hd : decode cc pc = .ok (.iastore, 1)) (kk : V l G own cc nL ret xt ini fr lo σ0 o σe Se (pc + 1) L st σ (pM S k i.toNatClampNeg x)) : V l G own cc nL ret xt ini fr lo σ0 o σe Se pc L (pI x :: pI i :: pR (gma G k) :: st) σ S :=
  ⟨kk.1, fun p e s m args below meth c9 H locs ls cells slots C hRe hS hl e1 e2 => by
    have C' := C
    obtain ⟨hx, hb, hml, hown, hts, hrt, hlk, hxt, hin, hst9, hE⟩ := C
    obtain ⟨⟨p0, ep0, hgb0, hk00, ho0⟩, g5, g6⟩ := hRe.mob hm
    obtain ⟨p1, ep, hgb, hk0, hne, q1⟩ := g5 k hk
    have ht : mty k = 1 := by simp [mty, hk4]
    have q1' := q1
    rw [ht] at q1
    show W _ _ _ _ _ _ _ _ _ _ _ _ _ _ _ (F0 m pc ls (.int x :: .int i :: rv (gma G k) :: st.map tv))
    rw [ep]
    refine W.iast (a := p1) hx hb q1 ((hE.1.2 0 _ rfl).1 _ _) (fun q => by cases q) (by show ¬ (i < 0 ∨ (arrV _ _ _).slots.size ≤ _); rw [arrV_size]; exact inB_vp' hi) rfl rfl hd fun H1 f1 f2 f3 => ?_
    rw [arrV_store] at f1
    have hR' : Rep G σ (pM S k i.toNatClampNeg x) H1 := by
      obtain ⟨a1, a2, a3, a4, a5, -⟩ := hRe
      refine ⟨by rw [f2]; exact a1, by rw [f2]; exact a2, a3, fun b hb => (a4 b hb).congr ⟨rfl, rfl, rfl, rfl, rfl, rfl⟩ (f3 b (fun e => hb (by rw [e]; exact hk0))), a5, Or.inr ⟨⟨p0, ep0, hgb0, hk00, (ho0.kept (f3 p0 (fun e => hne (by rw [ep0, e])))).to fun j _ => rfl⟩, fun j hj => ?_, g6⟩⟩
      obtain ⟨z, z1, z2, z3, z4, z5⟩ := g5 j hj
      by_cases h : j = k
      · subst h
        have ez : z = p1 := by omega
        subst ez
        refine ⟨z, z1, z2, z3, z4, ?_⟩
        rw [f1, ht]
        refine congrArg some (congrArg (arrV _ _) ?_)
        funext q
        by_cases hq : q = i.toNatClampNeg <;> simp [updV, pM, u2, hq]
      · have hz : z ≠ p1 := fun e => h (g6 j hj k hk (by rw [z1, ep, e]))
        refine ⟨z, z1, z2, z3, z4, ?_⟩
        rw [f3 z hz, z5]
        refine congrArg some (congrArg (arrV _ _) ?_)
        funext q
        simp [pM, u2, h]
    exact kk.2 p e s m args below meth c9 H1 _ ls cells slots C' hR' (hS.put f2 f3 hgb) hl e1 e2⟩
theorem V_mzast {k : Nat} {i x : Int32} (hm : gmo G ≠ 0) (hk : k ∈ mar) (hk4 : k = 4) (hv : narrow .boolean (.int x) = .int x) (hi : inB i (mlen k)) (hd : decode cc pc = .ok (.bastore, 1)) (kk : V l G own cc nL ret xt ini fr lo σ0 o σe Se (pc + 1) L st σ (pM S k i.toNatClampNeg x)) : V l G own cc nL ret xt ini fr lo σ0 o σe Se pc L (pI x :: pI i :: pR (gma G k) :: st) σ S :=
  ⟨kk.1, fun p e s m args below meth c9 H locs ls cells slots C hRe hS hl e1 e2 => by
    have C' := C
    obtain ⟨hx, hb, hml, hown, hts, hrt, hlk, hxt, hin, hst9, hE⟩ := C
    obtain ⟨⟨p0, ep0, hgb0, hk00, ho0⟩, g5, g6⟩ := hRe.mob hm
    obtain ⟨p1, ep, hgb, hk0, hne, q1⟩ := g5 k hk
    have ht : mty k = 2 := by simp [mty, hk4]
    have q1' := q1
    rw [ht] at q1
    show W _ _ _ _ _ _ _ _ _ _ _ _ _ _ _ (F0 m pc ls (.int x :: .int i :: rv (gma G k) :: st.map tv))
    rw [ep]
    refine W.zast (a := p1) hx hb q1 ((hE.1.2 1 _ rfl).1 _ _) (fun q => by cases q) (by show ¬ (i < 0 ∨ (arrV _ _ _).slots.size ≤ _); rw [arrV_size]; exact inB_vp' hi) rfl rfl hd fun H1 f1 f2 f3 => ?_
    rw [arrV_store, hv] at f1
    have hR' : Rep G σ (pM S k i.toNatClampNeg x) H1 := by
      obtain ⟨a1, a2, a3, a4, a5, -⟩ := hRe
      refine ⟨by rw [f2]; exact a1, by rw [f2]; exact a2, a3, fun b hb => (a4 b hb).congr ⟨rfl, rfl, rfl, rfl, rfl, rfl⟩ (f3 b (fun e => hb (by rw [e]; exact hk0))), a5, Or.inr ⟨⟨p0, ep0, hgb0, hk00, (ho0.kept (f3 p0 (fun e => hne (by rw [ep0, e])))).to fun j _ => rfl⟩, fun j hj => ?_, g6⟩⟩
      obtain ⟨z, z1, z2, z3, z4, z5⟩ := g5 j hj
      by_cases h : j = k
      · subst h
        have ez : z = p1 := by omega
        subst ez
        refine ⟨z, z1, z2, z3, z4, ?_⟩
        rw [f1, ht]
        refine congrArg some (congrArg (arrV _ _) ?_)
        funext q
        by_cases hq : q = i.toNatClampNeg <;> simp [updV, pM, u2, hq]
      · have hz : z ≠ p1 := fun e => h (g6 j hj k hk (by rw [z1, ep, e]))
        refine ⟨z, z1, z2, z3, z4, ?_⟩
        rw [f3 z hz, z5]
        refine congrArg some (congrArg (arrV _ _) ?_)
        funext q
        simp [pM, u2, h]
    exact kk.2 p e s m args below meth c9 H1 _ ls cells slots C' hR' (hS.put f2 f3 hgb) hl e1 e2⟩
/-- a call of the model's own method -/
theorem V_callM {y : MethodName} {bytes : ByteArray} {maxL frc loc idx : Nat} {retc : Option FieldType} {av rest : List PV} {σ1 : Hp} {S1 : Ms} {w : Option PV} (hm : gmo G ≠ 0) (hM : MT l G y (ws_ y bytes maxL retc) frc loc (pR (gmo G) :: av) σ S (.inl w) σ1 S1) (hw : GoodIn lw_all (wsV own idx RX3 y (ws_ y bytes maxL retc))) (hd0 : y.cls = RX3 ∧ y.cls ≠ "java/lang/invoke/MethodHandle" ∧ y.cls ≠ "java/lang/invoke/VarHandle" ∧ (parseMethodDescriptor y.desc).map (fun d => d.parameters.length) = some av.length) (hrm : frc + 1 ≤ fr ∧ 8 + (maxL + 11) + loc ≤ lo) (hcat : (rest.map fun v => if c2 v = true then 2 else 1).sum ≤ 8) (hd : decode cc pc = .ok (.invokevirtual idx, 3)) (kk : V l G own cc nL ret xt ini fr lo σ0 o σe Se (pc + 3) L (w.toList ++ rest) σ1 S1) : V l G own cc nL ret xt ini fr lo σ0 o σe Se pc L (av.reverse ++ pR (gmo G) :: rest) σ S :=
  ⟨by have hm1 := hM.1; have := kk.1; omega, fun p e s m args below meth c9 H locs ls cells slots C hRe hS hl e1 e2 => by
    have C' := C
    obtain ⟨hx, hb, hml, hown, hts, hrt, hlk, hxt, hin, hst9, hE⟩ := C
    have hmo := kk.1
    have hm1 := hM.1
    obtain ⟨⟨p1, ep, hgb, hk0, cell, q1, q2, q3, q4⟩, -, -⟩ := hRe.mob hm
    have hcls := (hE.1.1 19 _ rfl).2
    have hp : PreV s H RX3 p1 (va_Pc ((pR (gmo G) :: av).map tv) (Inv G σ S)) (av.map tv) := ⟨Inv_blind, ⟨cell, q1, by rw [q3]; rfl, by rw [q2]; exact hcls.1⟩, by
      have h9 := (V_pre (av := pR (gmo G) :: av) hE hRe hS).2
      rw [ep] at h9 ⊢
      exact h9⟩
    refine V_of_run (oc := .inl w) C' hS hl e1 e2 hm1 (a := (Value.ref p1 :: av.map tv).toArray) (rest := rest) (vx_runV (As := av.map tv) (b := p1) ⟨hx, hb, hml, hown, hts⟩ hM.2 (cwV av.length hts hw rfl rfl rfl hd0 hrm) hp rfl (List.length_map _) hl.1 ?_ (rest_cat hcat) hd ⟨by show cells + (hN σ1 - hN σ) ≤ hN σe - hN σ0; omega, by show slots + (hU σ1 - hU σ) ≤ hU σe - hU σ0; omega⟩) (fun v hv => ?_) (fun E q hq => by cases hq)
    · show (av.reverse ++ pR (gmo G) :: rest).map tv = _
      rw [List.map_append, List.map_reverse, ep]
      rfl
    · cases hv
      exact kk⟩
end VModel
