/-! ROWS OF V, fifth part: statics, class objects, copies, interface and super calls, small Integers -/
theorem lw_F4 {own : String} {idx : Nat} {C : String} {x y : MethodName} (h1 : Cond.methodLink own idx x ∈ lw_all) (h2 : Cond.selects C x y ∈ lw_all) (h3 : Cond.instanceMethod y ∈ lw_all) (h4 : Cond.initialized y.cls ∈ lw_all) : ∀ w ∈ ([.methodLink own idx x, .selects C x y, .instanceMethod y, .initialized y.cls] : List Cond), w ∈ lw_all := by
  intro w hw
  simp only [List.mem_cons, List.not_mem_nil, or_false] at hw
  rcases hw with rfl | rfl | rfl | rfl <;> assumption
theorem lw_U {own : String} {idx : Nat} {C owner : String} {x y : MethodName} (h1 : Cond.methodLink own idx x ∈ lw_all) (h2 : Cond.sameMethod x.cls owner x.name x.desc ∈ lw_all) (h3 : Cond.selects C x y ∈ lw_all) (h4 : Cond.instanceMethod y ∈ lw_all) (h5 : Cond.initialized y.cls ∈ lw_all) : ∀ w ∈ ([.methodLink own idx x, .sameMethod x.cls owner x.name x.desc, .selects C x y, .instanceMethod y, .initialized y.cls] : List Cond), w ∈ lw_all := by
  intro w hw
  simp only [List.mem_cons, List.not_mem_nil, or_false] at hw
  rcases hw with rfl | rfl | rfl | rfl | rfl <;> assumption
theorem lw_SU {own : String} {idx : Nat} {y : MethodName} (h1 : Cond.methodLink own idx y ∈ lw_all) (h2 : Cond.sameMethod y.cls y.cls y.name y.desc ∈ lw_all) (h3 : Cond.superclass own y.cls ∈ lw_all) (h4 : Cond.instanceMethod y ∈ lw_all) (h5 : Cond.initialized y.cls ∈ lw_all) : ∀ w ∈ ([.methodLink own idx y, .sameMethod y.cls y.cls y.name y.desc, .superclass own y.cls, .instanceMethod y, .initialized y.cls] : List Cond), w ∈ lw_all := by
  intro w hw
  simp only [List.mem_cons, List.not_mem_nil, or_false] at hw
  rcases hw with rfl | rfl | rfl | rfl | rfl <;> assumption
/-- arrays copied: bytes, references -/
def cpOk (σ : Hp) (K a0 : Nat) (sp : Int32) (a : Nat) (dp n : Int32) : Prop := (hK σ a0 = K ∧ hK σ a = K) ∧ (¬ sp < 0 ∧ ¬ dp < 0 ∧ ¬ n < 0) ∧ sp.toNatClampNeg + n.toNatClampNeg ≤ hL σ a0 ∧ dp.toNatClampNeg + n.toNatClampNeg ≤ hL σ a
abbrev cpAll (n : Nat) (q : Nat → Bool) : Prop := (List.range n).all q = true
abbrev cpK (σ : Hp) (K a0 : Nat) (sp : Int32) (a : Nat) (dp n : Int32) : Prop := (hK σ a0 = K ∧ hK σ a = K) ∧ (¬ sp < 0 ∧ ¬ dp < 0 ∧ ¬ n < 0) ∧ sp.toNatClampNeg + n.toNatClampNeg ≤ hL σ a0 ∧ dp.toNatClampNeg + n.toNatClampNeg ≤ hL σ a
def cpY (σ : Hp) (a0 : Nat) (sp : Int32) (a : Nat) (dp n : Int32) : Option Hp := if cpK σ 104 a0 sp a dp n ∧ cpAll n.toNatClampNeg (fun i => decide (isB (hA σ a0 (sp.toNatClampNeg + i)))) then some (cA σ a (va_cpy (hA σ a0) (hA σ a) sp.toNatClampNeg dp.toNatClampNeg n.toNatClampNeg)) else none
def cpR (σ : Hp) (a0 : Nat) (sp : Int32) (a : Nat) (dp n : Int32) : Option Hp := if cpK σ 105 a0 sp a dp n ∧ cpAll n.toNatClampNeg (fun i => decide (hB σ a0 (sp.toNatClampNeg + i) = 0 ∨ inO (hK σ (hB σ a0 (sp.toNatClampNeg + i))))) then some (cB σ a (va_cpy (hB σ a0) (hB σ a) sp.toNatClampNeg dp.toNatClampNeg n.toNatClampNeg)) else none
theorem cpAll_at {n : Nat} {q : Nat → Bool} (h : cpAll n q) {i : Nat} (hi : i < n) : q i = true := List.all_eq_true.mp h i (List.mem_range.mpr hi)
theorem nn_int (z : Int32) (hz : ¬ z < 0) : z.toInt = (z.toNatClampNeg : Int) := by
  have hz0 : (0 : Int) ≤ z.toInt := by
    have := Int32.not_lt.mp hz
    simpa using Int32.le_iff_toInt_le.mp this
  show z.toInt = ((z.toInt.toNat : Nat) : Int)
  omega
def ddv (x y : UInt64) : Option UInt64 := if FP.ddiv x y &&& 0x7fffffffffffffff ≤ 0x7ff0000000000000 then some (FP.ddiv x y) else none
section VSpecial
variable {l : Launch} {G : Gx} {own : String} {cc : ByteArray} {nL : Nat} {ret : Option FieldType} {xt : List ExceptionTableEntry} {ini : Bool} {fr lo : Nat} {σ0 σe : Hp} {o : Oc} {Se : Ms} {pc : Nat} {L L' : Lo} {st st0 : List PV} {σ σ1 : Hp} {S S1 : Ms}
theorem V_ldcw {i : Nat} {v : Int32} (hd : decode cc pc = .ok (.ldc_w i, 3)) (hq : Jvm.Cond.constant own i v ∈ lw_all) (k : V l G own cc nL ret xt ini fr lo σ0 o σe Se (pc + 3) L (pI v :: st) σ S) : V l G own cc nL ret xt ini fr lo σ0 o σe Se pc L st σ S :=
  ⟨k.1, fun p e s m args below meth c9 H locs ls cells slots C hRe hS hl e1 e2 => lv_ldcw C.1 C.2.1 C.2.2.2.1 (C.2.2.2.2.1 _ hq) hd (k.2 p e s m args below meth c9 H locs ls cells slots C hRe hS hl e1 e2)⟩
theorem V_ddv {x y r : UInt64} (h : ddv x y = some r) (hd : decode cc pc = .ok (.ddiv, 1)) (k : V l G own cc nL ret xt ini fr lo σ0 o σe Se (pc + 1) L (pD r :: st) σ S) : V l G own cc nL ret xt ini fr lo σ0 o σe Se pc L (pD y :: pD x :: st) σ S := by
  obtain ⟨h1, rfl⟩ := gd_s h
  exact V_ddiv hd h1 k
theorem V_gstR {C1 n d ref : String} {idx k : Nat} (hZ : ∀ (U : State) (H : Heap), Old G U H → va_Z C1 n d (rv (qG G k)) (Af G) U H) (hq : Cond.fieldLink own idx ref n d ∈ lw_all) (hr : ref = C1) (hd : decode cc pc = .ok (.getstatic idx, 3)) (kk : V l G own cc nL ret xt ini fr lo σ0 o σe Se (pc + 3) L (pR (hQ σ k) :: st) σ S) : V l G own cc nL ret xt ini fr lo σ0 o σe Se pc L st σ S :=
  ⟨kk.1, fun p e s m args below meth c9 H locs ls cells slots C hRe hS hl e1 e2 => by
    have C' := C
    obtain ⟨hx, hb, hml, hown, hts, hrt, hlk, hxt, hin, hst9, hE⟩ := C
    subst hr
    have k9 := (kk.2 p e s m args below meth c9 H locs ls cells slots C' hRe hS hl e1 e2)
    have e9 : hQ σ k = qG G k := by rw [hRe.2.2.2.2.1]
    rw [e9] at k9
    exact va_gets hx hb (hZ s s.heap hE.2.1) hS hown (hts _ hq) (fun _ h => h) hd k9⟩
theorem V_ldcM {idx : Nat} (hq : Cond.classLink own idx "[Ljava/lang/Object;" ∈ lw_all) (hd : decode cc pc = .ok (.ldc idx, 2)) (kk : V l G own cc nL ret xt ini fr lo σ0 o σe Se (pc + 2) L (pR (hQ σ 2) :: st) σ S) : V l G own cc nL ret xt ini fr lo σ0 o σe Se pc L st σ S :=
  ⟨kk.1, fun p e s m args below meth c9 H locs ls cells slots C hRe hS hl e1 e2 => by
    have C' := C
    obtain ⟨hx, hb, hml, hown, hts, hrt, hlk, hxt, hin, hst9, hE⟩ := C
    have k9 := (kk.2 p e s m args below meth c9 H locs ls cells slots C' hRe hS hl e1 e2)
    obtain ⟨mi, hm1, hm2⟩ := hE.2.1.2.2.2.2.2.2.2.2.1
    have e9 : hQ σ 2 = mi + 1 := by rw [hRe.2.2.2.2.1]; exact hm1
    rw [e9] at k9
    exact va_ldcM hx hb hown (hts _ hq) hm2 hd k9⟩
theorem V_getC {idx a : Nat} (h : gk σ 105 a = some ()) (hq : Cond.methodLink own idx ⟨"java/lang/Object", "getClass", "()Ljava/lang/Class;"⟩ ∈ lw_all) (hfr : 1 ≤ fr) (hlo : (st.map fun v => if c2 v = true then 2 else 1).sum + 14 ≤ lo) (hd : decode cc pc = .ok (.invokevirtual idx, 3)) (kk : V l G own cc nL ret xt ini fr lo σ0 o σe Se (pc + 3) L (pR (hQ σ 2) :: st) σ S) : V l G own cc nL ret xt ini fr lo σ0 o σe Se pc L (pR a :: st) σ S :=
  ⟨kk.1, fun p e s m args below meth c9 H locs ls cells slots C hRe hS hl e1 e2 => by
    have C' := C
    obtain ⟨hx, hb, hml, hown, hts, hrt, hlk, hxt, hin, hst9, hE⟩ := C
    have k9 := (kk.2 p e s m args below meth c9 H locs ls cells slots C' hRe hS hl e1 e2)
    obtain ⟨mi, hm1, hm2⟩ := hE.2.1.2.2.2.2.2.2.2.2.1
    have e9 : hQ σ 2 = mi + 1 := by rw [hRe.2.2.2.2.1]; exact hm1
    rw [e9] at k9
    obtain ⟨p1, rfl, hgb, q1⟩ := hRe.ar (t := 5) (gd_s h).1 (by decide) (by decide)
    have h8 : ((st.map tv).map fun v => v.category).sum + 14 ≤ lo := by
      rw [cat_sum]
      exact hlo
    have hnm : s.vm.findClass "[Ljava/lang/Object;" = some (gA G 5) := va_nmO (hE.1.2 4 _ rfl).2 (by decide +kernel)
    exact va_getC (a := p1) hx hb (hml.trans hl.1.symm) hown (hts _ hq) (va_Nw.use rfl (hE.2.2.2.2.2.1 _ (by decide +kernel))) (hts _ q2440) (hts _ q198) (hts _ q227) hm2 ⟨_, q1, rfl, hnm⟩ hfr h8 hd k9⟩
theorem V_cpY {idx a0 a : Nat} {sp dp n : Int32} (h : cpY σ a0 sp a dp n = some σ1) (hq : Cond.methodLink own idx arraycopyName ∈ lw_all) (hfr : 1 ≤ fr) (hlo : (st.map fun v => if c2 v = true then 2 else 1).sum + (nativeFrameWords "java/lang/System" "arraycopy" 5 + 11) ≤ lo) (hd : decode cc pc = .ok (.invokestatic idx, 3)) (kk : V l G own cc nL ret xt ini fr lo σ0 o σe Se (pc + 3) L st σ1 S) : V l G own cc nL ret xt ini fr lo σ0 o σe Se pc L (pI n :: pI dp :: pR a :: pI sp :: pR a0 :: st) σ S := by
  obtain ⟨⟨⟨⟨z1, z2⟩, ⟨h1, h2, h3⟩, h4, h5⟩, hall⟩, rfl⟩ := gd_s h
  exact ⟨kk.1, fun p e s m args below meth c9 H locs ls cells slots C hRe hS hl e1 e2 => by
    have C' := C
    obtain ⟨hx, hb, hml, hown, hts, hrt, hlk, hxt, hin, hst9, hE⟩ := C
    obtain ⟨p0, rfl, hgb0, hc0⟩ := hRe.ar (t := 4) z1 (by decide) (by decide)
    obtain ⟨p1, rfl, hgb1, hc1⟩ := hRe.ar (t := 4) z2 (by decide) (by decide)
    have h8 : ((st.map tv).map fun v => v.category).sum + (nativeFrameWords "java/lang/System" "arraycopy" 5 + 11) ≤ lo := by
      rw [cat_sum]
      exact hlo
    intro T hT X
    obtain ⟨-, k0, hk0, cm0, hkk0⟩ := (hE.1.2 3 _ rfl).1 (hL σ (p0 + 1)) (ev σ 4 (p0 + 1))
    obtain ⟨-, k1, hk1, cm1, hkk1⟩ := (hE.1.2 3 _ rfl).1 (hL σ (p1 + 1)) (ev σ 4 (p1 + 1))
    obtain ⟨vm', X', step⟩ := X.arraycopy hx hown (hts _ hq) (hts _ q239) (hts _ q238) (hts _ q84) (src := p0) (dst := p1) (cs := arrV (gA G 4) (hL σ (p0 + 1)) (ev σ 4 (p0 + 1))) (cd := arrV (gA G 4) (hL σ (p1 + 1)) (ev σ 4 (p1 + 1))) (srcPos := sp) (destPos := dp) (n := n) (by rw [hT]; exact hc0) (by rw [hT]; exact hc1)
      (fun _ h => by cases h) (fun _ h => by cases h) (fun h => by cases h) (fun h => by cases h) hk0 hk1 hkk0 hkk1 (by have hp : refKind (aty 4) = false := rfl; simp [hp]) h1 h2 h3
      (by rw [nn_int sp h1, nn_int n h3, arrV_size]; omega)
      (by rw [nn_int dp h2, nn_int n h3, arrV_size]; omega)
      (fun vm₁ hal i hi => by
      have e : (arrV (gA G 4) (hL σ (p0 + 1)) (ev σ 4 (p0 + 1))).slots.getD (sp.toNatClampNeg + i) .null = ev σ 4 (p0 + 1) (sp.toNatClampNeg + i) := by
        rw [Array.getD_eq_getD_getElem?, arrV_read _ _ (by omega)]
        rfl
      rw [e]
      have h9 := cpAll_at hall hi
      have hB9 : isB (hA σ (p0 + 1) (sp.toNatClampNeg + i)) := of_decide_eq_true h9
      have e9 : ev σ 4 (p0 + 1) (sp.toNatClampNeg + i) = .int (hA σ (p0 + 1) (sp.toNatClampNeg + i)) := by simp [ev]
      rw [e9]
      exact ⟨by show fits .byte (.int _) = true; rw [← hB9]; exact pk_fb _, trivial⟩)
      (g := F0 m pc ls (.int n :: .int dp :: .ref p1 :: .int sp :: .ref p0 :: st.map tv)) rfl (hl.1.trans hml.symm) (rest := st.map tv) rfl (by rw [hb]; exact hd) hfr (by show 2 * 0 + ((st.map tv).map fun v => v.category).sum + (nativeFrameWords "java/lang/System" "arraycopy" 5 + 11) ≤ lo; omega)
    have e1' : copied (arrV (gA G 4) (hL σ (p0 + 1)) (ev σ 4 (p0 + 1))) (arrV (gA G 4) (hL σ (p1 + 1)) (ev σ 4 (p1 + 1))) sp dp n = arrV (gA G 4) (hL σ (p1 + 1)) (va_cpy (ev σ 4 (p0 + 1)) (ev σ 4 (p1 + 1)) sp.toNatClampNeg dp.toNatClampNeg n.toNatClampNeg) := va_copied (fun z => z) (gA G 4) (gA G 4) (ev σ 4 (p0 + 1)) (ev σ 4 (p1 + 1)) h4
    rw [e1'] at X' step
    have hl9 : p1 < H.size := (Array.getElem?_eq_some_iff.mp hc1).1
    generalize hH1 : H.setIfInBounds p1 (arrV (gA G 4) (hL σ (p1 + 1)) (va_cpy (ev σ 4 (p0 + 1)) (ev σ 4 (p1 + 1)) sp.toNatClampNeg dp.toNatClampNeg n.toNatClampNeg)) = H1
    have f1 : H1[p1]? = some (arrV (gA G 4) (hL σ (p1 + 1)) (va_cpy (ev σ 4 (p0 + 1)) (ev σ 4 (p1 + 1)) sp.toNatClampNeg dp.toNatClampNeg n.toNatClampNeg)) := by rw [← hH1]; simp [Array.getElem?_setIfInBounds, hl9]
    have f2 : H1.size = H.size := by rw [← hH1]; simp
    have f3 : ∀ q : Nat, q ≠ p1 → H1[q]? = H[q]? := fun q hq => by rw [← hH1]; simp [Array.getElem?_setIfInBounds, Ne.symm hq]
    have hheap : ((T.setVm vm').setCell p1 (arrV (gA G 4) (hL σ (p1 + 1)) (va_cpy (ev σ 4 (p0 + 1)) (ev σ 4 (p1 + 1)) sp.toNatClampNeg dp.toNatClampNeg n.toNatClampNeg))).heap = H1 := by rw [← hH1, ← hT]; rfl
    have hR' := hRe.upd (σ' := cA σ (p1 + 1) (va_cpy (hA σ (p0 + 1)) (hA σ (p1 + 1)) sp.toNatClampNeg dp.toNatClampNeg n.toNatClampNeg)) rfl rfl rfl (by rw [z2]; decide) (fun b hb => Sam_cA hb) f2 f3 (cOk.ar (t := 4) z2 (by decide) (by decide) hgb1 (by
      rw [f1]
      refine congrArg some (congrArg (arrV _ _) ?_)
      funext j
      by_cases hj : dp.toNatClampNeg ≤ j ∧ j < dp.toNatClampNeg + n.toNatClampNeg <;> simp [va_cpy, ev, hj, cA, hA, u1]))
    obtain ⟨t2, a1, b1⟩ := kk.2 p e s m args below meth c9 H1 _ ls cells slots C' hR' ⟨by rw [f2]; exact hS.1, fun q g1 g2 => by
      rw [f3 q (fun e => g2 (by rw [e]; exact hgb1))]
      exact hS.2.1 q g1 g2, fun q hq => by
      rcases List.mem_append.mp hq with h | h
      · exact hS.2.2 q h
      · obtain ⟨z, -, hz⟩ := List.mem_map.mp h
        rw [← hz]
        exact hgb1⟩ hl e1 e2 _ hheap X'
    exact ⟨t2, step t2 a1, b1⟩⟩
theorem V_cpR {idx a0 a : Nat} {sp dp n : Int32} (h : cpR σ a0 sp a dp n = some σ1) (hq : Cond.methodLink own idx arraycopyName ∈ lw_all) (hfr : 1 ≤ fr) (hlo : (st.map fun v => if c2 v = true then 2 else 1).sum + (nativeFrameWords "java/lang/System" "arraycopy" 5 + 11) ≤ lo) (hd : decode cc pc = .ok (.invokestatic idx, 3)) (kk : V l G own cc nL ret xt ini fr lo σ0 o σe Se (pc + 3) L st σ1 S) : V l G own cc nL ret xt ini fr lo σ0 o σe Se pc L (pI n :: pI dp :: pR a :: pI sp :: pR a0 :: st) σ S := by
  obtain ⟨⟨⟨⟨z1, z2⟩, ⟨h1, h2, h3⟩, h4, h5⟩, hall⟩, rfl⟩ := gd_s h
  exact ⟨kk.1, fun p e s m args below meth c9 H locs ls cells slots C hRe hS hl e1 e2 => by
    have C' := C
    obtain ⟨hx, hb, hml, hown, hts, hrt, hlk, hxt, hin, hst9, hE⟩ := C
    obtain ⟨p0, rfl, hgb0, hc0⟩ := hRe.ar (t := 5) z1 (by decide) (by decide)
    obtain ⟨p1, rfl, hgb1, hc1⟩ := hRe.ar (t := 5) z2 (by decide) (by decide)
    have h8 : ((st.map tv).map fun v => v.category).sum + (nativeFrameWords "java/lang/System" "arraycopy" 5 + 11) ≤ lo := by
      rw [cat_sum]
      exact hlo
    intro T hT X
    obtain ⟨-, k0, hk0, cm0, hkk0⟩ := (hE.1.2 4 _ rfl).1 (hL σ (p0 + 1)) (ev σ 5 (p0 + 1))
    obtain ⟨-, k1, hk1, cm1, hkk1⟩ := (hE.1.2 4 _ rfl).1 (hL σ (p1 + 1)) (ev σ 5 (p1 + 1))
    obtain ⟨vm', X', step⟩ := X.arraycopy hx hown (hts _ hq) (hts _ q239) (hts _ q238) (hts _ q84) (src := p0) (dst := p1) (cs := arrV (gA G 5) (hL σ (p0 + 1)) (ev σ 5 (p0 + 1))) (cd := arrV (gA G 5) (hL σ (p1 + 1)) (ev σ 5 (p1 + 1))) (srcPos := sp) (destPos := dp) (n := n) (by rw [hT]; exact hc0) (by rw [hT]; exact hc1)
      (fun _ h => by cases h) (fun _ h => by cases h) (fun h => by cases h) (fun h => by cases h) hk0 hk1 hkk0 hkk1 rfl h1 h2 h3
      (by rw [nn_int sp h1, nn_int n h3, arrV_size]; omega)
      (by rw [nn_int dp h2, nn_int n h3, arrV_size]; omega)
      (fun vm₁ hal i hi => by
      have e : (arrV (gA G 5) (hL σ (p0 + 1)) (ev σ 5 (p0 + 1))).slots.getD (sp.toNatClampNeg + i) .null = ev σ 5 (p0 + 1) (sp.toNatClampNeg + i) := by
        rw [Array.getD_eq_getD_getElem?, arrV_read _ _ (by omega)]
        rfl
      rw [e]
      have h9 := of_decide_eq_true (cpAll_at hall hi)
      have e9 : ev σ 5 (p0 + 1) (sp.toNatClampNeg + i) = rv (hB σ (p0 + 1) (sp.toNatClampNeg + i)) := by simp [ev]
      rw [e9]
      generalize hB σ (p0 + 1) (sp.toNatClampNeg + i) = b at h9
      rcases h9 with rfl | h9
      · exact ⟨rfl, trivial⟩
      · have hcc : ∃ (c : Nat) (r : vw_C), hK σ b = c + 1 ∧ CL[c]? = some r ∧ (r.1, "java/lang/Object") ∈ nwC := by
          rcases h9 with h9 | h9 | h9 | h9 | h9
          · exact ⟨1, (RX2, TX2, 7), h9, rfl, by decide +kernel⟩
          · exact ⟨2, (RX4, TX4, 6), h9, rfl, by decide +kernel⟩
          · exact ⟨6, (RX8, TX8, 2), h9, rfl, by decide +kernel⟩
          · exact ⟨8, (RX10, TX10, 2), h9, rfl, by decide +kernel⟩
          · exact ⟨9, (RJ2, TJ2, 3), h9, rfl, by decide +kernel⟩
        obtain ⟨c, r, hkc, hcr, hcw⟩ := hcc
        obtain ⟨p2, rfl, -, cellV, g1, g2, g3, -⟩ := hRe.ob (C := r.1) (T := r.2.1) (N := r.2.2) hkc hcr
        have hcls := (hE.1.1 c _ hcr).2
        obtain ⟨kA, comp, r1, r2, r3, -⟩ := (hE.1.2 4 _ rfl).2
        cases hk1.symm.trans r1
        cases hkk1.symm.trans r2
        obtain ⟨kE, hkE, -⟩ := Vm.findClass_spec r3
        obtain ⟨c0, t1, f1, f2, f3⟩ := Cond.castable_spec (va_Nw.use (A := args) rfl (hE.2.2.2.2.1 _ hcw))
        cases hcls.1.symm.trans f1
        cases r3.symm.trans f2
        obtain ⟨kC, hkC, -⟩ := hcls.2
        obtain ⟨kC', hkC', -⟩ := hal.2.2 _ _ hkC
        obtain ⟨kE', hkE', -⟩ := hal.2.2 _ _ hkE
        refine ⟨rfl, cellV, (show T.heap[p2]? = some cellV by rw [hT]; exact g1), (fun q h => by rw [g3] at h; cases h), ⟨kC', by rw [g2]; exact hkC'⟩, ⟨kE', hkE'⟩, ?_⟩
        show vm₁.assignable _ _ = true
        rw [hal.assignable, g2]
        exact f3)
      (g := F0 m pc ls (.int n :: .int dp :: .ref p1 :: .int sp :: .ref p0 :: st.map tv)) rfl (hl.1.trans hml.symm) (rest := st.map tv) rfl (by rw [hb]; exact hd) hfr (by show 2 * 0 + ((st.map tv).map fun v => v.category).sum + (nativeFrameWords "java/lang/System" "arraycopy" 5 + 11) ≤ lo; omega)
    have e1' : copied (arrV (gA G 5) (hL σ (p0 + 1)) (ev σ 5 (p0 + 1))) (arrV (gA G 5) (hL σ (p1 + 1)) (ev σ 5 (p1 + 1))) sp dp n = arrV (gA G 5) (hL σ (p1 + 1)) (va_cpy (ev σ 5 (p0 + 1)) (ev σ 5 (p1 + 1)) sp.toNatClampNeg dp.toNatClampNeg n.toNatClampNeg) := va_copied (fun z => z) (gA G 5) (gA G 5) (ev σ 5 (p0 + 1)) (ev σ 5 (p1 + 1)) h4
    rw [e1'] at X' step
    have hl9 : p1 < H.size := (Array.getElem?_eq_some_iff.mp hc1).1
    generalize hH1 : H.setIfInBounds p1 (arrV (gA G 5) (hL σ (p1 + 1)) (va_cpy (ev σ 5 (p0 + 1)) (ev σ 5 (p1 + 1)) sp.toNatClampNeg dp.toNatClampNeg n.toNatClampNeg)) = H1
    have f1 : H1[p1]? = some (arrV (gA G 5) (hL σ (p1 + 1)) (va_cpy (ev σ 5 (p0 + 1)) (ev σ 5 (p1 + 1)) sp.toNatClampNeg dp.toNatClampNeg n.toNatClampNeg)) := by rw [← hH1]; simp [Array.getElem?_setIfInBounds, hl9]
    have f2 : H1.size = H.size := by rw [← hH1]; simp
    have f3 : ∀ q : Nat, q ≠ p1 → H1[q]? = H[q]? := fun q hq => by rw [← hH1]; simp [Array.getElem?_setIfInBounds, Ne.symm hq]
    have hheap : ((T.setVm vm').setCell p1 (arrV (gA G 5) (hL σ (p1 + 1)) (va_cpy (ev σ 5 (p0 + 1)) (ev σ 5 (p1 + 1)) sp.toNatClampNeg dp.toNatClampNeg n.toNatClampNeg))).heap = H1 := by rw [← hH1, ← hT]; rfl
    have hR' := hRe.upd (σ' := cB σ (p1 + 1) (va_cpy (hB σ (p0 + 1)) (hB σ (p1 + 1)) sp.toNatClampNeg dp.toNatClampNeg n.toNatClampNeg)) rfl rfl rfl (by rw [z2]; decide) (fun b hb => Sam_cB hb) f2 f3 (cOk.ar (t := 5) z2 (by decide) (by decide) hgb1 (by
      rw [f1]
      refine congrArg some (congrArg (arrV _ _) ?_)
      funext j
      by_cases hj : dp.toNatClampNeg ≤ j ∧ j < dp.toNatClampNeg + n.toNatClampNeg <;> simp [va_cpy, ev, hj, cB, hB, u1]))
    obtain ⟨t2, a1, b1⟩ := kk.2 p e s m args below meth c9 H1 _ ls cells slots C' hR' ⟨by rw [f2]; exact hS.1, fun q g1 g2 => by
      rw [f3 q (fun e => g2 (by rw [e]; exact hgb1))]
      exact hS.2.1 q g1 g2, fun q hq => by
      rcases List.mem_append.mp hq with h | h
      · exact hS.2.2 q h
      · obtain ⟨z, -, hz⟩ := List.mem_map.mp h
        rw [← hz]
        exact hgb1⟩ hl e1 e2 _ hheap X'
    exact ⟨t2, step t2 a1, b1⟩⟩
end VSpecial
