/-! ROWS OF V, third part: new cells, casts, ends, calls -/
section VCalls
variable {l : Launch} {G : Gx} {own : String} {cc : ByteArray} {nL : Nat} {ret : Option FieldType} {xt : List ExceptionTableEntry} {ini : Bool} {fr lo : Nat} {σ0 σe : Hp} {o : Oc} {Se : Ms} {pc : Nat} {L L' : Lo} {st : List PV} {σ : Hp} {S : Ms}
def okT : FieldType → Bool
  | .long => false
  | .float => false
  | .double => false
  | _ => true
theorem okT_dv {t : FieldType} (h : okT t = true) : defaultValue t = if isRf t = true then .null else .int 0 := by
  cases t <;> first | rfl | (cases h)
theorem V_new {idx c n N : Nat} {C : String} {T : u_T} (hci : CI c C T N) (hok : ∀ k, k < N → okT (fty c k) = true) (hcl : Cond.classLink own idx C ∈ lw_all) (hin : Cond.instantiable C n ∈ lw_all) (hini : Cond.initialized C ∈ lw_all) (hd : decode cc pc = .ok (.new idx, 3)) (kk : V l G own cc nL ret xt ini fr lo σ0 o σe Se (pc + 3) L (pR (hN σ) :: st) (nC σ (c + 1) n) S) : V l G own cc nL ret xt ini fr lo σ0 o σe Se pc L st σ S :=
  ⟨⟨Nat.le_trans (Nat.le_succ _) kk.1.1, Nat.le_trans (Nat.le_add_right _ _) kk.1.2⟩, fun p e s m args below meth c9 H locs ls cells slots C hRe hS hl e1 e2 => by
    have C' := C
    obtain ⟨hx, hb, hml, hown, hts, hrt, hlk, hxt, hinn, hst9, hE⟩ := C
    have m1 : hN σ + 1 ≤ hN σe := kk.1.1
    have m2 : hU σ + n ≤ hU σe := kk.1.2
    have hKn := hE.1.1 c _ hci.1
    have hn1 := hRe.1
    refine W.newcK hx hb hown (hts _ hcl) (hts _ hin) (hts _ hini) rfl hd (by show cells + 1 ≤ hN σe - hN σ0; omega) (by show slots + n ≤ hU σe - hU σ0; omega) hKn.2.1 rfl fun H1 kC hkC f1 f2 f3 => ?_
    have h9 := kk.2 p e s m args below meth c9 H1 locs ls (cells + 1) (slots + n) C' (hRe.new f2 f3 (cOk.ob (by simp [nC, hK, u1, hn1]) hci.1 hRe.2.1 ?_)) ⟨Nat.le_trans hS.1 (by omega), fun x h1 h2 => (f3 x (Nat.lt_of_lt_of_le h1 hS.1)).trans (hS.2.1 x h1 h2), hS.2.2⟩ hl (by show _ = hN σ + 1; omega) (by show _ = hU σ + n; omega)
    · rw [hn1] at h9
      exact h9
    · refine (u_born (fty c) hts hci.2.1 hKn hkC f1 hci.2.2.1).to fun k hk => ?_
      rw [okT_dv (hok k hk)]
      simp [fv, nC, hR, hI, u1, hn1, rv]⟩
theorem V_newa {t : Nat} {n : Int32} {atype : ArrayType} (ht : newarray.typeOf atype = aty t) (h1 : 1 ≤ t) (h4 : t ≤ 4) (harr : Cond.arrayClass (aty t) ∈ lw_all) (hn : ¬ n < 0) (hb9 : n.toNatClampNeg ≤ 1000000) (hd : decode cc pc = .ok (.newarray atype, 2)) (kk : V l G own cc nL ret xt ini fr lo σ0 o σe Se (pc + 2) L (pR (hN σ) :: st) (nC σ (100 + t) n.toNatClampNeg) S) : V l G own cc nL ret xt ini fr lo σ0 o σe Se pc L (pI n :: st) σ S :=
  ⟨⟨Nat.le_trans (Nat.le_succ _) kk.1.1, Nat.le_trans (Nat.le_add_right _ _) kk.1.2⟩, fun p e s m args below meth c9 H locs ls cells slots C hRe hS hl e1 e2 => by
    have C' := C
    obtain ⟨hx, hb, hml, hown, hts, hrt, hlk, hxt, hin, hst9, hE⟩ := C
    have m1 : hN σ + 1 ≤ hN σe := kk.1.1
    have m2 : hU σ + n.toNatClampNeg ≤ hU σe := kk.1.2
    have hn1 := hRe.1
    have hcb : componentBytes (aty t) ≤ 8 := by
      have : t = 1 ∨ t = 2 ∨ t = 3 ∨ t = 4 := by omega
      rcases this with rfl | rfl | rfl | rfl <;> decide
    have hty : (tysG G)[t - 1]? = some (gA G t, aty t) := by
      have : t = 1 ∨ t = 2 ∨ t = 3 ∨ t = 4 := by omega
      rcases this with rfl | rfl | rfl | rfl <;> rfl
    have hnm : s.vm.findClass ("[" ++ (aty t).toString) = some (gA G t) := by
      have h9 := (hE.1.2 (t - 1) _ hty).2
      have : t = 1 ∨ t = 2 ∨ t = 3 ∨ t = 4 := by omega
      rcases this with rfl | rfl | rfl | rfl <;> exact h9
    refine va_newaK hx hb (by rw [ht]; exact hts _ harr) rfl hd rfl hn rfl (by rw [ht]; exact Nat.le_trans (Nat.mul_le_mul hb9 hcb) (by decide)) (by show cells + 1 ≤ hN σe - hN σ0; omega) (by show slots + n.toNatClampNeg ≤ hU σe - hU σ0; omega) rfl fun H1 cA f1 f2 f3 f4 f5 => ?_
    rw [ht] at f1 f5
    cases f5.symm.trans hnm
    have h9 := kk.2 p e s m args below meth c9 H1 locs ls (cells + 1) (slots + n.toNatClampNeg) C' (hRe.new f2 f3 (cOk.ar (t := t) (by simp [nC, hK, u1, hn1]) h1 (by omega) hRe.2.1 ?_)) ⟨Nat.le_trans hS.1 (by omega), fun x h1 h2 => (f3 x (Nat.lt_of_lt_of_le h1 hS.1)).trans (hS.2.1 x h1 h2), hS.2.2⟩ hl (by show _ = hN σ + 1; omega) (by show _ = hU σ + n.toNatClampNeg; omega)
    · rw [hn1] at h9
      exact h9
    · rw [f1]
      have hLL : hL (nC σ (100 + t) n.toNatClampNeg) (H.size + 1) = n.toNatClampNeg := by simp [nC, hL, u1, hn1]
      rw [hLL]
      refine congrArg some (congrArg (arrV _ _) ?_)
      funext j
      have : t = 1 ∨ t = 2 ∨ t = 3 ∨ t = 4 := by omega
      rcases this with rfl | rfl | rfl | rfl <;> simp [ev, nC, hA, hn1, u1, aty, defaultValue]⟩
theorem V_newq {t idx : Nat} {n : Int32} {Cn : String} (ht : (t = 5 ∧ Cn = "java/lang/Object") ∨ (t = 6 ∧ Cn = "GaugeBlocks$State")) (hcl : Cond.classLink own idx Cn ∈ lw_all) (hn : ¬ n < 0) (hb9 : n.toNatClampNeg ≤ 1000000) (hd : decode cc pc = .ok (.anewarray idx, 3)) (kk : V l G own cc nL ret xt ini fr lo σ0 o σe Se (pc + 3) L (pR (hN σ) :: st) (nC σ (100 + t) n.toNatClampNeg) S) : V l G own cc nL ret xt ini fr lo σ0 o σe Se pc L (pI n :: st) σ S :=
  ⟨⟨Nat.le_trans (Nat.le_succ _) kk.1.1, Nat.le_trans (Nat.le_add_right _ _) kk.1.2⟩, fun p e s m args below meth c9 H locs ls cells slots C hRe hS hl e1 e2 => by
    have C' := C
    obtain ⟨hx, hb, hml, hown, hts, hrt, hlk, hxt, hin, hst9, hE⟩ := C
    have m1 : hN σ + 1 ≤ hN σe := kk.1.1
    have m2 : hU σ + n.toNatClampNeg ≤ hU σe := kk.1.2
    have hn1 := hRe.1
    have hover : va_AO Cn s := by rcases ht with ⟨-, rfl⟩ | ⟨-, rfl⟩; exact hE.2.2.2.2.2.2.2.1; exact hE.2.2.2.2.2.2.2.2.1
    have hnm : s.vm.findClass ("[" ++ (FieldType.object Cn).toString) = some (gA G t) := by
      rcases ht with ⟨rfl, rfl⟩ | ⟨rfl, rfl⟩
      · obtain ⟨_, _, _, _, _, h9⟩ := (hE.1.2 4 _ rfl).2; exact h9
      · obtain ⟨_, _, _, _, _, h9⟩ := (hE.1.2 5 _ rfl).2; exact h9
    refine W.anew hx hb hown (hts _ hcl) (va_AO.use hover) rfl hd rfl hn (by omega) (by show cells + 1 ≤ hN σe - hN σ0; omega) (by show slots + n.toNatClampNeg ≤ hU σe - hU σ0; omega) fun cA kA comp f1 _ _ _ => ?_
    cases f1.symm.trans hnm
    generalize hH1 : H.push ({ cls := gA G t, slots := Array.replicate n.toNatClampNeg .null, vm := .none } : Cell) = H1
    have f2 : H1.size = H.size + 1 := by rw [← hH1, Array.size_push]
    have f4 : H1[H.size]? = some (arrV (gA G t) n.toNatClampNeg (fun _ => .null)) := by rw [← hH1, Array.getElem?_push_size, ← arrV_new]
    have f3 : ∀ q : Nat, q < H.size → H1[q]? = H[q]? := fun q hq => by rw [← hH1, Array.getElem?_push, if_neg (Nat.ne_of_lt hq)]
    have h9 := kk.2 p e s m args below meth c9 H1 locs ls (cells + 1) (slots + n.toNatClampNeg) C' (hRe.new f2 f3 (cOk.ar (t := t) (by simp [nC, hK, u1, hn1]) (by omega) (by omega) hRe.2.1 ?_)) ⟨Nat.le_trans hS.1 (by omega), fun x h1 h2 => (f3 x (Nat.lt_of_lt_of_le h1 hS.1)).trans (hS.2.1 x h1 h2), hS.2.2⟩ hl (by show _ = hN σ + 1; omega) (by show _ = hU σ + n.toNatClampNeg; omega)
    · rw [hn1] at h9
      exact h9
    · rw [f4]
      have hLL : hL (nC σ (100 + t) n.toNatClampNeg) (H.size + 1) = n.toNatClampNeg := by simp [nC, hL, u1, hn1]
      rw [hLL]
      refine congrArg some (congrArg (arrV _ _) ?_)
      funext j
      rcases ht with ⟨rfl, rfl⟩ | ⟨rfl, rfl⟩ <;> simp [ev, nC, hB, hn1, u1, rv]⟩
/-- a cast that holds: of null, or of an object of ours -/
theorem V_cast {idx a : Nat} {nm : String} (hcl : Cond.classLink own idx nm ∈ lw_all) (h : a = 0 ∨ (∃ (c : Nat) (r : vw_C), hK σ a = c + 1 ∧ CL[c]? = some r ∧ (r.1 = nm ∨ (r.1, nm) ∈ nwC)) ∨ (hK σ a = 201 ∧ (nm = "java/lang/Integer" ∨ ("java/lang/Integer", nm) ∈ nwC))) (hd : decode cc pc = .ok (.checkcast idx, 3)) (kk : V l G own cc nL ret xt ini fr lo σ0 o σe Se (pc + 3) L (pR a :: st) σ S) : V l G own cc nL ret xt ini fr lo σ0 o σe Se pc L (pR a :: st) σ S :=
  ⟨kk.1, fun p e s m args below meth c9 H locs ls cells slots C hRe hS hl e1 e2 => by
    have C' := C
    obtain ⟨hx, hb, hml, hown, hts, hrt, hlk, hxt, hin, hst9, hE⟩ := C
    have k9 := (kk.2 p e s m args below meth c9 H locs ls cells slots C' hRe hS hl e1 e2)
    rcases h with rfl | ⟨c, r, h1, h2, h3⟩ | ⟨h1, h3⟩
    · exact lv_castN hx hb hd k9
    · obtain ⟨p1, rfl, -, cell, g1, g2, g3, -⟩ := hRe.ob (C := r.1) (T := r.2.1) (N := r.2.2) h1 h2
      have hcls := (hE.1.1 c _ h2).2
      have hr : ∃ cell : Cell, H[p1]? = some cell ∧ cell.vm.isStatics = false ∧ s.vm.findClass r.1 = some cell.cls := ⟨cell, g1, by rw [g3]; rfl, by rw [g2]; exact hcls.1⟩
      rcases h3 with rfl | h3
      · exact va_castS hx hb hown (hts _ hcl) hcls hr hd k9
      · exact va_castY hx hb hown (hts _ hcl) (hE.2.2.2.2.1 _ h3) hr hd k9
    · cases a with
      | zero => rw [hRe.2.2.1] at h1; cases h1
      | succ p1 =>
        rcases hRe.2.2.2.1 p1 (by rw [h1]; decide) with ⟨c', r, z1, z2, -⟩ | ⟨t', z1, z2, z3, -⟩ | ⟨-, -, j, z2, z3, -⟩ | ⟨z1, -⟩
        · have := CL_lt z2; omega
        · omega
        · obtain ⟨cell, g1, g2, g3, -⟩ := (hE.2.1.kept hS.2.1).1.1 j z2
          rw [← z3] at g1
          have hr : ∃ cell : Cell, H[p1]? = some cell ∧ cell.vm.isStatics = false ∧ s.vm.findClass "java/lang/Integer" = some cell.cls := ⟨cell, g1, g2, g3⟩
          rcases h3 with rfl | h3
          · exact va_castE hx hb hown (hts _ hcl) hr hd k9
          · exact va_castY hx hb hown (hts _ hcl) (hE.2.2.2.2.1 _ h3) hr hd k9
        · omega⟩
theorem cat_sum (st : List PV) : ((st.map tv).map fun v => v.category).sum = (st.map fun v => if c2 v = true then 2 else 1).sum := by
  rw [List.map_map]
  exact congrArg List.sum (List.map_congr_left fun v _ => tv_cat v)
theorem V_objInit {idx a : Nat} (hk : hK σ a ≠ 0) (hq : Cond.methodLink own idx Lib.objectInit ∈ lw_all) (q2 : Cond.instanceMethod Lib.objectInit ∈ lw_all) (q3 : Cond.code Lib.objectInit ⟨#[0xb1]⟩ 1 none ∈ lw_all) (hfr : 1 ≤ fr) (hlo : (st.map fun v => if c2 v = true then 2 else 1).sum + 12 ≤ lo) (hd : decode cc pc = .ok (.invokespecial idx, 3)) (kk : V l G own cc nL ret xt ini fr lo σ0 o σe Se (pc + 3) L st σ S) : V l G own cc nL ret xt ini fr lo σ0 o σe Se pc L (pR a :: st) σ S :=
  ⟨kk.1, fun p e s m args below meth c9 H locs ls cells slots C hRe hS hl e1 e2 => by
    have C' := C
    obtain ⟨hx, hb, hml, hown, hts, hrt, hlk, hxt, hin, hst9, hE⟩ := C
    have k9 := (kk.2 p e s m args below meth c9 H locs ls cells slots C' hRe hS hl e1 e2)
    have h8 : 2 * 0 + ((st.map tv).map fun v => v.category).sum + 12 ≤ lo := by
      rw [cat_sum]
      omega
    cases a with
    | zero => exact absurd hRe.2.2.1 hk
    | succ a => exact W.objInit (rest := st.map tv) hx hb hown (hts _ hq) (hts _ q2) (hts _ q3) rfl (by rw [hml]; exact hl.1) rfl hd hfr h8 k9⟩
/-! ends -/
theorem V_iret {v : Int32} (hr : ret = some .int) (hd : decode cc pc = .ok (.ireturn, 1)) (ho : o = .inl (some (pI v)) := by rfl) (hσ : σe = σ := by rfl) (hSe : Se = S := by rfl) : V l G own cc nL ret xt ini fr lo σ0 o σe Se pc L [pI v] σ S := by
  subst ho; subst hσ; subst hSe
  exact ⟨⟨Nat.le_refl _, Nat.le_refl _⟩, fun p e s m args below meth c9 H locs ls cells slots C hRe hS hl e1 e2 => by
    have C' := C
    obtain ⟨hx, hb, hml, hown, hts, hrt, hlk, hxt, hin, hst9, hE⟩ := C
    obtain rfl : cells = hN σe - hN σ0 := by omega
    obtain rfl : slots = hU σe - hU σ0 := by omega
    exact vx_ret (W.iret hx hb (hrt.trans hr) (fun t ht hW => ⟨⟨_, rfl, rfl, by rw [ht]; exact hRe⟩, hS.F ht⟩) hS.2.2 hd hlk)⟩
theorem V_zret {v : Int32} {ty : FieldType} (hr : ret = some ty) (hn : narrow ty (.int v) = .int v) (hd : decode cc pc = .ok (.ireturn, 1)) (ho : o = .inl (some (pI v)) := by rfl) (hσ : σe = σ := by rfl) (hSe : Se = S := by rfl) : V l G own cc nL ret xt ini fr lo σ0 o σe Se pc L [pI v] σ S := by
  subst ho; subst hσ; subst hSe
  exact ⟨⟨Nat.le_refl _, Nat.le_refl _⟩, fun p e s m args below meth c9 H locs ls cells slots C hRe hS hl e1 e2 => by
    have C' := C
    obtain ⟨hx, hb, hml, hown, hts, hrt, hlk, hxt, hin, hst9, hE⟩ := C
    obtain rfl : cells = hN σe - hN σ0 := by omega
    obtain rfl : slots = hU σe - hU σ0 := by omega
    exact vx_ret (W.zret hx hb (hrt.trans hr) hn (fun t ht hW => ⟨⟨_, rfl, rfl, by rw [ht]; exact hRe⟩, hS.F ht⟩) hS.2.2 hd hlk)⟩
theorem V_dret {v : UInt64} (hr : ret = some .double) (hd : decode cc pc = .ok (.dreturn, 1)) (ho : o = .inl (some (pD v)) := by rfl) (hσ : σe = σ := by rfl) (hSe : Se = S := by rfl) : V l G own cc nL ret xt ini fr lo σ0 o σe Se pc L [pD v] σ S := by
  subst ho; subst hσ; subst hSe
  exact ⟨⟨Nat.le_refl _, Nat.le_refl _⟩, fun p e s m args below meth c9 H locs ls cells slots C hRe hS hl e1 e2 => by
    have C' := C
    obtain ⟨hx, hb, hml, hown, hts, hrt, hlk, hxt, hin, hst9, hE⟩ := C
    obtain rfl : cells = hN σe - hN σ0 := by omega
    obtain rfl : slots = hU σe - hU σ0 := by omega
    exact vx_ret (W.dret hx hb (hrt.trans hr) (fun t ht hW => ⟨⟨_, rfl, rfl, by rw [ht]; exact hRe⟩, hS.F ht⟩) hS.2.2 hd hlk)⟩
theorem V_vret (hr : ret = none) (hd : decode cc pc = .ok (.return_, 1)) (ho : o = .inl none := by rfl) (hσ : σe = σ := by rfl) (hSe : Se = S := by rfl) : V l G own cc nL ret xt ini fr lo σ0 o σe Se pc L [] σ S := by
  subst ho; subst hσ; subst hSe
  exact ⟨⟨Nat.le_refl _, Nat.le_refl _⟩, fun p e s m args below meth c9 H locs ls cells slots C hRe hS hl e1 e2 => by
    have C' := C
    obtain ⟨hx, hb, hml, hown, hts, hrt, hlk, hxt, hin, hst9, hE⟩ := C
    obtain rfl : cells = hN σe - hN σ0 := by omega
    obtain rfl : slots = hU σe - hU σ0 := by omega
    exact vx_ret (W.vret hx hb (hrt.trans hr) (fun t ht hW => ⟨⟨_, rfl, rfl, by rw [ht]; exact hRe⟩, hS.F ht⟩) hS.2.2 hd hlk)⟩
theorem rv_or (a : Nat) : rv a = .null ∨ ∃ b, rv a = .ref b := by cases a; exact Or.inl rfl; exact Or.inr ⟨_, rfl⟩
theorem V_aret {a : Nat} {rt : FieldType} (hr : ret = some rt) (hrt9 : (∃ n, rt = .object n) ∨ ∃ t, rt = .array t) (hd : decode cc pc = .ok (.areturn, 1)) (ho : o = .inl (some (pR a)) := by rfl) (hσ : σe = σ := by rfl) (hSe : Se = S := by rfl) : V l G own cc nL ret xt ini fr lo σ0 o σe Se pc L [pR a] σ S := by
  subst ho; subst hσ; subst hSe
  exact ⟨⟨Nat.le_refl _, Nat.le_refl _⟩, fun p e s m args below meth c9 H locs ls cells slots C hRe hS hl e1 e2 => by
    have C' := C
    obtain ⟨hx, hb, hml, hown, hts, hrt, hlk, hxt, hin, hst9, hE⟩ := C
    obtain rfl : cells = hN σe - hN σ0 := by omega
    obtain rfl : slots = hU σe - hU σ0 := by omega
    exact vx_ret (W.aret hx hb (hrt.trans hr) hrt9 (rv_or a) (fun t ht hW => ⟨⟨_, rfl, rfl, by rw [ht]; exact hRe⟩, hS.F ht⟩) hS.2.2 hd hlk)⟩
/-- an exception under way in this frame: an object of the class E at the address a -/
def VX (l : Launch) (G : Gx) (own : String) (cc : ByteArray) (nL : Nat) (ret : Option FieldType) (xt : List ExceptionTableEntry) (ini : Bool) (fr lo : Nat) (σ0 : Hp) (o : Oc) (σe : Hp) (Se : Ms) (pc : Nat) (L : Lo) (E : String) (a : Nat) (σ : Hp) (S : Ms) : Prop :=
  (hN σ ≤ hN σe ∧ hU σ ≤ hU σe) ∧ ∀ (p : Program) (e : Env) (s : State) (m : MethodId) (args : Array Value) (below : List Frame) (meth : Method) (c : Code) (H : Heap) (locs : List Loc) (ls : Array Slot) (cells slots : Nat) (rest : List Value) (q : Addr) (ce : Cell),
    Cx l G own cc nL ret xt ini p s m args meth c → Rep G σ S H → va_S (Af G) s.heap H locs → lv_has ls nL (L.map tq) → cells + hN σ0 = hN σ → slots + hU σ0 = hU σ → a = q + 1 → H[q]? = some ce → ce.vm = .none → s.vm.findClass E = some ce.cls →
    vx_W p l e ({ frames := fr, cells := hN σe - hN σ0, slots := hU σe - hU σ0, locals := lo }) s m args below meth c H locs cells slots (vx_MQ below (QR G o σe Se) (QX G o σe Se) args s (hN σe - hN σ0) (hU σe - hU σ0) (Af G)) (F0 m pc ls rest) q
theorem VX_out {E : String} {a : Nat} (hx9 : ∀ x ∈ xt, covers x pc = false) (ho : o = .inr (E, a) := by rfl) (hσ : σe = σ := by rfl) (hSe : Se = S := by rfl) : VX l G own cc nL ret xt ini fr lo σ0 o σe Se pc L E a σ S := by
  subst ho; subst hσ; subst hSe
  exact ⟨⟨Nat.le_refl _, Nat.le_refl _⟩, fun p e s m args below meth c9 H locs ls cells slots rest q ce C hRe hS hl e1 e2 e3 h1 h2 h3 => by
    have C' := C
    obtain ⟨hx, hb, hml, hown, hts, hrt, hlk, hxt, hin, hst9, hE⟩ := C
    exact vx_out (fun x hx => by rw [hxt] at hx; exact hx9 x hx) hlk h1 h2 h3 (fun t ht hvm => ⟨⟨by rw [e3], by rw [ht]; exact hRe⟩, hS.F ht⟩) hS.2.2 (by omega) (by omega)⟩
theorem QR_nil {oc : Oc} {σ1 : Hp} {S1 : Ms} {a : Array Value} {st t : State} {v : Option Value} (h : QR G oc σ1 S1 a st (.returned v) t) : ∃ w : Option PV, oc = .inl w ∧ v = w.map tv ∧ Rep G σ1 S1 t.heap ∧ va_F (Af G) st t := by
  obtain ⟨⟨w, h1, h2, h3⟩, h4⟩ := h
  exact ⟨w, h1, Outcome.returned.inj h2, h3, h4⟩
/-- behind a call that returns or throws -/
theorem V_of_run {oc : Oc} {σ1 : Hp} {S1 : Ms} {rest st0 : List PV} {p : Program} {e : Env} {s : State} {m : MethodId} {args : Array Value} {below : List Frame} {meth : Method} {c9 : Code} {H : Heap} {locs : List Loc} {ls : Array Slot} {cells slots : Nat} {a : Array Value}
    (C : Cx l G own cc nL ret xt ini p s m args meth c9) (hS : va_S (Af G) s.heap H locs) (hl : lv_has ls nL (L.map tq)) (e1 : cells + hN σ0 = hN σ) (e2 : slots + hU σ0 = hU σ) (hm : hN σ ≤ hN σ1 ∧ hU σ ≤ hU σ1)
    (hr : vx_Run p l e ({ frames := fr, cells := hN σe - hN σ0, slots := hU σe - hU σ0, locals := lo }) s m args below meth c9 H locs cells slots (hN σ1 - hN σ) (hU σ1 - hU σ) (F0 m pc ls (st0.map tv)) (rest.map tv) (QR G oc σ1 S1 a) (QX G oc σ1 S1) (Af G))
    (kk : ∀ v, oc = .inl v → V l G own cc nL ret xt ini fr lo σ0 o σe Se (pc + 3) L (v.toList ++ rest) σ1 S1) (kx : ∀ E q, oc = .inr (E, q) → VX l G own cc nL ret xt ini fr lo σ0 o σe Se pc L E q σ1 S1) :
    W p l e ({ frames := fr, cells := hN σe - hN σ0, slots := hU σe - hU σ0, locals := lo }) s m args below meth c9 H locs cells slots (vx_MQ below (QR G o σe Se) (QX G o σe Se) args s (hN σe - hN σ0) (hU σe - hU σ0) (Af G)) (F0 m pc ls (st0.map tv)) := by
  intro T hT X
  rcases hr T hT X with ⟨v, st₀, t, T', L1, h0, X', hL1, f1, f2, hq, st⟩ | ⟨q, st₀, t, T', L1, E, ce, h0, X', hL1, f1, f2, ⟨⟨ho, hRe⟩, hF⟩, hce, hcv, hcl, st⟩
  · obtain ⟨w, ho, rfl, hRe, hF⟩ := QR_nil hq
    obtain ⟨k1, k2, k3⟩ := vx_keep h0 f1 hS (fun q _ h => h) (fun q h => h) hL1 hF
    have h9 := (kk w ho).2 p e s m args below meth c9 T'.heap (locs ++ L1) ls (cells + (hN σ1 - hN σ)) (slots + (hU σ1 - hU σ)) C (by rw [f1]; exact hRe) k3 hl (by omega) (by omega) T' rfl
    have h8 : (w.map tv).toList ++ rest.map tv = (w.toList ++ rest).map tv := by cases w <;> rfl
    have st' : Goes p e below T (F0 m pc ls (st0.map tv)) T' (F0 m (pc + 3) ls ((w.map tv).toList ++ rest.map tv)) := st
    rw [h8] at st'
    obtain ⟨t2, a1, b1⟩ := h9 X'
    exact ⟨t2, st' t2 a1, b1⟩
  · obtain ⟨k1, k2, k3⟩ := vx_keep h0 f1 hS (fun q _ h => h) (fun q h => h) hL1 hF
    obtain ⟨t2, a1, b1⟩ := (kx E (q + 1) ho).2 p e s m args below meth c9 T'.heap (locs ++ L1) ls (cells + (hN σ1 - hN σ)) (slots + (hU σ1 - hU σ)) (rest.map tv) q ce C (by rw [f1]; exact hRe) k3 hl (by omega) (by omega) rfl (by rw [f1]; exact hce) hcv hcl T' rfl X'
    exact ⟨t2, st.trans a1, b1⟩
theorem Inv_blind {σ : Hp} {S : Ms} {av : List Value} : FrameBlind (va_Pc av (Inv G σ S)) := fun a U g mk h => ⟨h.1, h.2.1, En.call h.2.2⟩
theorem V_pre {s : State} {H : Heap} {locs : List Loc} {av : List PV} (hE : En G s) (hRe : Rep G σ S H) (hS : va_S (Af G) s.heap H locs) : PreS s H (va_Pc (av.map tv) (Inv G σ S)) (av.map tv) :=
  ⟨Inv_blind, fun U hU hW => ⟨rfl, by rw [hU]; exact hRe, En.next hE hS hU hW⟩⟩
theorem rest_cat {st : List PV} (h : (st.map fun v => if c2 v = true then 2 else 1).sum ≤ 8) {m : MethodId} {pc9 : Nat} {ls : Array Slot} {st9 : List Value} : 2 * (F0 m pc9 ls st9).monitorRoom + ((st.map tv).map fun v => v.category).sum ≤ 8 := by
  have e9 : ((st.map tv).map fun v => v.category) = st.map (fun v => if c2 v = true then 2 else 1) := by
    rw [List.map_map]
    exact List.map_congr_left fun v _ => tv_cat v
  rw [e9]
  have : (F0 m pc9 ls st9).monitorRoom = 0 := rfl
  omega
theorem V_callV {y : MethodName} {bytes : ByteArray} {maxL frc loc idx : Nat} {retc : Option FieldType} {av rest : List PV} {σ1 : Hp} {S1 : Ms} {oc : Oc} {b c : Nat} {r : vw_C} (hM : MT l G y (ws_ y bytes maxL retc) frc loc (pR b :: av) σ S oc σ1 S1) (hw : GoodIn lw_all (wsV own idx r.1 y (ws_ y bytes maxL retc))) (hd0 : y.cls = r.1 ∧ y.cls ≠ "java/lang/invoke/MethodHandle" ∧ y.cls ≠ "java/lang/invoke/VarHandle" ∧ (parseMethodDescriptor y.desc).map (fun d => d.parameters.length) = some av.length) (hrm : frc + 1 ≤ fr ∧ 8 + (maxL + 11) + loc ≤ lo) (hcat : (rest.map fun v => if c2 v = true then 2 else 1).sum ≤ 8) (hk : hK σ b = c + 1) (hcr : CL[c]? = some r) (hd : decode cc pc = .ok (.invokevirtual idx, 3)) (kk : ∀ v, oc = .inl v → V l G own cc nL ret xt ini fr lo σ0 o σe Se (pc + 3) L (v.toList ++ rest) σ1 S1) (kx : ∀ E q, oc = .inr (E, q) → VX l G own cc nL ret xt ini fr lo σ0 o σe Se pc L E q σ1 S1) : V l G own cc nL ret xt ini fr lo σ0 o σe Se pc L (av.reverse ++ pR b :: rest) σ S :=
  ⟨by
    have hm1 := hM.1
    rcases oc with v | ⟨E, q⟩
    · have := (kk v rfl).1; omega
    · have := (kx E q rfl).1; omega, fun p e s m args below meth c9 H locs ls cells slots C hRe hS hl e1 e2 => by
    have C' := C
    obtain ⟨hx, hb, hml, hown, hts, hrt, hlk, hxt, hin, hst9, hE⟩ := C
    have hmo : hN σ1 ≤ hN σe ∧ hU σ1 ≤ hU σe := by
      rcases oc with v | ⟨E, q⟩
      · exact (kk v rfl).1
      · exact (kx E q rfl).1
    have hm1 := hM.1
    obtain ⟨p1, rfl, -, cellB, g1, g2, g3, -⟩ := hRe.ob (C := r.1) (T := r.2.1) (N := r.2.2) hk hcr
    have hcls := (hE.1.1 c _ hcr).2
    have hp : PreV s H r.1 p1 (va_Pc ((pR (p1 + 1) :: av).map tv) (Inv G σ S)) (av.map tv) := ⟨Inv_blind, ⟨cellB, g1, by rw [g3]; rfl, by rw [g2]; exact hcls.1⟩, (V_pre (av := pR (p1 + 1) :: av) hE hRe hS).2⟩
    exact V_of_run C' hS hl e1 e2 hm1 (vx_runV ⟨hx, hb, hml, hown, hts⟩ hM.2 (cwV av.length hts hw rfl rfl rfl hd0 hrm) hp rfl (List.length_map _) hl.1 (by show (av.reverse ++ pR (p1 + 1) :: rest).map tv = _; rw [List.map_append, List.map_reverse]; rfl) (rest_cat hcat) hd ⟨by show cells + (hN σ1 - hN σ) ≤ hN σe - hN σ0; omega, by show slots + (hU σ1 - hU σ) ≤ hU σe - hU σ0; omega⟩) kk kx⟩
theorem V_callS {y : MethodName} {bytes : ByteArray} {maxL frc loc idx : Nat} {retc : Option FieldType} {av rest : List PV} {σ1 : Hp} {S1 : Ms} {oc : Oc} (hM : MT l G y (ws_ y bytes maxL retc) frc loc (av) σ S oc σ1 S1) (hw : GoodIn lw_all (va_wsS own idx y (ws_ y bytes maxL retc))) (hd0 : y.cls ≠ "java/lang/invoke/MethodHandle" ∧ y.cls ≠ "java/lang/invoke/VarHandle" ∧ (parseMethodDescriptor y.desc).map (fun d => d.parameters.length) = some av.length) (hrm : frc + 1 ≤ fr ∧ 8 + (maxL + 11) + loc ≤ lo) (hcat : (rest.map fun v => if c2 v = true then 2 else 1).sum ≤ 8) (hd : decode cc pc = .ok (.invokestatic idx, 3)) (kk : ∀ v, oc = .inl v → V l G own cc nL ret xt ini fr lo σ0 o σe Se (pc + 3) L (v.toList ++ rest) σ1 S1) (kx : ∀ E q, oc = .inr (E, q) → VX l G own cc nL ret xt ini fr lo σ0 o σe Se pc L E q σ1 S1) : V l G own cc nL ret xt ini fr lo σ0 o σe Se pc L (av.reverse ++ rest) σ S :=
  ⟨by
    have hm1 := hM.1
    rcases oc with v | ⟨E, q⟩
    · have := (kk v rfl).1; omega
    · have := (kx E q rfl).1; omega, fun p e s m args below meth c9 H locs ls cells slots C hRe hS hl e1 e2 => by
    have C' := C
    obtain ⟨hx, hb, hml, hown, hts, hrt, hlk, hxt, hin, hst9, hE⟩ := C
    have hmo : hN σ1 ≤ hN σe ∧ hU σ1 ≤ hU σe := by
      rcases oc with v | ⟨E, q⟩
      · exact (kk v rfl).1
      · exact (kx E q rfl).1
    have hm1 := hM.1
    exact V_of_run C' hS hl e1 e2 hm1 (vx_runS ⟨hx, hb, hml, hown, hts⟩ hM.2 (va_cwS av.length hts hw rfl rfl rfl hd0 hrm) (V_pre hE hRe hS) rfl (List.length_map _) hl.1 (by show (av.reverse ++ rest).map tv = _; rw [List.map_append, List.map_reverse]) (rest_cat hcat) hd ⟨by show cells + (hN σ1 - hN σ) ≤ hN σe - hN σ0; omega, by show slots + (hU σ1 - hU σ) ≤ hU σe - hU σ0; omega⟩) kk kx⟩
theorem V_callI {y : MethodName} {bytes : ByteArray} {maxL frc loc idx : Nat} {av rest : List PV} {σ1 : Hp} {S1 : Ms} {oc : Oc} {b : Nat} (hM : MT l G y (ws_ y bytes maxL none) frc loc (pR b :: av) σ S oc σ1 S1) (hq : Cond.code y bytes maxL none ∈ lw_all) (hi1 : Cond.initialized y.cls ∈ lw_all) (hq1 : Cond.methodLink own idx y ∈ lw_all) (hq2 : Cond.instanceMethod y ∈ lw_all) (hy : y.name = "<init>") (hd0 : y.cls ≠ "java/lang/invoke/MethodHandle" ∧ y.cls ≠ "java/lang/invoke/VarHandle" ∧ (parseMethodDescriptor y.desc).map (fun d => d.parameters.length) = some av.length) (hrm : frc + 1 ≤ fr ∧ 8 + (maxL + 11) + loc ≤ lo) (hcat : (rest.map fun v => if c2 v = true then 2 else 1).sum ≤ 8) (hb0 : hK σ b ≠ 0) (hd : decode cc pc = .ok (.invokespecial idx, 3)) (kk : ∀ v, oc = .inl v → V l G own cc nL ret xt ini fr lo σ0 o σe Se (pc + 3) L (v.toList ++ rest) σ1 S1) (kx : ∀ E q, oc = .inr (E, q) → VX l G own cc nL ret xt ini fr lo σ0 o σe Se pc L E q σ1 S1) : V l G own cc nL ret xt ini fr lo σ0 o σe Se pc L (av.reverse ++ pR b :: rest) σ S :=
  ⟨by
    have hm1 := hM.1
    rcases oc with v | ⟨E, q⟩
    · have := (kk v rfl).1; omega
    · have := (kx E q rfl).1; omega, fun p e s m args below meth c9 H locs ls cells slots C hRe hS hl e1 e2 => by
    have C' := C
    obtain ⟨hx, hb, hml, hown, hts, hrt, hlk, hxt, hin, hst9, hE⟩ := C
    have hmo : hN σ1 ≤ hN σe ∧ hU σ1 ≤ hU σe := by
      rcases oc with v | ⟨E, q⟩
      · exact (kk v rfl).1
      · exact (kx E q rfl).1
    have hm1 := hM.1
    cases b with
    | zero => exact absurd hRe.2.2.1 hb0
    | succ p1 => exact V_of_run C' hS hl e1 e2 hm1 (vx_runI (As := av.map tv) (b := p1) ⟨hx, hb, hml, hown, hts⟩ hM.2 (cwI av.length hts (lw_meth hq) rfl rfl rfl (hts _ hi1) (hts _ hq1) (hts _ hq2) hy hd0 hrm) (V_pre (av := pR (p1 + 1) :: av) hE hRe hS) rfl (List.length_map _) hl.1 (by show (av.reverse ++ pR (p1 + 1) :: rest).map tv = _; rw [List.map_append, List.map_reverse]; rfl) (rest_cat hcat) hd ⟨by show cells + (hN σ1 - hN σ) ≤ hN σe - hN σ0; omega, by show slots + (hU σ1 - hU σ) ≤ hU σe - hU σ0; omega⟩) kk kx⟩
theorem V_callSN {y : MethodName} {bytes : ByteArray} {maxL frc loc idx : Nat} {retc : Option FieldType} {av rest : List PV} {σ1 : Hp} {S1 : Ms} {oc : Oc} {host : String} (hM : MT l G y (ws_ y bytes maxL retc) frc loc (av) σ S oc σ1 S1) (hq : Cond.code y bytes maxL retc ∈ lw_all) (hq2 : Cond.static y ∈ lw_all) (hi1 : Cond.initialized y.cls ∈ lw_all) (hln : Cond.methodLinkNest own idx y host ∈ nwM) (hd0 : y.cls ≠ "java/lang/invoke/MethodHandle" ∧ y.cls ≠ "java/lang/invoke/VarHandle" ∧ (parseMethodDescriptor y.desc).map (fun d => d.parameters.length) = some av.length) (hrm : frc + 1 ≤ fr ∧ 8 + (maxL + 11) + loc ≤ lo) (hcat : (rest.map fun v => if c2 v = true then 2 else 1).sum ≤ 8) (hd : decode cc pc = .ok (.invokestatic idx, 3)) (kk : ∀ v, oc = .inl v → V l G own cc nL ret xt ini fr lo σ0 o σe Se (pc + 3) L (v.toList ++ rest) σ1 S1) (kx : ∀ E q, oc = .inr (E, q) → VX l G own cc nL ret xt ini fr lo σ0 o σe Se pc L E q σ1 S1) : V l G own cc nL ret xt ini fr lo σ0 o σe Se pc L (av.reverse ++ rest) σ S :=
  ⟨by
    have hm1 := hM.1
    rcases oc with v | ⟨E, q⟩
    · have := (kk v rfl).1; omega
    · have := (kx E q rfl).1; omega, fun p e s m args below meth c9 H locs ls cells slots C hRe hS hl e1 e2 => by
    have C' := C
    obtain ⟨hx, hb, hml, hown, hts, hrt, hlk, hxt, hin, hst9, hE⟩ := C
    have hmo : hN σ1 ≤ hN σe ∧ hU σ1 ≤ hU σe := by
      rcases oc with v | ⟨E, q⟩
      · exact (kk v rfl).1
      · exact (kx E q rfl).1
    have hm1 := hM.1
    exact V_of_run C' hS hl e1 e2 hm1 (vx_runSN ⟨hx, hb, hml, hown, hts⟩ hM.2 ⟨va_cnB av.length hts (lw_meth hq) rfl rfl rfl (hE.2.2.2.1 _ hln) (hts _ hi1) hd0 hrm, hts _ hq2, trivial⟩ (V_pre hE hRe hS) rfl (List.length_map _) hl.1 (by show (av.reverse ++ rest).map tv = _; rw [List.map_append, List.map_reverse]) (rest_cat hcat) hd ⟨by show cells + (hN σ1 - hN σ) ≤ hN σe - hN σ0; omega, by show slots + (hU σ1 - hU σ) ≤ hU σe - hU σ0; omega⟩) kk kx⟩
theorem V_callIN {y : MethodName} {bytes : ByteArray} {maxL frc loc idx : Nat} {av rest : List PV} {σ1 : Hp} {S1 : Ms} {oc : Oc} {b : Nat} {host : String} (hM : MT l G y (ws_ y bytes maxL none) frc loc (pR b :: av) σ S oc σ1 S1) (hq : Cond.code y bytes maxL none ∈ lw_all) (hi1 : Cond.initialized y.cls ∈ lw_all) (hln : Cond.methodLinkNest own idx y host ∈ nwM) (hq2 : Cond.instanceMethod y ∈ lw_all) (hy : y.name = "<init>") (hd0 : y.cls ≠ "java/lang/invoke/MethodHandle" ∧ y.cls ≠ "java/lang/invoke/VarHandle" ∧ (parseMethodDescriptor y.desc).map (fun d => d.parameters.length) = some av.length) (hrm : frc + 1 ≤ fr ∧ 8 + (maxL + 11) + loc ≤ lo) (hcat : (rest.map fun v => if c2 v = true then 2 else 1).sum ≤ 8) (hb0 : hK σ b ≠ 0) (hd : decode cc pc = .ok (.invokespecial idx, 3)) (kk : ∀ v, oc = .inl v → V l G own cc nL ret xt ini fr lo σ0 o σe Se (pc + 3) L (v.toList ++ rest) σ1 S1) (kx : ∀ E q, oc = .inr (E, q) → VX l G own cc nL ret xt ini fr lo σ0 o σe Se pc L E q σ1 S1) : V l G own cc nL ret xt ini fr lo σ0 o σe Se pc L (av.reverse ++ pR b :: rest) σ S :=
  ⟨by
    have hm1 := hM.1
    rcases oc with v | ⟨E, q⟩
    · have := (kk v rfl).1; omega
    · have := (kx E q rfl).1; omega, fun p e s m args below meth c9 H locs ls cells slots C hRe hS hl e1 e2 => by
    have C' := C
    obtain ⟨hx, hb, hml, hown, hts, hrt, hlk, hxt, hin, hst9, hE⟩ := C
    have hmo : hN σ1 ≤ hN σe ∧ hU σ1 ≤ hU σe := by
      rcases oc with v | ⟨E, q⟩
      · exact (kk v rfl).1
      · exact (kx E q rfl).1
    have hm1 := hM.1
    cases b with
    | zero => exact absurd hRe.2.2.1 hb0
    | succ p1 => exact V_of_run C' hS hl e1 e2 hm1 (vx_runIN (As := av.map tv) (b := p1) ⟨hx, hb, hml, hown, hts⟩ hM.2 ⟨va_cnB av.length hts (lw_meth hq) rfl rfl rfl (hE.2.2.2.1 _ hln) (hts _ hi1) hd0 hrm, hy, hts _ hq2⟩ (V_pre (av := pR (p1 + 1) :: av) hE hRe hS) rfl (List.length_map _) hl.1 (by show (av.reverse ++ pR (p1 + 1) :: rest).map tv = _; rw [List.map_append, List.map_reverse]; rfl) (rest_cat hcat) hd ⟨by show cells + (hN σ1 - hN σ) ≤ hN σe - hN σ0; omega, by show slots + (hU σ1 - hU σ) ≤ hU σe - hU σ0; omega⟩) kk kx⟩
theorem V_callU {y : MethodName} {bytes : ByteArray} {maxL frc loc idx : Nat} {retc : Option FieldType} {av rest : List PV} {σ1 : Hp} {S1 : Ms} {oc : Oc} {b c : Nat} {r : vw_C} {x : MethodName} {owner : String} (hM : MT l G y (ws_ y bytes maxL retc) frc loc (pR b :: av) σ S oc σ1 S1) (hw : GoodIn lw_all (va_wsU own idx r.1 owner x y (ws_ y bytes maxL retc))) (hyx : y = ⟨owner, x.name, x.desc⟩) (hd0 : owner ≠ "java/lang/invoke/MethodHandle" ∧ owner ≠ "java/lang/invoke/VarHandle" ∧ (parseMethodDescriptor x.desc).map (fun d => d.parameters.length) = some av.length) (hrm : frc + 1 ≤ fr ∧ 8 + (maxL + 11) + loc ≤ lo) (hcat : (rest.map fun v => if c2 v = true then 2 else 1).sum ≤ 8) (hk : hK σ b = c + 1) (hcr : CL[c]? = some r) (hd : decode cc pc = .ok (.invokevirtual idx, 3)) (kk : ∀ v, oc = .inl v → V l G own cc nL ret xt ini fr lo σ0 o σe Se (pc + 3) L (v.toList ++ rest) σ1 S1) (kx : ∀ E q, oc = .inr (E, q) → VX l G own cc nL ret xt ini fr lo σ0 o σe Se pc L E q σ1 S1) : V l G own cc nL ret xt ini fr lo σ0 o σe Se pc L (av.reverse ++ pR b :: rest) σ S :=
  ⟨by
    have hm1 := hM.1
    rcases oc with v | ⟨E, q⟩
    · have := (kk v rfl).1; omega
    · have := (kx E q rfl).1; omega, fun p e s m args below meth c9 H locs ls cells slots C hRe hS hl e1 e2 => by
    have C' := C
    obtain ⟨hx, hb, hml, hown, hts, hrt, hlk, hxt, hin, hst9, hE⟩ := C
    have hmo : hN σ1 ≤ hN σe ∧ hU σ1 ≤ hU σe := by
      rcases oc with v | ⟨E, q⟩
      · exact (kk v rfl).1
      · exact (kx E q rfl).1
    have hm1 := hM.1
    obtain ⟨p1, rfl, -, cellB, g1, g2, g3, -⟩ := hRe.ob (C := r.1) (T := r.2.1) (N := r.2.2) hk hcr
    have hcls := (hE.1.1 c _ hcr).2
    have hp : PreV s H r.1 p1 (va_Pc ((pR (p1 + 1) :: av).map tv) (Inv G σ S)) (av.map tv) := ⟨Inv_blind, ⟨cellB, g1, by rw [g3]; rfl, by rw [g2]; exact hcls.1⟩, (V_pre (av := pR (p1 + 1) :: av) hE hRe hS).2⟩
    exact V_of_run C' hS hl e1 e2 hm1 (vx_runU ⟨hx, hb, hml, hown, hts⟩ hM.2 (va_cwU av.length hts hw rfl rfl rfl hyx hd0 hrm) hp rfl (List.length_map _) hl.1 (by show (av.reverse ++ pR (p1 + 1) :: rest).map tv = _; rw [List.map_append, List.map_reverse]; rfl) (rest_cat hcat) hd ⟨by show cells + (hN σ1 - hN σ) ≤ hN σe - hN σ0; omega, by show slots + (hU σ1 - hU σ) ≤ hU σe - hU σ0; omega⟩) kk kx⟩
end VCalls
