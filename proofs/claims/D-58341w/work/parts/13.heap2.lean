/-! ROWS OF V, second part: stores, arrays, new cells, casts, ends -/
section VHeap2
variable {l : Launch} {G : Gx} {own : String} {cc : ByteArray} {nL : Nat} {ret : Option FieldType} {xt : List ExceptionTableEntry} {ini : Bool} {fr lo : Nat} {σ0 σe : Hp} {o : Oc} {Se : Ms} {pc : Nat} {L L' : Lo} {st : List PV} {σ : Hp} {S : Ms}
/-- what may stand in a field of this type -/
def okF (c k : Nat) (v : PV) : Prop := (match v with | .inl _ => isRf (fty c k) = false | .inr (.inl _) => isRf (fty c k) = true | _ => False) ∧ narrow (fty c k) (tv v) = tv v ∧ fits (fty c k) (tv v) = true
theorem okF_int {c k : Nat} (x : Int32) (h : fty c k = .int) : okF c k (pI x) := by
  refine ⟨?_, ?_, ?_⟩
  · show isRf (fty c k) = false
    rw [h]; rfl
  · rw [h]; rfl
  · rw [h]; rfl
theorem okF_obj {c k : Nat} {n : String} (a : Nat) (h : fty c k = .object n) : okF c k (pR a) := by
  refine ⟨?_, ?_, ?_⟩
  · show isRf (fty c k) = true
    rw [h]; rfl
  · rw [h]; cases a <;> rfl
  · rw [h]; cases a <;> rfl
theorem okF_arr {c k : Nat} {t : FieldType} (a : Nat) (h : fty c k = .array t) : okF c k (pR a) := by
  refine ⟨?_, ?_, ?_⟩
  · show isRf (fty c k) = true
    rw [h]; rfl
  · rw [h]; cases a <;> rfl
  · rw [h]; cases a <;> rfl
theorem okF_nar {c k : Nat} {x : Int32} (h0 : isRf (fty c k) = false) (h1 : narrow (fty c k) (.int x) = .int x) (h2 : fits (fty c k) (.int x) = true) : okF c k (pI x) := ⟨h0, h1, h2⟩
theorem ap_of {c : Nat} {C : String} {T : u_T} {N : Nat} (h : CI c C T N) {s : State} {args : Array Value} (hts : ∀ w ∈ lw_all, w.before args s = true) (hK : va_K (gC G, gI G) CL (tysG G) s) : ∀ x y, x < N → y < N → x ≠ y → (gI G c) x ≠ (gI G c) y :=
  va_apart (own := C) hts h.2.1 (fty c) h.2.2.1 h.2.2.2 hK h.1
theorem cOk.ob {c p : Nat} {r : vw_C} {H : Heap} (h1 : hK σ (p + 1) = c + 1) (h2 : CL[c]? = some r) (h3 : gB G ≤ p) (h4 : t_OB p (gC G c) r.2.2 (gI G c) H (fv σ c (p + 1))) : cOk G σ p H := Or.inl ⟨c, r, h1, h2, h3, h4⟩
theorem hK_sF (a f : Nat) (v : PV) : hK (sF σ a f v) = hK σ := by rcases v with x | b | x | x <;> rfl
theorem hN_sF (a f : Nat) (v : PV) : hN (sF σ a f v) = hN σ := by rcases v with x | b | x | x <;> rfl
theorem hQ_sF (a f : Nat) (v : PV) : hQ (sF σ a f v) = hQ σ := by rcases v with x | b | x | x <;> rfl
theorem hU_sF (a f : Nat) (v : PV) : hU (sF σ a f v) = hU σ := by rcases v with x | b | x | x <;> rfl
theorem Sam_sF {a f b : Nat} {v : PV} (h : b ≠ a) : Sam σ (sF σ a f v) b := by
  rcases v with x | y | x | x
  · exact Sam_sI h
  · exact Sam_sR h
  · exact ⟨rfl, rfl, rfl, rfl, rfl, rfl⟩
  · exact ⟨rfl, rfl, rfl, rfl, rfl, rfl⟩
theorem V_put {idx c k a : Nat} {v : PV} (hf : GF own idx c k false) (hk : hK σ a = c + 1) (hv : okF c k v) (hd : decode cc pc = .ok (.putfield idx, 3)) (kk : V l G own cc nL ret xt ini fr lo σ0 o σe Se (pc + 3) L st (sF σ a (10 * (c + 1) + k) v) S) : V l G own cc nL ret xt ini fr lo σ0 o σe Se pc L (v :: pR a :: st) σ S :=
  ⟨by have h9 := kk.1; rwa [hN_sF, hU_sF] at h9, fun p e s m args below meth c9 H locs ls cells slots C hR hS hl e1 e2 => by
    have C' := C
    obtain ⟨hx, hb, hml, hown, hts, hrt, hlk, hxt, hin, hst9, hE⟩ := C
    obtain ⟨C1, T, N, ref, hci, h5, h6, h7, h8, h9⟩ := hf
    have hap := ap_of hci hts hE.1
    obtain ⟨h1, h2, h3, h4⟩ := hci
    obtain ⟨p1, rfl, hgb, cell, q1, q2, q3, q4⟩ := hR.ob hk h1
    obtain ⟨hSl, hfc, kC, hkC, hkind⟩ := hE.1.1 c _ h1
    obtain ⟨cf, kf, fi, f, hi, hsl⟩ := hSl k h5
    have hi' : s.fieldFound? ref (T k).2.1 (T k).2.2.1 = some (cf, kf, fi, f) := by
      rcases h7 with e | e
      · rw [e]; exact hi
      · exact u_same (hts _ e) _ hi
    have hlay := hts _ (h2 _ (u_in_lay h5))
    unfold u_lay at hlay
    rw [if_neg (by rw [h8]; decide)] at hlay
    have hst := (u_facts hfc hkC (u_lays hts h2 h5) hi).1
    have h6' := u_store hfc hkC hkind hlay hi (h3 k h5) hv.2.1 hv.2.2
    refine W.putK hx hb (f := f) ⟨hown, hts _ h6, ⟨_, _, _, hi'⟩, hst⟩ (by rw [q2]; exact h6') q1 q3 (by rw [hsl]; exact k2_hasslot (q4 k h5)) rfl rfl hd fun H' e1' e2' e3' => ?_
    rw [hsl] at e1' ⊢
    refine kk.2 p e s m args below meth c9 H' _ ls cells slots C' (hR.upd (hQ_sF _ _ _) (hN_sF _ _ _) (hK_sF _ _ _) (by rw [hk]; exact Nat.succ_ne_zero c) (fun b hb => Sam_sF hb) e2' e3' (cOk.ob (by rw [hK_sF]; exact hk) h1 hgb ?_)) (hS.put e2' e3' hgb) hl (by rw [hN_sF]; exact e1) (by rw [hU_sF]; exact e2)
    exact t_OB.to (V := updV (fv σ c (p1 + 1)) k (tv v)) ⟨_, e1', q2, q3, t_set q4 hap h5 (tv v)⟩ (fun j _ => fv_sF hv.1 j)⟩
theorem V_putF {idx c k a : Nat} {v : PV} (hf : GF own idx c k true) (h0 : ini = true) (hk : hK σ a = c + 1) (hv : okF c k v) (hd : decode cc pc = .ok (.putfield idx, 3)) (kk : V l G own cc nL ret xt ini fr lo σ0 o σe Se (pc + 3) L st (sF σ a (10 * (c + 1) + k) v) S) : V l G own cc nL ret xt ini fr lo σ0 o σe Se pc L (v :: pR a :: st) σ S :=
  ⟨by have h9 := kk.1; rwa [hN_sF, hU_sF] at h9, fun p e s m args below meth c9 H locs ls cells slots C hR hS hl e1 e2 => by
    have C' := C
    obtain ⟨hx, hb, hml, hown, hts, hrt, hlk, hxt, hin, hst9, hE⟩ := C
    obtain ⟨C1, T, N, ref, hci, h5, h6, h7, h8, h9⟩ := hf
    have hap := ap_of hci hts hE.1
    obtain ⟨h1, h2, h3, h4⟩ := hci
    obtain ⟨p1, rfl, hgb, cell, q1, q2, q3, q4⟩ := hR.ob hk h1
    obtain ⟨hSl, hfc, kC, hkC, hkind⟩ := hE.1.1 c _ h1
    obtain ⟨cf, kf, fi, f, hi, hsl⟩ := hSl k h5
    have hi' : s.fieldFound? ref (T k).2.1 (T k).2.2.1 = some (cf, kf, fi, f) := by
      rcases h7 with e | e
      · rw [e]; exact hi
      · exact u_same (hts _ e) _ hi
    have hlay := hts _ (h2 _ (u_in_lay h5))
    unfold u_lay at hlay
    rw [if_pos h8] at hlay
    have hst := (u_facts hfc hkC (u_lays hts h2 h5) hi).1
    have hcf : m.cls = cf := by
      obtain ⟨_, _, c', _, _, _, -, -, hf', -, -, -, hown2, -⟩ := Cond.laysFinal_spec hlay
      have e1 : c' = cf := by have := hi.symm.trans hf'; simp at this; exact this.1.symm
      rw [h9 rfl] at hown2
      rw [← e1]; exact Option.some.inj (hown.symm.trans hown2)
    have h6' := u_fits hfc hkC hkind (Or.inr hlay) hi (h3 k h5) hv.2.1 hv.2.2
    refine W.putFinK hx hb hown (hts _ h6) hi' hst hcf (hin h0) (by rw [q2]; exact h6') q1 q3 (by rw [hsl]; exact k2_hasslot (q4 k h5)) rfl rfl hd fun H' e1' e2' e3' => ?_
    rw [hsl] at e1' ⊢
    refine kk.2 p e s m args below meth c9 H' _ ls cells slots C' (hR.upd (hQ_sF _ _ _) (hN_sF _ _ _) (hK_sF _ _ _) (by rw [hk]; exact Nat.succ_ne_zero c) (fun b hb => Sam_sF hb) e2' e3' (cOk.ob (by rw [hK_sF]; exact hk) h1 hgb ?_)) (hS.put e2' e3' hgb) hl (by rw [hN_sF]; exact e1) (by rw [hU_sF]; exact e2)
    exact t_OB.to (V := updV (fv σ c (p1 + 1)) k (tv v)) ⟨_, e1', q2, q3, t_set q4 hap h5 (tv v)⟩ (fun j _ => fv_sF hv.1 j)⟩
theorem V_getvN {idx c k a : Nat} {v : PV} (hf : GFN own idx c k) (hk : hK σ a = c + 1) (hv : fv σ c a k = tv v) (hd : decode cc pc = .ok (.getfield idx, 3)) (kk : V l G own cc nL ret xt ini fr lo σ0 o σe Se (pc + 3) L (v :: st) σ S) : V l G own cc nL ret xt ini fr lo σ0 o σe Se pc L (pR a :: st) σ S :=
  ⟨kk.1, fun p e s m args below meth c9 H locs ls cells slots C hR hS hl e1 e2 => by
    have C' := C
    obtain ⟨hx, hb, hml, hown, hts, hrt, hlk, hxt, hin, hst9, hE⟩ := C
    obtain ⟨C1, T, N, host, ⟨h1, h2, h3, h4⟩, h5, h6⟩ := hf
    obtain ⟨p1, rfl, -, cell, q1, q2, q3, q4⟩ := hR.ob hk h1
    obtain ⟨hSl, hfc, kC, hkC, hkind⟩ := hE.1.1 c _ h1
    obtain ⟨cf, kf, fi, f, hi, hsl⟩ := hSl k h5
    refine va_Wgetf hx hb hown (va_Nw.use rfl (hE.2.2.1 _ h6)) hi (u_facts hfc hkC (u_lays hts h2 h5) hi).1 q1 (by rw [q3]; exact fun h => by cases h) (v := tv v) ?_ rfl rfl hd (kk.2 p e s m args below meth c9 H locs ls cells slots C' hR hS hl e1 e2)
    rw [hsl, q4 k h5, hv]⟩
theorem V_gets {C1 n d ref : String} {idx : Nat} {v : PV} (hZ : ∀ (U : State) (H : Heap), Old G U H → va_Z C1 n d (tv v) (Af G) U H) (hq : Cond.fieldLink own idx ref n d ∈ lw_all) (hr : ref = C1) (hd : decode cc pc = .ok (.getstatic idx, 3)) (kk : V l G own cc nL ret xt ini fr lo σ0 o σe Se (pc + 3) L (v :: st) σ S) : V l G own cc nL ret xt ini fr lo σ0 o σe Se pc L st σ S :=
  ⟨kk.1, fun p e s m args below meth c9 H locs ls cells slots C hR hS hl e1 e2 => by
    have C' := C
    obtain ⟨hx, hb, hml, hown, hts, hrt, hlk, hxt, hin, hst9, hE⟩ := C
    subst hr
    exact va_gets hx hb (hZ s s.heap hE.2.1) hS hown (hts _ hq) (fun _ h => h) hd (kk.2 p e s m args below meth c9 H locs ls cells slots C' hR hS hl e1 e2)⟩
theorem V_iald {a : Nat} {i : Int32} (hk : hK σ a = 101) (hi : inB i (hL σ a)) (hd : decode cc pc = .ok (.iaload, 1)) (kk : V l G own cc nL ret xt ini fr lo σ0 o σe Se (pc + 1) L (pI (hA σ a i.toNatClampNeg) :: st) σ S) : V l G own cc nL ret xt ini fr lo σ0 o σe Se pc L (pI i :: pR a :: st) σ S :=
  ⟨kk.1, fun p e s m args below meth c9 H locs ls cells slots C hR hS hl e1 e2 => by
    have C' := C
    obtain ⟨hx, hb, hml, hown, hts, hrt, hlk, hxt, hin, hst9, hE⟩ := C
    obtain ⟨p1, rfl, -, q1⟩ := hR.ar (t := 1) hk (by decide) (by decide)
    exact W.iald (v := .int (hA σ (p1 + 1) i.toNatClampNeg)) hx hb q1 ((hE.1.2 0 _ rfl).1 _ _) (fun q => by cases q) (by show ¬ (i < 0 ∨ (arrV _ _ _).slots.size ≤ _); rw [arrV_size]; exact inB_vp' hi) (by show (arrV _ _ _).slots[_]? = _; rw [arrV_read _ _ hi.2]; simp [ev]) rfl rfl hd (kk.2 p e s m args below meth c9 H locs ls cells slots C' hR hS hl e1 e2)⟩
theorem V_bald {a : Nat} {i : Int32} (hk : hK σ a = 104) (hi : inB i (hL σ a)) (hd : decode cc pc = .ok (.baload, 1)) (kk : V l G own cc nL ret xt ini fr lo σ0 o σe Se (pc + 1) L (pI (hA σ a i.toNatClampNeg) :: st) σ S) : V l G own cc nL ret xt ini fr lo σ0 o σe Se pc L (pI i :: pR a :: st) σ S :=
  ⟨kk.1, fun p e s m args below meth c9 H locs ls cells slots C hR hS hl e1 e2 => by
    have C' := C
    obtain ⟨hx, hb, hml, hown, hts, hrt, hlk, hxt, hin, hst9, hE⟩ := C
    obtain ⟨p1, rfl, -, q1⟩ := hR.ar (t := 4) hk (by decide) (by decide)
    exact W.bald (v := .int (hA σ (p1 + 1) i.toNatClampNeg)) hx hb q1 ((hE.1.2 3 _ rfl).1 _ _) (fun q => by cases q) (by show ¬ (i < 0 ∨ (arrV _ _ _).slots.size ≤ _); rw [arrV_size]; exact inB_vp' hi) (by show (arrV _ _ _).slots[_]? = _; rw [arrV_read _ _ hi.2]; simp [ev]) rfl rfl hd (kk.2 p e s m args below meth c9 H locs ls cells slots C' hR hS hl e1 e2)⟩
theorem V_aald5 {a : Nat} {i : Int32} (hk : hK σ a = 105) (hi : inB i (hL σ a)) (hd : decode cc pc = .ok (.aaload, 1)) (kk : V l G own cc nL ret xt ini fr lo σ0 o σe Se (pc + 1) L (pR (hB σ a i.toNatClampNeg) :: st) σ S) : V l G own cc nL ret xt ini fr lo σ0 o σe Se pc L (pI i :: pR a :: st) σ S :=
  ⟨kk.1, fun p e s m args below meth c9 H locs ls cells slots C hR hS hl e1 e2 => by
    have C' := C
    obtain ⟨hx, hb, hml, hown, hts, hrt, hlk, hxt, hin, hst9, hE⟩ := C
    obtain ⟨p1, rfl, -, q1⟩ := hR.ar (t := 5) hk (by decide) (by decide)
    exact W.aald (v := rv (hB σ (p1 + 1) i.toNatClampNeg)) (ty := aty 5) hx hb q1 ((hE.1.2 4 _ rfl).1 _ _) rfl (fun q => by cases q) (by show ¬ (i < 0 ∨ (arrV _ _ _).slots.size ≤ _); rw [arrV_size]; exact inB_vp' hi) (by show (arrV _ _ _).slots[_]? = _; rw [arrV_read _ _ hi.2]; simp [ev]) rfl rfl hd (kk.2 p e s m args below meth c9 H locs ls cells slots C' hR hS hl e1 e2)⟩
theorem V_aald6 {a : Nat} {i : Int32} (hk : hK σ a = 106) (hi : inB i (hL σ a)) (hd : decode cc pc = .ok (.aaload, 1)) (kk : V l G own cc nL ret xt ini fr lo σ0 o σe Se (pc + 1) L (pR (hB σ a i.toNatClampNeg) :: st) σ S) : V l G own cc nL ret xt ini fr lo σ0 o σe Se pc L (pI i :: pR a :: st) σ S :=
  ⟨kk.1, fun p e s m args below meth c9 H locs ls cells slots C hR hS hl e1 e2 => by
    have C' := C
    obtain ⟨hx, hb, hml, hown, hts, hrt, hlk, hxt, hin, hst9, hE⟩ := C
    obtain ⟨p1, rfl, -, q1⟩ := hR.ar (t := 6) hk (by decide) (by decide)
    exact W.aald (v := rv (hB σ (p1 + 1) i.toNatClampNeg)) (ty := aty 6) hx hb q1 ((hE.1.2 5 _ rfl).1 _ _) rfl (fun q => by cases q) (by show ¬ (i < 0 ∨ (arrV _ _ _).slots.size ≤ _); rw [arrV_size]; exact inB_vp' hi) (by show (arrV _ _ _).slots[_]? = _; rw [arrV_read _ _ hi.2]; simp [ev]) rfl rfl hd (kk.2 p e s m args below meth c9 H locs ls cells slots C' hR hS hl e1 e2)⟩
theorem V_alen {a t : Nat} (hk : hK σ a = 100 + t) (h1 : 1 ≤ t) (h6 : t ≤ 6) (hd : decode cc pc = .ok (.arraylength, 1)) (kk : V l G own cc nL ret xt ini fr lo σ0 o σe Se (pc + 1) L (pI (nI (hL σ a)) :: st) σ S) : V l G own cc nL ret xt ini fr lo σ0 o σe Se pc L (pR a :: st) σ S :=
  ⟨kk.1, fun p e s m args below meth c9 H locs ls cells slots C hR hS hl e1 e2 => by
    have C' := C
    obtain ⟨hx, hb, hml, hown, hts, hrt, hlk, hxt, hin, hst9, hE⟩ := C
    obtain ⟨p1, rfl, -, q1⟩ := hR.ar hk h1 h6
    have hty : (tysG G)[t - 1]? = some (gA G t, aty t) := by
      have : t = 1 ∨ t = 2 ∨ t = 3 ∨ t = 4 ∨ t = 5 ∨ t = 6 := by omega
      rcases this with rfl | rfl | rfl | rfl | rfl | rfl <;> rfl
    exact W.alen (ty := aty t) hx hb q1 ((hE.1.2 (t - 1) _ hty).1 _ _) (by rw [arrV_size]; rfl) rfl rfl hd (kk.2 p e s m args below meth c9 H locs ls cells slots C' hR hS hl e1 e2)⟩
theorem V_alen0 {a : Nat} (hk : hK σ a = 202) (hd : decode cc pc = .ok (.arraylength, 1)) (kk : V l G own cc nL ret xt ini fr lo σ0 o σe Se (pc + 1) L (pI 0 :: st) σ S) : V l G own cc nL ret xt ini fr lo σ0 o σe Se pc L (pR a :: st) σ S :=
  ⟨kk.1, fun p e s m args below meth c9 H locs ls cells slots C hR hS hl e1 e2 => by
    have C' := C
    obtain ⟨hx, hb, hml, hown, hts, hrt, hlk, hxt, hin, hst9, hE⟩ := C
    cases a with
    | zero => rw [hR.2.2.1] at hk; cases hk
    | succ p1 =>
      rcases hR.2.2.2.1 p1 (by rw [hk]; decide) with ⟨c', r, h1, h2, -⟩ | ⟨t', h1, h2, h3, -⟩ | ⟨h1, -⟩ | ⟨h1, h2, h3, h4⟩
      · have := CL_lt h2; omega
      · omega
      · omega
      · have hT := hE.2.1.2.2.1
        rw [← h3] at hT
        exact va_tlen hx hb hT hS (v := 0) rfl hd (kk.2 p e s m args below meth c9 H locs ls cells slots C' hR hS hl e1 e2)⟩
theorem cOk.ar {t p : Nat} {H : Heap} (h1 : hK σ (p + 1) = 100 + t) (h2 : 1 ≤ t) (h3 : t ≤ 6) (h4 : gB G ≤ p) (h5 : H[p]? = some (arrV (gA G t) (hL σ (p + 1)) (ev σ t (p + 1)))) : cOk G σ p H := Or.inr (Or.inl ⟨t, h1, h2, h3, h4, h5⟩)
theorem ev_sA {t a i : Nat} {x : Int32} (ht : t < 3 ∨ t = 4) : updV (ev σ t a) i (.int x) = ev (sA σ a i x) t a := by
  funext j
  simp only [updV, ev, if_pos ht, sA, hA, u2]
  by_cases h : j = i <;> simp [h]
theorem ev_sAl {a i : Nat} {x : Int32} : updV (ev σ 3 a) i (.long x.toInt64) = ev (sA σ a i x) 3 a := by
  funext j
  simp only [updV, ev, sA, hA, u2]
  by_cases h : j = i <;> simp [h]
theorem ev_sB {t a i : Nat} {x : Nat} (ht : 5 ≤ t) : updV (ev σ t a) i (rv x) = ev (sB σ a i x) t a := by
  funext j
  have h1 : ¬ (t < 3 ∨ t = 4) := by omega
  have h2 : ¬ t = 3 := by omega
  simp only [updV, ev, if_neg h1, if_neg h2, sB, hB, u2]
  by_cases h : j = i <;> simp [h]
theorem V_iast {a : Nat} {i : Int32} {x : Int32} (hk : hK σ a = 101) (hi : inB i (hL σ a)) (hd : decode cc pc = .ok (.iastore, 1)) (kk : V l G own cc nL ret xt ini fr lo σ0 o σe Se (pc + 1) L st (sA σ a i.toNatClampNeg x) S) : V l G own cc nL ret xt ini fr lo σ0 o σe Se pc L (pI x :: pI i :: pR a :: st) σ S :=
  ⟨kk.1, fun p e s m args below meth c9 H locs ls cells slots C hR hS hl e1 e2 => by
    have C' := C
    obtain ⟨hx, hb, hml, hown, hts, hrt, hlk, hxt, hin, hst9, hE⟩ := C
    obtain ⟨p1, rfl, hgb, q1⟩ := hR.ar (t := 1) hk (by decide) (by decide)
    refine W.iast hx hb q1 ((hE.1.2 0 _ rfl).1 _ _) (fun q => by cases q) (by show ¬ (i < 0 ∨ (arrV _ _ _).slots.size ≤ _); rw [arrV_size]; exact inB_vp' hi) rfl rfl hd fun H1 f1 f2 f3 => ?_
    refine kk.2 p e s m args below meth c9 H1 _ ls cells slots C' (hR.upd rfl rfl rfl (by rw [hk]; decide) (fun b hb => Sam_sA hb) f2 f3 (cOk.ar (t := 1) hk (by decide) (by decide) hgb ?_)) (hS.put f2 f3 hgb) hl e1 e2
    rw [f1, arrV_store]
    exact congrArg some (congrArg (arrV _ _) (ev_sA (Or.inl (by decide))))⟩
theorem V_bast {a : Nat} {i : Int32} {x : Int32} (hk : hK σ a = 104) (hi : inB i (hL σ a)) (hv : narrow .byte (.int x) = .int x) (hd : decode cc pc = .ok (.bastore, 1)) (kk : V l G own cc nL ret xt ini fr lo σ0 o σe Se (pc + 1) L st (sA σ a i.toNatClampNeg x) S) : V l G own cc nL ret xt ini fr lo σ0 o σe Se pc L (pI x :: pI i :: pR a :: st) σ S :=
  ⟨kk.1, fun p e s m args below meth c9 H locs ls cells slots C hR hS hl e1 e2 => by
    have C' := C
    obtain ⟨hx, hb, hml, hown, hts, hrt, hlk, hxt, hin, hst9, hE⟩ := C
    obtain ⟨p1, rfl, hgb, q1⟩ := hR.ar (t := 4) hk (by decide) (by decide)
    refine W.bast hx hb q1 ((hE.1.2 3 _ rfl).1 _ _) (fun q => by cases q) (by show ¬ (i < 0 ∨ (arrV _ _ _).slots.size ≤ _); rw [arrV_size]; exact inB_vp' hi) rfl rfl hd fun H1 f1 f2 f3 => ?_
    refine kk.2 p e s m args below meth c9 H1 _ ls cells slots C' (hR.upd rfl rfl rfl (by rw [hk]; decide) (fun b hb => Sam_sA hb) f2 f3 (cOk.ar (t := 4) hk (by decide) (by decide) hgb ?_)) (hS.put f2 f3 hgb) hl e1 e2
    rw [f1, hv, arrV_store]
    exact congrArg some (congrArg (arrV _ _) (ev_sA (Or.inr rfl)))⟩
theorem V_last {a : Nat} {i : Int32} {x : Int32} (hk : hK σ a = 103) (hi : inB i (hL σ a)) (hd : decode cc pc = .ok (.lastore, 1)) (kk : V l G own cc nL ret xt ini fr lo σ0 o σe Se (pc + 1) L st (sA σ a i.toNatClampNeg x) S) : V l G own cc nL ret xt ini fr lo σ0 o σe Se pc L (pL x.toInt64 :: pI i :: pR a :: st) σ S :=
  ⟨kk.1, fun p e s m args below meth c9 H locs ls cells slots C hR hS hl e1 e2 => by
    have C' := C
    obtain ⟨hx, hb, hml, hown, hts, hrt, hlk, hxt, hin, hst9, hE⟩ := C
    obtain ⟨p1, rfl, hgb, q1⟩ := hR.ar (t := 3) hk (by decide) (by decide)
    refine W.last hx hb q1 ((hE.1.2 2 _ rfl).1 _ _) (fun q => by cases q) (by show ¬ (i < 0 ∨ (arrV _ _ _).slots.size ≤ _); rw [arrV_size]; exact inB_vp' hi) rfl rfl hd fun H1 f1 f2 f3 => ?_
    refine kk.2 p e s m args below meth c9 H1 _ ls cells slots C' (hR.upd rfl rfl rfl (by rw [hk]; decide) (fun b hb => Sam_sA hb) f2 f3 (cOk.ar (t := 3) hk (by decide) (by decide) hgb ?_)) (hS.put f2 f3 hgb) hl e1 e2
    rw [f1, arrV_store]
    exact congrArg some (congrArg (arrV _ _) ev_sAl)⟩
theorem V_lald {a : Nat} {i : Int32} (hk : hK σ a = 103) (hi : inB i (hL σ a)) (hd : decode cc pc = .ok (.laload, 1)) (kk : V l G own cc nL ret xt ini fr lo σ0 o σe Se (pc + 1) L (pL (hA σ a i.toNatClampNeg).toInt64 :: st) σ S) : V l G own cc nL ret xt ini fr lo σ0 o σe Se pc L (pI i :: pR a :: st) σ S :=
  ⟨kk.1, fun p e s m args below meth c9 H locs ls cells slots C hR hS hl e1 e2 => by
    have C' := C
    obtain ⟨hx, hb, hml, hown, hts, hrt, hlk, hxt, hin, hst9, hE⟩ := C
    obtain ⟨p1, rfl, -, q1⟩ := hR.ar (t := 3) hk (by decide) (by decide)
    exact W.lald (v := .long (hA σ (p1 + 1) i.toNatClampNeg).toInt64) hx hb q1 ((hE.1.2 2 _ rfl).1 _ _) (fun q => by cases q) (by show ¬ (i < 0 ∨ (arrV _ _ _).slots.size ≤ _); rw [arrV_size]; exact inB_vp' hi) (by show (arrV _ _ _).slots[_]? = _; rw [arrV_read _ _ hi.2]; simp [ev]) rfl rfl hd (kk.2 p e s m args below meth c9 H locs ls cells slots C' hR hS hl e1 e2)⟩
theorem V_aast5N {a : Nat} {i : Int32} (hk : hK σ a = 105) (hi : inB i (hL σ a)) (hd : decode cc pc = .ok (.aastore, 1)) (kk : V l G own cc nL ret xt ini fr lo σ0 o σe Se (pc + 1) L st (sB σ a i.toNatClampNeg 0) S) : V l G own cc nL ret xt ini fr lo σ0 o σe Se pc L (pR 0 :: pI i :: pR a :: st) σ S :=
  ⟨kk.1, fun p e s m args below meth c9 H locs ls cells slots C hR hS hl e1 e2 => by
    have C' := C
    obtain ⟨hx, hb, hml, hown, hts, hrt, hlk, hxt, hin, hst9, hE⟩ := C
    obtain ⟨p1, rfl, hgb, q1⟩ := hR.ar (t := 5) hk (by decide) (by decide)
    refine va_WaastN hx hb q1 ((hE.1.2 4 _ rfl).1 _ _) (fun q => by cases q) (by show ¬ (i < 0 ∨ (arrV _ _ _).slots.size ≤ _); rw [arrV_size]; exact inB_vp' hi) rfl rfl hd fun H1 f1 f2 f3 => ?_
    refine kk.2 p e s m args below meth c9 H1 _ ls cells slots C' (hR.upd rfl rfl rfl (by rw [hk]; decide) (fun b hb => Sam_sB hb) f2 f3 (cOk.ar (t := 5) hk (by decide) (by decide) hgb ?_)) (hS.put f2 f3 hgb) hl e1 e2
    rw [f1, arrV_store]
    exact congrArg some (congrArg (arrV _ _) (ev_sB (x := 0) (by decide)))⟩
theorem V_aast5 {a b c : Nat} {i : Int32} (hk : hK σ a = 105) (hi : inB i (hL σ a)) (hv : hK σ b = c + 1) (hca : ∃ r : vw_C, CL[c]? = some r ∧ (r.1, "java/lang/Object") ∈ nwC) (hd : decode cc pc = .ok (.aastore, 1)) (kk : V l G own cc nL ret xt ini fr lo σ0 o σe Se (pc + 1) L st (sB σ a i.toNatClampNeg b) S) : V l G own cc nL ret xt ini fr lo σ0 o σe Se pc L (pR b :: pI i :: pR a :: st) σ S :=
  ⟨kk.1, fun p e s m args below meth c9 H locs ls cells slots C hR hS hl e1 e2 => by
    have C' := C
    obtain ⟨hx, hb, hml, hown, hts, hrt, hlk, hxt, hin, hst9, hE⟩ := C
    obtain ⟨p1, rfl, hgb, q1⟩ := hR.ar (t := 5) hk (by decide) (by decide)
    obtain ⟨r, hcr, hcw⟩ := hca
    obtain ⟨p2, rfl, -, cellV, g1, g2, g3, -⟩ := hR.ob (C := r.1) (T := r.2.1) (N := r.2.2) hv hcr
    have hcls := (hE.1.1 c _ hcr).2
    obtain ⟨kA, comp, k1, k2, k3, -⟩ := (hE.1.2 4 _ rfl).2
    obtain ⟨kE, hkE, -⟩ := Vm.findClass_spec k3
    obtain ⟨c0, t1, f1, f2, f3⟩ := Cond.castable_spec (va_Nw.use (A := args) rfl (hE.2.2.2.2.1 _ hcw))
    cases hcls.1.symm.trans f1
    cases k3.symm.trans f2
    obtain ⟨kC, hkC, -⟩ := hcls.2
    refine W.aast hx hb q1 (fun q h => by cases h) (fun h => by cases h) k1 k2 rfl hkE ⟨hi.1, by show _ < (arrV _ _ _).slots.size; rw [arrV_size]; exact hi.2⟩ g1 (fun q h => by rw [g3] at h; cases h) (by rw [g2]; exact hkC) (by rw [g2]; exact f3) rfl rfl hd fun H1 z1 z2 z3 => ?_
    refine kk.2 p e s m args below meth c9 H1 _ ls cells slots C' (hR.upd rfl rfl rfl (by rw [hk]; decide) (fun b hb => Sam_sB hb) z2 z3 (cOk.ar (t := 5) hk (by decide) (by decide) hgb ?_)) (hS.put z2 z3 hgb) hl e1 e2
    rw [z1, arrV_store]
    exact congrArg some (congrArg (arrV _ _) (ev_sB (x := p2 + 1) (by decide)))⟩
theorem V_aast6N {a : Nat} {i : Int32} (hk : hK σ a = 106) (hi : inB i (hL σ a)) (hd : decode cc pc = .ok (.aastore, 1)) (kk : V l G own cc nL ret xt ini fr lo σ0 o σe Se (pc + 1) L st (sB σ a i.toNatClampNeg 0) S) : V l G own cc nL ret xt ini fr lo σ0 o σe Se pc L (pR 0 :: pI i :: pR a :: st) σ S :=
  ⟨kk.1, fun p e s m args below meth c9 H locs ls cells slots C hR hS hl e1 e2 => by
    have C' := C
    obtain ⟨hx, hb, hml, hown, hts, hrt, hlk, hxt, hin, hst9, hE⟩ := C
    obtain ⟨p1, rfl, hgb, q1⟩ := hR.ar (t := 6) hk (by decide) (by decide)
    refine va_WaastN hx hb q1 ((hE.1.2 5 _ rfl).1 _ _) (fun q => by cases q) (by show ¬ (i < 0 ∨ (arrV _ _ _).slots.size ≤ _); rw [arrV_size]; exact inB_vp' hi) rfl rfl hd fun H1 f1 f2 f3 => ?_
    refine kk.2 p e s m args below meth c9 H1 _ ls cells slots C' (hR.upd rfl rfl rfl (by rw [hk]; decide) (fun b hb => Sam_sB hb) f2 f3 (cOk.ar (t := 6) hk (by decide) (by decide) hgb ?_)) (hS.put f2 f3 hgb) hl e1 e2
    rw [f1, arrV_store]
    exact congrArg some (congrArg (arrV _ _) (ev_sB (x := 0) (by decide)))⟩
theorem V_aast6 {a b c : Nat} {i : Int32} (hk : hK σ a = 106) (hi : inB i (hL σ a)) (hv : hK σ b = c + 1) (hca : c = 1) (hd : decode cc pc = .ok (.aastore, 1)) (kk : V l G own cc nL ret xt ini fr lo σ0 o σe Se (pc + 1) L st (sB σ a i.toNatClampNeg b) S) : V l G own cc nL ret xt ini fr lo σ0 o σe Se pc L (pR b :: pI i :: pR a :: st) σ S :=
  ⟨kk.1, fun p e s m args below meth c9 H locs ls cells slots C hR hS hl e1 e2 => by
    have C' := C
    obtain ⟨hx, hb, hml, hown, hts, hrt, hlk, hxt, hin, hst9, hE⟩ := C
    obtain ⟨p1, rfl, hgb, q1⟩ := hR.ar (t := 6) hk (by decide) (by decide)
    subst hca
    have hcr : CL[1]? = some (RX2, TX2, 7) := rfl
    obtain ⟨p2, rfl, -, cellV, g1, g2, g3, -⟩ := hR.ob hv hcr
    have hcls : ClassAt s "GaugeBlocks$State" (gC G 1) := (hE.1.1 1 _ hcr).2
    obtain ⟨kA, comp, k1, k2, k3, -⟩ := (hE.1.2 5 _ rfl).2
    obtain ⟨kE, hkE, -⟩ := Vm.findClass_spec k3
    have hcomp : comp = gC G 1 := Option.some.inj (k3.symm.trans hcls.1)
    subst hcomp
    have f3 : s.vm.assignable (gC G 1) (gC G 1) = true := va_assign hcls
    obtain ⟨kC, hkC, -⟩ := hcls.2
    refine W.aast hx hb q1 (fun q h => by cases h) (fun h => by cases h) k1 k2 rfl hkE ⟨hi.1, by show _ < (arrV _ _ _).slots.size; rw [arrV_size]; exact hi.2⟩ g1 (fun q h => by rw [g3] at h; cases h) (by rw [g2]; exact hkC) (by rw [g2]; exact f3) rfl rfl hd fun H1 z1 z2 z3 => ?_
    refine kk.2 p e s m args below meth c9 H1 _ ls cells slots C' (hR.upd rfl rfl rfl (by rw [hk]; decide) (fun b hb => Sam_sB hb) z2 z3 (cOk.ar (t := 6) hk (by decide) (by decide) hgb ?_)) (hS.put z2 z3 hgb) hl e1 e2
    rw [z1, arrV_store]
    exact congrArg some (congrArg (arrV _ _) (ev_sB (x := p2 + 1) (by decide)))⟩
end VHeap2
