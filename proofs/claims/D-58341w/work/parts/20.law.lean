/-! rows for the law's own body: the script, long compares, doubles kept in locals -/
section VLaw
variable {l : Launch} {G : Gx} {own : String} {cc : ByteArray} {nL : Nat} {ret : Option FieldType} {xt : List ExceptionTableEntry} {ini : Bool} {fr lo : Nat} {σ0 σe : Hp} {o : Oc} {Se : Ms} {pc : Nat} {L L' : Lo} {st st0 : List PV} {σ σ1 : Hp} {S S1 : Ms}
def scI (G : Gx) (i : Int32) : Option Int32 := if inB i (gst G 5) then some (scr G i.toNatClampNeg) else none
theorem Old.scr {G : Gx} {U : State} {H : Heap} (h : Old G U H) (hs : gst G 4 ≠ 0) : ∃ p, gst G 4 = p + 1 ∧ va_X p (gst G 5) (scr G) U H ∧ p < H.size ∧ ¬ Af G p := by
  obtain ⟨h1, h2, h3⟩ := h.2.2.2.2.2.2.2.2.2.2.2.resolve_left hs
  exact ⟨gst G 4 - 1, by omega, h1, h2, h3⟩
theorem V_scI {i x : Int32} (hs : gst G 4 ≠ 0) (h : scI G i = some x) (hd : decode cc pc = .ok (.iaload, 1)) (kk : V l G own cc nL ret xt ini fr lo σ0 o σe Se (pc + 1) L (pI x :: st) σ S) : V l G own cc nL ret xt ini fr lo σ0 o σe Se pc L (pI i :: pR (gst G 4) :: st) σ S :=
  ⟨kk.1, fun p e s m args below meth c9 H locs ls cells slots C hRe hS hl e1 e2 => by
    have C' := C
    obtain ⟨hx, hb, hml, hown, hts, hrt, hlk, hxt, hin, hst9, hE⟩ := C
    obtain ⟨q, eq, hX, hlt, hA⟩ := hE.2.1.scr hs
    have k9 := kk.2 p e s m args below meth c9 H locs ls cells slots C' hRe hS hl e1 e2
    obtain ⟨h1, rfl⟩ := gd_s h
    rw [eq]
    exact va_sld hx hb hX hlt hA hS (inB_vp h1) hd k9⟩
theorem V_scN (hs : gst G 4 ≠ 0) (hd : decode cc pc = .ok (.arraylength, 1)) (kk : V l G own cc nL ret xt ini fr lo σ0 o σe Se (pc + 1) L (pI (Int32.ofNat (gst G 5)) :: st) σ S) : V l G own cc nL ret xt ini fr lo σ0 o σe Se pc L (pR (gst G 4) :: st) σ S :=
  ⟨kk.1, fun p e s m args below meth c9 H locs ls cells slots C hRe hS hl e1 e2 => by
    have C' := C
    obtain ⟨hx, hb, hml, hown, hts, hrt, hlk, hxt, hin, hst9, hE⟩ := C
    obtain ⟨q, eq, hX, hlt, hA⟩ := hE.2.1.scr hs
    have k9 := kk.2 p e s m args below meth c9 H locs ls cells slots C' hRe hS hl e1 e2
    rw [eq]
    exact va_slen hx hb hX hlt hA hS hd k9⟩
theorem V_elL3 {a : Nat} {i x : Int32} (h : elI σ 103 a i = some x) (hd : decode cc pc = .ok (.laload, 1)) (kk : V l G own cc nL ret xt ini fr lo σ0 o σe Se (pc + 1) L (pL x.toInt64 :: st) σ S) : V l G own cc nL ret xt ini fr lo σ0 o σe Se pc L (pI i :: pR a :: st) σ S := by
  obtain ⟨⟨h1, h2⟩, rfl⟩ := gd_s h
  exact V_lald h1 h2 hd kk
def lcm9 (x y : Int64) : Int32 := if x > y then 1 else if x = y then 0 else -1
theorem V_lcmp {x y : Int64} (hd : decode cc pc = .ok (.lcmp, 1)) (kk : V l G own cc nL ret xt ini fr lo σ0 o σe Se (pc + 1) L (pI (lcm9 x y) :: st) σ S) : V l G own cc nL ret xt ini fr lo σ0 o σe Se pc L (pL y :: pL x :: st) σ S :=
  ⟨kk.1, fun p e s m args below meth c9 H locs ls cells slots C hRe hS hl e1 e2 => by
    have k9 := kk.2 p e s m args below meth c9 H locs ls cells slots C hRe hS hl e1 e2
    obtain ⟨hx, hb, hml, hown, hts, hrt, hlk, hxt, hin, hst9, hE⟩ := C
    intro T hT X
    obtain ⟨t, a, b⟩ := k9 T hT X
    refine ⟨t, ?_, b⟩
    show Steps p.tables e below (T.setTop (F0 m pc ls (.long y :: .long x :: st.map tv))) t
    have a' : Steps p.tables e below (T.setTop (F0 m (pc + 1) ls (.int (lcm9 x y) :: st.map tv))) t := a
    unfold lcm9 at a'
    by_cases h1 : x > y
    · rw [if_pos h1] at a'
      jvm_step X.here [X.here.top, hx, hb, hd, lcmp.wp_sem, h1]
      exact a'
    · rw [if_neg h1] at a'
      by_cases h2 : x = y
      · rw [if_pos h2] at a'
        jvm_step X.here [X.here.top, hx, hb, hd, lcmp.wp_sem, h1, h2]
        exact a'
      · rw [if_neg h2] at a'
        jvm_step X.here [X.here.top, hx, hb, hd, lcmp.wp_sem, h1, h2]
        exact a'⟩
def stD (i : Nat) (v : PV) (L : Lo) : Lo := (i, v) :: L.filter (fun q => !(q.1 == i) && (!(q.1 == i + 1) && !(q.1 + 1 == i && c2 q.2)))
theorem stD_map (i : Nat) (v : PV) (L : Lo) : (i, tv v) :: (L.map tq).filter (fun q => !(q.1 == i) && (!(q.1 == i + 1) && !(q.1 + 1 == i && q.2.category == 2))) = (stD i v L).map tq := by
  show _ = tq (i, v) :: (L.filter _).map tq
  rw [List.filter_map]
  congr 2
  apply List.filter_congr
  intro q _
  show (!(q.1 == i) && (!(q.1 == i + 1) && !(q.1 + 1 == i && (tv q.2).category == 2))) = _
  rw [tv_cat]
  cases h : c2 q.2 <;> simp
theorem V_dstore {i : Nat} {x : UInt64} (hd : decode cc pc = .ok (.dstore i, 2)) (hn : i + 1 < nL) (hL : stD i (pD x) L = L') (k : V l G own cc nL ret xt ini fr lo σ0 o σe Se (pc + 2) L' st σ S) : V l G own cc nL ret xt ini fr lo σ0 o σe Se pc L (pD x :: st) σ S :=
  ⟨k.1, fun p e s m args below meth c H locs ls cells slots C hR hS hl e1 e2 => lv_dstore C.1 C.2.1 hd hl hn (by rw [← hL]; exact stD_map i (pD x) L) (fun ls hl => k.2 p e s m args below meth c H locs ls cells slots C hR hS hl e1 e2)⟩
/-- 'dcmpl' -/
abbrev dcm9 (x y : UInt64) : Int32 := Op.cmpValue (FP.dcmp x y) .l
end VLaw
