/-! SyntaxFault: made and thrown -/
set_option maxRecDepth 100000
section SF0
variable {p : Program} {l : Launch} {e : Env} {R : Room} {s : State} {m₀ : MethodId} {args : Array Value} {below : List Frame} {meth : Method} {c : Code} {W : State} {locs : List Loc} {cells slots : Nat}
def sfAt (own : String) (ic : Nat) (X Y : String) (names : List String) (n : Nat) : List Cond :=
  Bundle.throwableAtoms ++ Bundle.chain0Atoms Y names ++
  [.methodLink own ic (Bundle.init0 Y), .instantiable X n, .selects X Bundle.tFill0 Bundle.tFill0, .selects X Bundle.tFill Bundle.tFill,
   .lays X Bundle.tN "cause" "Ljava/lang/Throwable;", .lays X Bundle.tN "stackTrace" Bundle.steD, .lays X Bundle.tN "suppressedExceptions" Bundle.listD,
   .isRef (.static Bundle.tN "UNASSIGNED_STACK" Bundle.steD), .isRef (.static Bundle.tN "SUPPRESSED_SENTINEL" Bundle.listD),
   .fieldLink Bundle.tN 198 Bundle.tN "backtrace" "Ljava/lang/Object;", .lays Bundle.tN Bundle.tN "backtrace" "Ljava/lang/Object;", .lays X Bundle.tN "backtrace" "Ljava/lang/Object;"]
set_option maxHeartbeats 1000000 in
theorem sf_super (X : Stand p l e R s m₀ args below meth c W locs cells slots) (hexec : p.tables.exec = Jvm.exec) (htr : e.platform.stackTraces = false) {own cls sup : String} {names : List String} {ic n9 : Nat}
    (hown : s.vm.findClass own = some m₀.cls) (hcls : Bundle.fit sup = true) (hnames : ∀ n ∈ names, Bundle.fit n = true)
    (h : ∀ a ∈ sfAt own ic cls sup names n9, a.before args s = true)
    (hlocs : ∀ x ∈ locs, ∀ cell, s.heap[x.base]? = some cell → cell.vm.isStatics = false)
    {a : Addr} {cX : ClassId} {kX : Class} (hfound : s.vm.findClass cls = some cX) (hkX : s.vm.classes[cX]? = some kX) (hcell : W.heap[a]? = some (freshCell cX kX))
    {fp : Field} {dp : Class × Field} (hdp : Jmm.declares? s.vm fp.slot (cX + 1) cX = some dp) (hdnp : dp.2.name = fp.name) (hfp : fp.name = "place")
    {g : JFrame} (hg : g.method = m₀) (hsize : g.locals.size = c.maxLocals) {rest : List Value} (hstack : g.stack = .ref a :: rest)
    (hd6 : decode c.code g.pc = .ok (.invokespecial ic, 3))
    (hRframes : names.length + 3 < R.frames) (hRlocals : 2 * g.monitorRoom + (rest.map fun v => v.category).sum + (13 * (names.length + 1) + 41) ≤ R.locals) :
    ∃ (V : State) (ce : Cell) (L : List Loc), Stand p l e R s m₀ args below meth c (V.setCell a ce) (locs ++ L) cells slots ∧ (∀ y ∈ L, y.base = a) ∧ a < V.heap.size ∧ V.heap = W.heap ∧ ce.cls = cX ∧ ce.vm = .none ∧ ce.slots[fp.slot]? = (freshCell cX kX).slots[fp.slot]? ∧
      ∀ target, Steps p.tables e below ((V.setCell a ce).setTop { g with stack := rest, pc := g.pc + 3 }) target → Steps p.tables e below (W.setTop g) target := by
  have howns : e.platform.frameOwnsMonitors = true := by rw [X.admits.platform]
  have hfin : e.platform.finalization = false := by rw [X.admits.platform]
  have hpl : e.platform.magicAccessors = ({} : Platform).magicAccessors := by rw [X.admits.platform]
  have a' : ∀ x, x ∈ sfAt own ic cls sup names n9 → x.holds args s none s [] = true := fun x hx => h x hx
  obtain ⟨T, Z, L, LZ, Y⟩ := ThrowableC.of_atoms (args := args) howns hfin hpl (fun x hx => h x (by simp [sfAt, hx]))
  obtain ⟨P1, Ps, hlen, L1, hL, hP1m, hlink1, hlink⟩ := Bundle.chain0 (args := args) hpl Y.init0 names sup hcls hnames (fun x hx => h x (by simp [sfAt, hx]))
  obtain ⟨c1, kX', hc1, hk, hord, -, -, hn6⟩ := Cond.instantiable_spec (a' (.instantiable cls n9) (by simp [sfAt]))
  cases Option.some.inj (hc1.symm.trans hfound)
  cases Option.some.inj (hkX.symm.trans hk)
  have hsel0 : selectMethod e.platform s.vm cX T.fill0 = .method T.fill0 := by
    obtain ⟨c2, r2, m2, q1, q2, q3, q4, -⟩ := Cond.selects_spec (a' (.selects cls Bundle.tFill0 Bundle.tFill0) (by simp [sfAt]))
    cases Option.some.inj (q1.symm.trans hfound)
    cases Option.some.inj (q2.symm.trans (State.methodFound?_of_named Y.fill0 (by decide)))
    cases Option.some.inj (q3.symm.trans Y.fill0)
    rw [Launch.admits_selectMethod X.admits]; exact q4
  have hselF : selectMethod e.platform s.vm cX T.fill = .method T.fill := by
    obtain ⟨c2, r2, m2, q1, q2, q3, q4, -⟩ := Cond.selects_spec (a' (.selects cls Bundle.tFill Bundle.tFill) (by simp [sfAt]))
    cases Option.some.inj (q1.symm.trans hfound)
    cases Option.some.inj (q2.symm.trans (State.methodFound?_of_named Y.fill (by decide)))
    cases Option.some.inj (q3.symm.trans Y.fill)
    rw [Launch.admits_selectMethod X.admits]; exact q4
  obtain ⟨cellS0, hcS0, hiss⟩ := Y.statics
  obtain ⟨u0, hu0⟩ := Cond.staticRefV Y.unassigned L.unassignedStatic L.statics hcS0 hiss (a' (.isRef (.static Bundle.tN "UNASSIGNED_STACK" Bundle.steD)) (by simp [sfAt]))
  obtain ⟨sen, hsen⟩ := Cond.staticRefV Y.sentinel L.sentinelStatic L.statics hcS0 hiss (a' (.isRef (.static Bundle.tN "SUPPRESSED_SENTINEL" Bundle.listD)) (by simp [sfAt]))
  obtain ⟨ci198, i198, fB, hk198, hg198, ha198, hsB, -, hnB, htB, hffB⟩ := Cond.ownField (t := .object "java/lang/Object") Y.found L.cls (by decide +kernel) (a' (.fieldLink Bundle.tN 198 Bundle.tN "backtrace" "Ljava/lang/Object;") (by simp [sfAt])) (a' (.lays Bundle.tN Bundle.tN "backtrace" "Ljava/lang/Object;") (by simp [sfAt])) e.platform hpl
  obtain ⟨cellS, hcS', heS, -, hkeep⟩ := X.same.2.2.2.2.2 T.aS cellS0 hcS0
  have hcellS : W.heap[T.aS]? = some cellS := hcS'
  have hout' : ∀ i, (⟨T.aS, i⟩ : Loc) ∉ locs := fun i hmem => by
    have := hlocs _ hmem cellS0 hcS0
    rw [hiss] at this; cases this
  have hissS : cellS.vm.isStatics = true := by rw [heS]; exact hiss
  have hknownS : cellS.vm ≠ .unknown := by
    rw [heS]; intro hu
    rw [show cellS0.vm = .unknown from hu] at hiss
    cases hiss
  have hneS : T.aS ≠ a := by
    intro he
    rw [he, hcell] at hcellS
    cases hcellS
    cases hissS
  obtain ⟨tyC, dC, hdC, hdnC⟩ := Cond.laysAt hfound hk Y.cause (a' (.lays cls Bundle.tN "cause" "Ljava/lang/Throwable;") (by simp [sfAt]))
  obtain ⟨tyS, dS, hdS, hdnS⟩ := Cond.laysAt hfound hk Y.stack (a' (.lays cls Bundle.tN "stackTrace" Bundle.steD) (by simp [sfAt]))
  obtain ⟨tyP, dP, hdP, hdnP⟩ := Cond.laysAt hfound hk Y.supp (a' (.lays cls Bundle.tN "suppressedExceptions" Bundle.listD) (by simp [sfAt]))
  obtain ⟨tyB, dB, hdB, hdnB⟩ := Cond.laysAt hfound hk hffB (a' (.lays cls Bundle.tN "backtrace" "Ljava/lang/Object;") (by simp [sfAt]))
  have bC := Cond.laysApart hdB hdC hdnB hdnC (by rw [hnB, Y.causeName]; decide)
  have bS := Cond.laysApart hdB hdS hdnB hdnS (by rw [hnB, Y.stackName]; decide)
  have bP := Cond.laysApart hdB hdP hdnB hdnP (by rw [hnB, Y.suppName]; decide)
  have pC := Cond.laysApart hdp hdC hdnp hdnC (by rw [hfp, Y.causeName]; decide)
  have pS := Cond.laysApart hdp hdS hdnp hdnS (by rw [hfp, Y.stackName]; decide)
  have pP := Cond.laysApart hdp hdP hdnp hdnP (by rw [hfp, Y.suppName]; decide)
  have hskip : SkipFacts T e.platform s (fun u => u) u0 ((preparedCellV T.toThrowableT (freshCell cX kX) a u0 sen).withEntry W.cur) :=
    ⟨{ ci198 := ci198, i198 := i198, fBack := fB }, ⟨hk198, hg198, ha198, hsB⟩, by
      have := fresh_default (c := cX) tyB
      rw [htB] at this
      simpa [preparedCellV, Cell.setSlot, Cell.withEntry, Array.getElem?_setIfInBounds, bC, bS, bP, bC.symm, bS.symm, bP.symm, defaultValue] using this, fun _ _ => rfl⟩
  obtain ⟨tm, methC, cdC, kC, vm₁, hnC, -, -, -, -, -, -, -, hW₁, st1⟩ := Steps.initCold (tb := p.tables) (e := e) (below := below) (s := s) (U := W) X.here hexec X.warmed hpl hown (t := Bundle.init0 sup) rfl rfl (Bundle.fit_spec hcls).2
    (a' (.methodLink own ic (Bundle.init0 sup)) (by simp [sfAt])) (h (.instanceMethod (Bundle.init0 sup)) (by cases names <;> simp [sfAt, Bundle.chain0Atoms, Bundle.passAtoms])) (bytes := Bundle.five) (maxL := 1) (h (.code (Bundle.init0 sup) Bundle.five 1 none) (by cases names <;> simp [sfAt, Bundle.chain0Atoms, Bundle.passAtoms]))
    (f := g) hg (a := a) (rest := rest) hstack hd6
  cases Option.some.inj (hnC.symm.trans hP1m)
  have X₁ := X.noted hW₁
  obtain ⟨vm₂, X₂, st2⟩ := X₁.ctorPlainOffV hexec (g := { g with stack := rest }) hg hsize T L Z LZ (P1 :: Ps)
    (fun P hP => by rcases List.mem_cons.mp hP with rfl | hP; exact L1; exact hL P hP) ⟨hlink1, hlink⟩ (u0 := u0) (sen := sen) (self := a) (cell := freshCell cX kX) (cellS := cellS)
    hcell (fun _ => by simp) (by simp) rfl rfl hsel0 hselF hcellS hneS hknownS (by rw [hkeep _ (hout' _)]; exact hu0) (by rw [hkeep _ (hout' _)]; exact hsen)
    (Takes.of_laid hk hord tyC (by rw [Y.causeType]; rfl)) (Takes.of_laid hk hord tyS (by rw [Y.stackType]; exact fits_refV_array _ u0)) (Takes.of_laid hk hord tyP (by rw [Y.suppType]; exact fits_refV_object _ sen)) Y.objLocals hskip htr [] hd6
    (by simp only [List.length_cons, hlen]; omega) (by simp only [List.length_cons, hlen]; exact hRlocals)
  have hlt : a < ((W.setVm vm₁).setVm vm₂).heap.size := (Array.getElem?_eq_some_iff.mp hcell).1
  refine ⟨(W.setVm vm₁).setVm vm₂, _, _, X₂, fun y hy => ?_, hlt, rfl, rfl, rfl, ?_, fun target hwalk => st1 _ (fun acts => ?_)⟩
  · simp only [List.mem_cons, List.not_mem_nil, or_false] at hy
    rcases hy with rfl | rfl | rfl | rfl <;> rfl
  · simp [preparedCellV, Cell.setSlot, Array.getElem?_setIfInBounds, pC, pS, pP, pC.symm, pS.symm, pP.symm]
  · rw [doInvoke_state]
    exact st2 _ hwalk
end SF0

theorem hat_SF : ∀ (args : Array Value) (s : State), (∀ w ∈ lw_all, w.before args s = true) → Nws s → ∀ w ∈ (sfAt RX7 1 RX7 "java/lang/Exception" [] 7).filter vx_no, w.before args s = true := fun _ _ h1 h2 => at0_of [91, 545, 554, 561, 564, 566, 546, 547, 131, 132, 548, 553, 562, 587, 535, 588, 537, 589, 539, 549, 551, 541, 737, 738, 739, 546, 736, 725, 727, 556, 728, 729, 730, 585, 543, 732] (by decide +kernel) (by decide +kernel) h1 h2
theorem gf_SF : GF RX7 7 5 0 true := ⟨RX7, TSF, 1, RX7, ci_5, by decide, q740, Or.inl rfl, rfl, fun _ => rfl⟩
theorem gf_RP : GFR RX6 15 4 0 := ⟨RX6, TX6, 2, RX6, ci_4, by decide, q683, Or.inl rfl⟩
/-- the blank object -/
def SFb (G : Gx) (a : Nat) (U : State) (H : Heap) : Prop := ∃ kX, U.vm.classes[gC G 5]? = some kX ∧ H[a]? = some (freshCell (gC G 5) kX)
def SFI (G : Gx) (σ : Hp) (S : Ms) (a : Nat) : State → Prop := fun U => Inv G σ S U ∧ SFb G a U U.heap
theorem SFb.warm {G : Gx} {a : Nat} {s U : State} {H : Heap} (hW : s.WarmedH U.vm) (h : SFb G a s H) : SFb G a U H := by
  obtain ⟨kX, h1, h2⟩ := h
  obtain ⟨k', e1, e2, -⟩ := hW.2.2 _ _ h1
  refine ⟨k', e1, ?_⟩
  have : k'.instanceTypes = kX.instanceTypes := by rw [e2]
  rw [h2, freshCell, freshCell, this]
theorem MT_sf (l : Launch) (G : Gx) (hst : l.stackTraces = false) {σ : Hp} {S : Ms} {a : Nat} (x : Int32) (hk : hK σ (a + 1) = 6) :
    vx_Met l yX7_init (ws_ yX7_init cX7_init 2 none) ({ frames := 5, cells := 0, slots := 0, locals := 60 }) (va_Pc ([pR (a + 1), pI x].map tv) (SFI G σ S a)) (QR G (.inl none) (sI σ (a + 1) 60 x) S) (QX G (.inl none) (sI σ (a + 1) 60 x) S) 0 0 (Af G) := by
  refine vx_ofW (cc := cX7_init) (maxL := 2) (ret := none) (by decide +kernel) rfl ?_
  intro p e s m args below meth c s₁ B hml hxt hv
  obtain ⟨rfl, ⟨hR, hE⟩, kX, hkX, hcell⟩ := hv
  have hts := atoms_spec (ws := ws_ yX7_init cX7_init 2 none) B.pre
  have hts : ∀ w ∈ lw_all, w.before _ s = true := fun w h => hts w (List.mem_cons_of_mem _ h)
  have hl := lv_entry ([pR (a + 1), pI x].map tv) (n := 2) (by rw [lg_len]; exact Nat.le_refl _)
  rw [lg_entry_eq]
  generalize (lg_sl ([pR (a + 1), pI x].map tv) ++ List.replicate (2 - (lg_sl ([pR (a + 1), pI x].map tv)).length) Slot.unset).toArray = ls at hl ⊢
  rw [← entL_map] at hl
  have hx0 : c.exceptionTable.toList = [] := by
    cases h : c.exceptionTable.toList with
    | nil => rfl
    | cons a b => exact absurd (show a ∈ c.exceptionTable.toList by rw [h]; exact List.mem_cons_self) (hxt a)
  have hl' : lv_has ls 2 ([(0, pR (a + 1)), (1, pI x)].map tq) := hl
  have hown : s.vm.findClass RX7 = some m.cls := findClass_of_methodNamed B.named
  have C : Cx l G RX7 cX7_init 2 none [] true p s m (([pR (a + 1), pI x].map tv).toArray) meth c := ⟨B.exec, B.bytes, hml, hown, hts, B.returns, B.notSynchronized, hx0, fun h => (name_of_methodNamed B.named B.method).1, hst, hE⟩
  have hz := lv_at hl' 0 (show ([(0, pR (a + 1)), (1, pI x)].map tq)[0]? = some (0, .ref a) from rfl)
  refine lv_aload_n (k := 0) (i := 0) (x := a) B.exec B.bytes dX7_init_0 rfl hz ?_
  intro T hT X
  have htr : e.platform.stackTraces = false := (show e.platform.stackTraces = l.stackTraces by rw [X.admits.platform]).trans hst
  have zU := hE.2.1.2.2.2.2.2.2.2.2.2.1
  have zN := hE.2.1.2.2.2.2.2.2.2.2.2.2.1
  have h : ∀ w ∈ sfAt RX7 1 RX7 "java/lang/Exception" [] 7, w.before (([pR (a + 1), pI x].map tv).toArray) s = true := vx_own (hat_SF _ s hts hE.2.2) (vx_isRefq zU.1) (vx_isRefq zN.1) zU.2.word zN.2.word
  obtain ⟨hSl, hfc, -⟩ := hE.1.1 5 _ ci_5.1
  obtain ⟨p9, ep, hg9, cellB, g1, g2, g3, g4⟩ := hR.ob hk ci_5.1
  cases ep
  obtain ⟨cf, kf, fi, fd, hi, hsl⟩ := hSl 0 (by decide)
  obtain ⟨c1, k1, cf', kf', fi', fd', r1, r2, hi', -, -, -, -, hty, dp, hdp, -, hdn, -⟩ := Cond.laysFinal_spec (hts _ q742)
  cases Option.some.inj (hfc.symm.trans r1)
  cases Option.some.inj (hi.symm.trans hi')
  have hfn : fd.name = "place" := (State.fieldFound?_type hi (t := .int) (by decide +kernel)).1
  obtain ⟨V9, ce, L, X1, hL, hlt, hVh, hcl, hvm, hslot, st⟩ := sf_super X B.exec htr (own := RX7) (cls := RX7) (sup := "java/lang/Exception") (names := []) (ic := 1) (n9 := 7) hown (by decide +kernel) (fun _ h => by cases h) h (fun x hx => by cases hx) hfc hkX (by rw [hT]; exact hcell) hdp hdn hfn
    (g := F0 m (0 + 1) ls [.ref a]) rfl (hl'.1.trans hml.symm) (rest := []) rfl (by rw [B.bytes]; exact dX7_init_1) (by show 0 + 3 < 5; decide) (by show 2 * 0 + 0 + (13 * (0 + 1) + 41) ≤ 60; decide)
  have hh : (V9.setCell a ce).heap[a]? = some ce := heapAt_setCell_self (s := V9) ce hlt
  have hzz : (V9.setCell a ce).heap.size = s.heap.size := by
    have : (V9.setCell a ce).heap.size = V9.heap.size := by simp [State.setCell]
    rw [this, hVh, hT]
  have hoq : ∀ q, q ≠ a → (V9.setCell a ce).heap[q]? = s.heap[q]? := by
    intro q hq
    have : (V9.setCell a ce).heap[q]? = V9.heap[q]? := by simp [State.setCell, Array.getElem?_setIfInBounds, Ne.symm hq]
    rw [this, hVh, hT]
  have hcb : cellB = freshCell (gC G 5) kX := Option.some.inj (g1.symm.trans hcell)
  have hR1 : Rep G σ S (V9.setCell a ce).heap := by
    refine hR.upd rfl rfl rfl (by rw [hk]; decide) (fun b _ => ⟨rfl, rfl, rfl, rfl, rfl, rfl⟩) hzz hoq (cOk.ob hk ci_5.1 hg9 ⟨ce, hh, hcl, hvm, fun k hk9 => ?_⟩)
    obtain rfl : k = 0 := by
      have : k < 1 := hk9
      omega
    rw [← g4 0 (by decide), hcb]
    have hsl9 : fd.slot = gI G 5 0 := hsl
    rw [← hsl9]
    exact hslot
  have hV : V l G RX7 cX7_init 2 none [] true 5 60 σ (.inl none) (sI σ (a + 1) 60 x) S 4 [(0, pR (a + 1)), (1, pI x)] [] σ S := by
    refine V_aload_n (i := 0) 0 dX7_init_4 rfl rfl ?_
    refine V_iload_n (i := 1) 1 dX7_init_5 rfl rfl ?_
    refine V_wrIF (σ1 := sI σ (a + 1) 60 x) gf_SF rfl rfl rfl rfl ?_ dX7_init_6 ?_
    · show (if hK σ (a + 1) = 6 then some (sI σ (a + 1) 60 x) else none) = _
      rw [if_pos hk]
    · exact V_vret rfl dX7_init_9
  have h9 := hV.2 p e s m _ below meth c (V9.setCell a ce).heap ([] ++ L) ls 0 0 C hR1 ⟨Nat.le_of_eq hzz.symm, fun q h1 h2 => hoq q (fun h => h2 (by rw [h]; exact hg9)), fun y hy => by rw [hL y hy]; exact hg9⟩ hl' (by omega) (by omega)
  have e1 : hN (sI σ (a + 1) 60 x) - hN σ = 0 := by show hN σ - hN σ = 0; omega
  have e2 : hU (sI σ (a + 1) 60 x) - hU σ = 0 := by show hU σ - hU σ = 0; omega
  rw [e1, e2] at h9
  obtain ⟨t, a1, b1⟩ := h9 _ rfl X1
  exact ⟨t, st t a1, b1⟩

/-- 'throw new SyntaxFault(place)' -/
theorem V_throwSF {l : Launch} {G : Gx} {nL : Nat} {ret : Option FieldType} {xt : List ExceptionTableEntry} {ini : Bool} {fr lo : Nat} {σ0 σe : Hp} {o : Oc} {Se : Ms} {pc : Nat} {L : Lo} {σ : Hp} {S : Ms} {cc : ByteArray} {b : Nat} {x : Int32} (j : Nat) (hst : l.stackTraces = false) (hj : L[j]? = some (0, pR b)) (hk : hK σ b = 5) (hv : hI σ b 50 = x)
    (hx9 : ∀ x ∈ xt, covers x (pc + 11) = false) (d0 : decode cc pc = .ok (.new 33, 3)) (d3 : decode cc (pc + 3) = .ok (.dup, 1)) (d4 : decode cc (pc + 4) = .ok (.aload_n 0, 1)) (d5 : decode cc (pc + 5) = .ok (.getfield 15, 3)) (d8 : decode cc (pc + 8) = .ok (.invokespecial 35, 3)) (d11 : decode cc (pc + 11) = .ok (.athrow, 1))
    (hfr : 6 ≤ fr) (hlo : 81 ≤ lo) (ho : o = .inr ("GaugeBlocks$SyntaxFault", hN σ) := by rfl) (hσ : σe = sI (nC σ 6 7) (hN σ) 60 x := by rfl) (hSe : Se = S := by rfl) : V l G RX6 cc nL ret xt ini fr lo σ0 o σe Se pc L [] σ S := by
  subst ho; subst hσ; obtain rfl : S = Se := hSe.symm
  exact ⟨⟨Nat.le_succ _, Nat.le_add_right _ _⟩, fun p e s m args below meth c9 H locs ls cells slots C hRe hS hl e1 e2 => by
    have C' := C
    obtain ⟨hx, hb, hml, hown, hts, hrt, hlk, hxt, hin, hst9, hE⟩ := C
    have hn1 := hRe.1
    have m1 : hN (sI (nC σ 6 7) (hN σ) 60 x) = hN σ + 1 := rfl
    have m2 : hU (sI (nC σ 6 7) (hN σ) 60 x) = hU σ + 7 := rfl
    have hKn := hE.1.1 5 _ ci_5.1
    have hKr := hE.1.1 4 _ ci_4.1
    refine W.newcK hx hb hown (hts _ q724) (hts _ q725) (hts _ q107) rfl d0 (by show cells + 1 ≤ hN (sI (nC σ 6 7) (hN σ) 60 x) - hN σ0; omega) (by show slots + 7 ≤ hU (sI (nC σ 6 7) (hN σ) 60 x) - hU σ0; omega) hKn.2.1 rfl fun H1 kC hkC f1 f2 f3 => ?_
    have hR1 : Rep G (nC σ 6 7) S H1 := by
      refine hRe.new f2 f3 (cOk.ob (c := 5) (by simp [nC, hK, u1, hn1]) ci_5.1 hRe.2.1 ?_)
      refine (u_born (fty 5) hts ci_5.2.1 hKn hkC f1 ci_5.2.2.1).to fun k hk => ?_
      rw [okT_dv (by obtain rfl : k = 0 := Nat.lt_one_iff.mp hk
                     rfl)]
      simp [fv, nC, hR, hI, u1, hn1, rv]
    have hS1 : va_S (Af G) s.heap H1 locs := ⟨Nat.le_trans hS.1 (by omega), fun x h1 h2 => (f3 x (Nat.lt_of_lt_of_le h1 hS.1)).trans (hS.2.1 x h1 h2), hS.2.2⟩
    have hne : b ≠ hN σ := by
      intro h
      rw [h, hn1] at hk
      rw [hRe.fresh (Nat.le_refl _)] at hk
      cases hk
    have hk1 : hK (nC σ 6 7) b = 5 := by
      show u1 (hK σ) (hN σ) 6 b = 5
      rw [u1, if_neg hne, hk]
    obtain ⟨p1, rfl, -, cellB, g1, g2, g3, g4⟩ := hR1.ob (C := RX6) (T := TX6) (N := 2) hk1 ci_4.1
    obtain ⟨C1, T1, N1, ref, ⟨h1, h2, h3, h4⟩, h5, h6, h7⟩ := gf_RP
    cases Option.some.inj (ci_4.1.symm.trans h1)
    obtain ⟨hSl, hfc, kR, hkR, hkind⟩ := hKr
    obtain ⟨cf, kf, fi, f, hi, hsl⟩ := hSl 0 (by decide)
    have hz := lv_at hl j (show (L.map tq)[j]? = some (0, .ref p1) by rw [List.getElem?_map, hj]; rfl)
    have hval : cellB.slots[f.slot]? = some (.int x) := by
      rw [hsl]
      have := g4 0 (by decide)
      rw [show gI G 4 0 = (gC G, gI G).2 4 0 from rfl] at this
      rw [this]
      have : hI (nC σ 6 7) (p1 + 1) 50 = x := by
        show u1 (hI σ) (hN σ) (fun _ => 0) (p1 + 1) 50 = x
        rw [u1, if_neg hne, hv]
      show some (fv (nC σ 6 7) 4 (p1 + 1) 0) = _
      show some (Value.int (hI (nC σ 6 7) (p1 + 1) 50)) = _
      rw [this]
    refine lv_dup hx hb d3 rfl ?_
    refine lv_aload_n (k := 0) (i := 0) (x := p1) hx hb d4 rfl hz ?_
    refine W.getf (a := p1) hx hb hown (hts _ q683) hi (u_facts hfc hkR (u_lays hts h2 (by decide)) hi).1 g1 (by rw [g3]; exact fun h => by cases h) (v := .int x) hval rfl rfl d5 ?_
    have hblind : FrameBlind (va_Pc ([pR (H.size + 1), pI x].map tv) (SFI G (nC σ 6 7) S H.size)) := fun a U g mk h => ⟨h.1, ⟨h.2.1.1, En.call h.2.1.2⟩, h.2.2⟩
    have hM := MT_sf l G hst (S := S) (σ := nC σ 6 7) (a := H.size) x (by simp [nC, hK, u1, hn1])
    have hb1 : SFb G H.size s H1 := ⟨kC, hkC, f1⟩
    have hpre : PreS s H1 (va_Pc ([pR (H.size + 1), pI x].map tv) (SFI G (nC σ 6 7) S H.size)) (.ref H.size :: [.int x]) :=
      ⟨hblind, fun U hU hW => ⟨rfl, ⟨by rw [hU]; exact hR1, En.next hE hS1 hU hW⟩, by rw [hU]; exact hb1.warm hW⟩⟩
    have hrun := vx_runI (R := { frames := fr, cells := hN (sI (nC σ 6 7) (hN σ) 60 x) - hN σ0, slots := hU (sI (nC σ 6 7) (hN σ) 60 x) - hU σ0, locals := lo }) (p := p) (e := e) (below := below) (meth := meth) (locs := locs) (cells := cells + 1) (slots := slots + 7) (rest := [.ref H.size]) (b := H.size) (As := [.int x]) (g := F0 m (pc + 3 + 1 + 1 + 3) ls [.int x, .ref H.size, .ref H.size]) ⟨hx, hb, hml, hown, hts⟩ hM (cwI 1 hts (lw_meth q735) rfl rfl rfl (hts _ q107) (hts _ q733) (hts _ q734) rfl (by decide) ⟨hfr, by omega⟩) hpre rfl rfl hl.1 rfl (by show 2 * 0 + 1 ≤ 8; decide) d8 ⟨by show cells + 1 + 0 ≤ hN (sI (nC σ 6 7) (hN σ) 60 x) - hN σ0; omega, by show slots + 7 + 0 ≤ hU (sI (nC σ 6 7) (hN σ) 60 x) - hU σ0; omega⟩
    intro T hT X
    rcases hrun T hT X with ⟨v, st₀, t, T', L1, h0, X', hL1, i1, i2, hq, st⟩ | ⟨q, st₀, t, T', L1, E, ce, h0, X', hL1, i1, i2, ⟨⟨ho, -⟩, -⟩, -⟩
    · obtain ⟨w, ho, rfl, hRe2, hF⟩ := QR_nil hq
      obtain rfl : w = none := (Sum.inl.inj ho).symm
      obtain ⟨k1, k2, k3⟩ := vx_keep h0 i1 hS1 (fun q _ h => h) (fun q h => h) hL1 hF
      rw [← i1] at hRe2
      rw [show H.size + 1 = hN σ from hn1.symm] at hRe2
      obtain ⟨p2, ep, -, ce, y1, y2, y3, -⟩ := hRe2.ob (c := 5) (a := hN σ) (by show u1 (hK σ) (hN σ) 6 (hN σ) = 6; rw [u1, if_pos rfl]) ci_5.1
      have ep2 : p2 = H.size := by omega
      subst ep2
      have hW := vx_athrow (R := { frames := fr, cells := hN (sI (nC σ 6 7) (hN σ) 60 x) - hN σ0, slots := hU (sI (nC σ 6 7) (hN σ) 60 x) - hU σ0, locals := lo }) (l := l) (e := e) (s := s) (m := m) (args := args) (below := below) (meth := meth) (H := T'.heap) (locs := locs ++ L1) (cells := cells + 1 + 0) (slots := slots + 7 + 0) (ls := ls) (rest := []) hx hb d11 (vx_out (Qc := QR G (.inr ("GaugeBlocks$SyntaxFault", hN σ)) (sI (nC σ 6 7) (hN σ) 60 x) S) (XC := QX G (.inr ("GaugeBlocks$SyntaxFault", hN σ)) (sI (nC σ 6 7) (hN σ) 60 x) S) (mc := hN (sI (nC σ 6 7) (hN σ) 60 x) - hN σ0) (ms := hU (sI (nC σ 6 7) (hN σ) 60 x) - hU σ0) (free := Af G) (fun x hx => by rw [hxt] at hx; exact hx9 x hx) hlk y1 y3 (E := "GaugeBlocks$SyntaxFault") (by rw [y2]; exact hKn.2.1) (fun t2 ht hvm => ⟨⟨by rw [hn1], by rw [ht]; exact hRe2⟩, k3.F ht⟩) k3.2.2 (by omega) (by omega))
      obtain ⟨t2, a1, b1⟩ := hW T' rfl X'
      exact ⟨t2, st t2 a1, b1⟩
    · cases ho⟩

