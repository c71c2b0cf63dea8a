/-! what the plain law is to give -/
set_option maxRecDepth 100000
def St9 (G : Gx) (σ : Hp) : Prop := 1 ≤ hN σ ∧ hU σ = 0 ∧ hQ σ = qG G ∧ hK σ 0 = 0 ∧ (∀ j, j < 256 → hK σ (gic G j + 1) = 201 ∧ hI σ (gic G j + 1) 190 = vb_c j ∧ gic G j + 1 < hN σ) ∧ (gst G 0 ≠ 0 ∧ hK σ (gst G 0) = 202 ∧ hL σ (gst G 0) = 0 ∧ gst G 0 < hN σ) ∧ (∀ a, hN σ ≤ a → hK σ a = 0) ∧ ∀ a, hK σ a = 0 ∨ hK σ a = 201 ∨ hK σ a = 202
def Plain : Prop := ∀ (G : Gx) (σ : Hp), gmo G = 0 → gst G 4 ≠ 0 → gst G 5 ≤ 72 → St9 G σ → ∃ (σ2 σ4 σe : Hp) (Se : Ms), hN σ2 ≠ 0 ∧ f_X1_init (nC σ 1 4) (hN σ) = some ((), σ2) ∧ f_X3_init (nC σ2 20 18) (hN σ2) = some ((), σ4) ∧ MOk9 σ4 (hN σ2) ∧
  f_L_law_16 (gG G (hN σ2) (fun k => hR σ4 (hN σ2) (200 + k))) (cutM σ4 (hN σ2)) (mstM σ4 (hN σ2)) (hN σ) = some (1, σe, Se) ∧ hN σe - hN σ ≤ 1200144 ∧ hU σe - hU σ ≤ 5496250
/-- the heap at the start -/
def fdI (G : Gx) (a : Nat) : Option Nat := (List.range 256).find? (fun j => a == gic G j + 1)
def σst (G : Gx) (n : Nat) : Hp := (n, 0, fun a => if a = gst G 0 then 202 else match fdI G a with | some _ => 201 | none => 0, fun _ => 0, fun a _ => match fdI G a with | some j => vb_c j | none => 0, fun _ _ => 0, fun _ _ => 0, fun _ _ => 0, qG G)
theorem fdI_some {G : Gx} {a j : Nat} (h : fdI G a = some j) : j < 256 ∧ a = gic G j + 1 := by
  have h1 := List.find?_some h
  have h2 := List.mem_of_find?_eq_some h
  exact ⟨List.mem_range.mp h2, by simpa using h1⟩
theorem fdI_at {G : Gx} {j : Nat} (hj : j < 256) : ∃ i, fdI G (gic G j + 1) = some i := by
  cases h : fdI G (gic G j + 1) with
  | some i => exact ⟨i, rfl⟩
  | none =>
    have := List.find?_eq_none.mp h j (List.mem_range.mpr hj)
    simp at this
theorem vbc_inj {i j : Nat} (hi : i < 256) (hj : j < 256) (h : vb_c i = vb_c j) : i = j := by
  unfold vb_c at h
  have h2 : Int32.ofNat i = Int32.ofNat j := by
    have := congrArg (· + 128) h
    simpa using this
  have h1 : (Int32.ofNat i).toNatClampNeg = i := Int32.toNatClampNeg_ofNat_of_lt (by omega)
  have h3 : (Int32.ofNat j).toNatClampNeg = j := Int32.toNatClampNeg_ofNat_of_lt (by omega)
  rw [h2, h3] at h1
  exact h1.symm
theorem gic_inj {G : Gx} {U : State} {H : Heap} (h : vb_C (gic G) (Af G) U H) {i j : Nat} (hi : i < 256) (hj : j < 256) (e : gic G i = gic G j) : i = j := by
  obtain ⟨cf, k, n, f, cell, a1, a2, a3, a4, a5, -⟩ := h.2 i hi
  obtain ⟨cf', k', n', f', cell', b1, b2, b3, b4, b5, -⟩ := h.2 j hj
  rw [a1] at b1
  cases b1
  rw [e, b3] at a3
  cases a3
  rw [a5] at b5
  exact vbc_inj hi hj (Value.int.inj (Option.some.inj b5))
theorem st_apart {G : Gx} {U : State} (hE : En G U) {j : Nat} (hj : j < 256) : gic G j + 1 ≠ gst G 0 := by
  intro e
  obtain ⟨c1, a1, a2, a3, -⟩ := hE.2.1.1.1 j hj
  obtain ⟨c2, b1, ⟨-, k2, b3, comp, b4⟩, -⟩ := hE.2.1.2.2.1
  obtain ⟨-, hf, k3, z1, z2⟩ := hE.1.1 18 _ ci_18.1
  rw [show gst G 0 - 1 = gic G j by omega, a1] at b1
  cases b1
  have : c1.cls = gC G 18 := Option.some.inj (a3.symm.trans hf)
  rw [this] at b3
  have z1' : U.vm.classes[gC G 18]? = some k3 := z1
  rw [z1'] at b3
  cases b3
  rw [z2] at b4
  cases b4
theorem st_rep {G : Gx} {U : State} {S : Ms} (hE : En G U) (hB : gB G = U.heap.size) (h0 : gmo G = 0) (hg : gst G 0 ≠ 0) : Rep G (σst G (U.heap.size + 1)) S U.heap ∧ St9 G (σst G (U.heap.size + 1)) := by
  have hic : ∀ j, j < 256 → gic G j < U.heap.size := fun j hj => by
    obtain ⟨c1, a1, -⟩ := hE.2.1.1.1 j hj
    exact (Array.getElem?_eq_some_iff.mp a1).1
  have hdc : gst G 0 - 1 < U.heap.size := by
    obtain ⟨c2, b1, -⟩ := hE.2.1.2.2.1
    exact (Array.getElem?_eq_some_iff.mp b1).1
  have hK0 : ∀ a, hK (σst G (U.heap.size + 1)) a = 0 ∨ (hK (σst G (U.heap.size + 1)) a = 201 ∧ ∃ j, j < 256 ∧ a = gic G j + 1 ∧ hI (σst G (U.heap.size + 1)) a 190 = vb_c j) ∨ (hK (σst G (U.heap.size + 1)) a = 202 ∧ a = gst G 0) := by
    intro a
    show (if a = gst G 0 then 202 else match fdI G a with | some _ => 201 | none => 0) = 0 ∨ ((if a = gst G 0 then 202 else match fdI G a with | some _ => 201 | none => 0) = 201 ∧ ∃ j, j < 256 ∧ a = gic G j + 1 ∧ (match fdI G a with | some j => vb_c j | none => 0) = vb_c j) ∨ ((if a = gst G 0 then 202 else match fdI G a with | some _ => 201 | none => 0) = 202 ∧ a = gst G 0)
    by_cases e : a = gst G 0
    · rw [if_pos e]; exact Or.inr (Or.inr ⟨rfl, e⟩)
    · rw [if_neg e]
      cases h : fdI G a with
      | none => exact Or.inl rfl
      | some j => exact Or.inr (Or.inl ⟨rfl, j, (fdI_some h).1, (fdI_some h).2, rfl⟩)
  have hz : hK (σst G (U.heap.size + 1)) 0 = 0 := by
    rcases hK0 0 with h | ⟨-, j, -, h, -⟩ | ⟨-, h⟩
    · exact h
    · omega
    · omega
  refine ⟨⟨rfl, by rw [hB]; exact Nat.le_refl _, hz, fun p hp => ?_, rfl, Or.inl h0⟩, Nat.succ_le_succ (Nat.zero_le _), rfl, rfl, hz, fun j hj => ?_, ⟨hg, if_pos rfl, rfl, by show gst G 0 < U.heap.size + 1; omega⟩, fun a ha => ?_, fun a => ?_⟩
  · rcases hK0 (p + 1) with h | ⟨h, j, hj, e, hv⟩ | ⟨h, e⟩
    · exact absurd h hp
    · exact Or.inr (Or.inr (Or.inl ⟨h, by rw [hB]; have := hic j hj; omega, j, hj, by omega, hv⟩))
    · exact Or.inr (Or.inr (Or.inr ⟨h, by rw [hB]; omega, e, rfl⟩))
  · obtain ⟨i, hi⟩ := fdI_at (G := G) hj
    obtain ⟨h1, h2⟩ := fdI_some hi
    have e : j = i := gic_inj hE.2.1.1 hj h1 (by omega)
    refine ⟨?_, ?_, Nat.succ_lt_succ (hic j hj)⟩
    · show (if gic G j + 1 = gst G 0 then 202 else match fdI G (gic G j + 1) with | some _ => 201 | none => 0) = 201
      rw [if_neg (st_apart hE hj), hi]
    · show (match fdI G (gic G j + 1) with | some j => vb_c j | none => 0) = vb_c j
      rw [hi, e]
  · have ha' : U.heap.size + 1 ≤ a := ha
    rcases hK0 a with h | ⟨h, j, hj, e, hv⟩ | ⟨h, e⟩
    · exact h
    · have := hic j hj; omega
    · omega
  · rcases hK0 a with h | ⟨h, -⟩ | ⟨h, -⟩
    · exact Or.inl h
    · exact Or.inr (Or.inl h)
    · exact Or.inr (Or.inr h)
theorem stand_room {p : Program} {l : Launch} {e : Env} {R R' : Room} {s : State} {m : MethodId} {args : Array Value} {below : List Frame} {meth : Method} {c : Code} {T : State} {locs : List Loc} {cells slots : Nat} (X : Stand p l e R s m args below meth c T locs cells slots) (h1 : R'.frames ≤ R.frames) (h2 : R'.locals ≤ R.locals) (h3 : R'.cells ≤ R.cells) (h4 : R'.slots ≤ R.slots) : Stand p l e R' s m args below meth c T locs cells slots := by
  refine { X with room := ?_ }
  have h := X.room
  simp only [State.hasRoom, Bool.and_eq_true, decide_eq_true_eq] at h ⊢
  obtain ⟨⟨⟨⟨a1, a2, a3, a4, a5, a6⟩, a7⟩, a8⟩, a9⟩ := h
  exact ⟨⟨⟨⟨by omega, by omega, by omega, by omega, by omega, a6⟩, by omega⟩, by omega⟩, a9⟩
theorem sel_priv {C : String} {y z : MethodName} {s : State} {args : Array Value} (hy : y.cls ≠ "java/lang/invoke/MethodHandle" ∧ y.cls ≠ "java/lang/invoke/VarHandle")
    (hsel : (Cond.selects C z z).before args s = true) (hzy : z.cls = y.cls) (hpriv : (Cond.privateMethod y).before args s = true) (hinst : (Cond.instanceMethod y).before args s = true) :
    (Cond.selects C y y).before args s = true := by
  obtain ⟨c, r, m, hc, -, hm, -, k, hk, hni⟩ := Cond.selects_spec hsel
  obtain ⟨mk, methM, hnamed, hmethM, -, -⟩ := Cond.instanceMethod_spec hinst
  have hfound : s.methodFound? y.cls y.name y.desc = some mk := State.methodFound?_of_named hnamed hy
  have hcls : mk.cls = m.cls := by
    have h1 := findClass_of_methodNamed hnamed
    have h2 := findClass_of_methodNamed hm
    rw [hzy] at h2
    exact Option.some.inj (h1.symm.trans h2)
  have hs2 : selectMethod {} s.vm c mk = .method mk := selectMethod_private hmethM (Cond.privateMethod_at hpriv mk methM hnamed hmethM)
  simp only [Cond.before, Cond.holds, Cond.value, hc, hfound, hnamed, hs2, hcls, hk]
  simp; exact hni
theorem ref_of {args : Array Value} {s : State} {t : Term} (h : (Cond.isRef t).before args s = true) : ∃ r : Nat, t.eval args s none [] s = some (rv r) := by
  cases hv : t.eval args s none [] s with
  | none => simp [Cond.before, Cond.holds, Cond.value, hv] at h
  | some w =>
    cases w with
    | null => exact ⟨0, rfl⟩
    | ref a => exact ⟨a + 1, rfl⟩
    | int x => simp [Cond.before, Cond.holds, Cond.value, hv, Value.isRef] at h
    | long x => simp [Cond.before, Cond.holds, Cond.value, hv, Value.isRef] at h
    | float x => simp [Cond.before, Cond.holds, Cond.value, hv, Value.isRef] at h
    | double x => simp [Cond.before, Cond.holds, Cond.value, hv, Value.isRef] at h
    | retAddr x => simp [Cond.before, Cond.holds, Cond.value, hv, Value.isRef] at h

theorem mk_D {s : State} {args : Array Value} (hts : ∀ w ∈ lw_all, w.before args s = true) : ∃ D : Nat → ClassId × (Nat → Nat), ∀ (c : Nat) (r : vw_C), CL[c]? = some r → u_Kn s r.1 r.2.1 r.2.2 (D c).1 (D c).2 := by
  have h : ∀ c : Nat, ∃ q : ClassId × (Nat → Nat), ∀ r : vw_C, CL[c]? = some r → u_Kn s r.1 r.2.1 r.2.2 q.1 q.2 := by
    intro c
    match c with
    | 0 => obtain ⟨a, b, h⟩ := u_known hts ci_0.2.1 (hts _ q126); exact ⟨(a, b), fun r hr => by cases hr; exact h⟩
    | 1 => obtain ⟨a, b, h⟩ := u_known hts ci_1.2.1 (hts _ q134); exact ⟨(a, b), fun r hr => by cases hr; exact h⟩
    | 2 => obtain ⟨a, b, h⟩ := u_known hts ci_2.2.1 (hts _ q954); exact ⟨(a, b), fun r hr => by cases hr; exact h⟩
    | 3 => obtain ⟨a, b, h⟩ := u_known hts ci_3.2.1 (hts _ q1180); exact ⟨(a, b), fun r hr => by cases hr; exact h⟩
    | 4 => obtain ⟨a, b, h⟩ := u_known hts ci_4.2.1 (hts _ q678); exact ⟨(a, b), fun r hr => by cases hr; exact h⟩
    | 5 => obtain ⟨a, b, h⟩ := u_known hts ci_5.2.1 (hts _ q725); exact ⟨(a, b), fun r hr => by cases hr; exact h⟩
    | 6 => obtain ⟨a, b, h⟩ := u_known hts ci_6.2.1 (hts _ q747); exact ⟨(a, b), fun r hr => by cases hr; exact h⟩
    | 7 => obtain ⟨a, b, h⟩ := u_known hts ci_7.2.1 (hts _ q1340); exact ⟨(a, b), fun r hr => by cases hr; exact h⟩
    | 8 => obtain ⟨a, b, h⟩ := u_known hts ci_8.2.1 (hts _ q1376); exact ⟨(a, b), fun r hr => by cases hr; exact h⟩
    | 9 => obtain ⟨a, b, h⟩ := u_known hts ci_9.2.1 (hts _ q140); exact ⟨(a, b), fun r hr => by cases hr; exact h⟩
    | 10 => obtain ⟨a, b, h⟩ := u_known hts ci_10.2.1 (hts _ q787); exact ⟨(a, b), fun r hr => by cases hr; exact h⟩
    | 11 => obtain ⟨a, b, h⟩ := u_known hts ci_11.2.1 (hts _ q274); exact ⟨(a, b), fun r hr => by cases hr; exact h⟩
    | 12 => obtain ⟨a, b, h⟩ := u_known hts ci_12.2.1 (hts _ q292); exact ⟨(a, b), fun r hr => by cases hr; exact h⟩
    | 13 => obtain ⟨a, b, h⟩ := u_known hts ci_13.2.1 (hts _ q1338); exact ⟨(a, b), fun r hr => by cases hr; exact h⟩
    | 14 => obtain ⟨a, b, h⟩ := u_known hts ci_14.2.1 (hts _ q1683); exact ⟨(a, b), fun r hr => by cases hr; exact h⟩
    | 15 => obtain ⟨a, b, h⟩ := u_known hts ci_15.2.1 (hts _ q1781); exact ⟨(a, b), fun r hr => by cases hr; exact h⟩
    | 16 => obtain ⟨a, b, h⟩ := u_known hts ci_16.2.1 (hts _ q1851); exact ⟨(a, b), fun r hr => by cases hr; exact h⟩
    | 17 => obtain ⟨a, b, h⟩ := u_known hts ci_17.2.1 (hts _ q1879); exact ⟨(a, b), fun r hr => by cases hr; exact h⟩
    | 18 => obtain ⟨a, b, h⟩ := u_known hts ci_18.2.1 (hts _ q1723); exact ⟨(a, b), fun r hr => by cases hr; exact h⟩
    | 19 => obtain ⟨a, b, h⟩ := u_known hts ci_19.2.1 (hts _ q1993); exact ⟨(a, b), fun r hr => by cases hr; exact h⟩
    | n + 20 => exact ⟨(0, fun _ => 0), fun r hr => by have := CL_lt hr; omega⟩
  exact Classical.axiomOfChoice h
theorem mk_A {s : State} {args : Array Value} (hts : ∀ w ∈ lw_tbl, w.before args s = true) : ∃ A : Nat → ClassId, ∀ t : Nat, 1 ≤ t → t ≤ 6 → ArrOfT s (A t) (aty t) ∧ va_RA s (A t) (aty t) := by
  have prim : ∀ ty : FieldType, (Cond.arrayClass ty).before args s = true → (∀ C, ty ≠ .object C) → ∃ cA, ArrOfT s cA ty ∧ va_RA s cA ty := by
    intro ty h hn
    obtain ⟨c, k, comp, h1, h2, h3⟩ := Cond.arrayClass_spec h
    refine ⟨c, fun n z => ⟨fun k h => (by cases h), k, h2, comp, h3⟩, ?_⟩
    cases ty <;> first | exact h1 | exact absurd rfl (hn _)
  have obj : ∀ C : String, (Cond.arrayOver (.object C)).before args s = true → ∃ cA, ArrOfT s cA (.object C) ∧ va_RA s cA (.object C) := by
    intro C h
    obtain ⟨comp, c, k, h1, h2, h3, h4, h5⟩ := Cond.arrayOver_spec h
    exact ⟨c, fun n z => ⟨fun k h => (by cases h), k, h3, comp, h4⟩, k, comp, h3, h4, h1, h5⟩
  have h : ∀ t : Nat, ∃ cA : ClassId, 1 ≤ t → t ≤ 6 → ArrOfT s cA (aty t) ∧ va_RA s cA (aty t) := by
    intro t
    match t with
    | 0 => exact ⟨0, fun h => by omega⟩
    | 1 => obtain ⟨c, h⟩ := prim .int (hts _ (lw_all_tbl q272)) (fun C h => by cases h); exact ⟨c, fun _ _ => h⟩
    | 2 => obtain ⟨c, h⟩ := prim .boolean (hts _ (lw_all_tbl q2053)) (fun C h => by cases h); exact ⟨c, fun _ _ => h⟩
    | 3 => obtain ⟨c, h⟩ := prim .long (hts _ (lw_all_tbl q2391)) (fun C h => by cases h); exact ⟨c, fun _ _ => h⟩
    | 4 => obtain ⟨c, h⟩ := prim .byte (hts _ (lw_all_tbl q323)) (fun C h => by cases h); exact ⟨c, fun _ _ => h⟩
    | 5 => obtain ⟨c, h⟩ := obj "java/lang/Object" (hts _ q232); exact ⟨c, fun _ _ => h⟩
    | 6 => obtain ⟨c, h⟩ := obj "GaugeBlocks$State" (hts _ q290); exact ⟨c, fun _ _ => h⟩
    | n + 7 => exact ⟨0, fun _ h => by omega⟩
  exact Classical.axiomOfChoice h
theorem mk_N {s : State} {args : Array Value} (hts : ∀ w ∈ lw_tbl, w.before args s = true) (hn : ∀ q ∈ nwK, (Cond.not (.castable q.1 q.2)).before args s = true) : Nws s := by
  refine ⟨fun w hw => ?_, fun w hw => ?_, fun q hw => ?_, fun x hw => ?_, fun q hw => ?_, ?_, ?_, fun w hw => ?_, fun q hw => va_Nc.of (hn q hw)⟩
  · simp only [List.mem_cons, List.not_mem_nil, or_false] at hw
    rcases hw with rfl | rfl | rfl
    · exact va_Nw.of rfl (hts _ q327)
    · exact va_Nw.of rfl (hts _ q155)
    · exact va_Nw.of rfl (hts _ q1695)
  · simp only [List.mem_cons, List.not_mem_nil, or_false] at hw
    rcases hw with rfl | rfl | rfl
    · exact va_Nw.of rfl (hts _ q1109)
    · exact va_Nw.of rfl (hts _ q679)
    · exact va_Nw.of rfl (hts _ q753)
  · simp only [List.mem_cons, List.not_mem_nil, or_false] at hw
    rcases hw with rfl | rfl | rfl | rfl | rfl | rfl | rfl | rfl | rfl | rfl | rfl | rfl
    · exact va_Nw.of rfl (hts _ q726)
    · exact va_Nw.of rfl (hts _ q2411)
    · exact va_Nw.of rfl (hts _ q2413)
    · exact va_Nw.of rfl (hts _ q2419)
    · exact va_Nw.of rfl (hts _ q2427)
    · exact va_Nw.of rfl (hts _ q2430)
    · exact va_Nw.of rfl (hts _ q1655)
    · exact va_Nw.of rfl (hts _ q525)
    · exact va_Nw.of rfl (hts _ q891)
    · exact va_Nw.of rfl (hts _ q1041)
    · exact va_Nw.of rfl (hts _ q1444)
    · exact va_Nw.of rfl (hts _ q1416)
  · simp only [List.mem_cons, List.not_mem_nil, or_false] at hw
    rcases hw with rfl | rfl | rfl | rfl | rfl | rfl | rfl | rfl
    · exact va_Nw.of rfl (hts _ q526)
    · exact va_Nw.of rfl (hts _ q528)
    · exact va_Nw.of rfl (hts _ q530)
    · exact va_Nw.of rfl (hts _ q648)
    · exact va_Nw.of rfl (hts _ q2441)
    · exact va_Nw.of rfl (hts _ q1637)
    · exact va_Nw.of rfl (hts _ q1642)
    · exact va_Nw.of rfl (hts _ q841)
  · simp only [List.mem_cons, List.not_mem_nil, or_false] at hw
    rcases hw with rfl | rfl | rfl | rfl | rfl | rfl | rfl
    · exact va_Fw.of (hts _ q1415) (hts _ q1414) (hts _ q1420) (hts _ q1418) (hts _ q1416)
    · exact va_Fw.of (hts _ q1443) (hts _ q1442) (hts _ q1448) (hts _ q1446) (hts _ q1444)
    · exact va_Fw.of (hts _ q1866) (hts _ q1865) (hts _ q1871) (hts _ q1869) (hts _ q1867)
    · exact va_Fw.of (hts _ q808) (hts _ q807) (hts _ q813) (hts _ q811) (hts _ q809)
    · exact va_Fw.of (hts _ q824) (hts _ q823) (hts _ q828) (hts _ q826) (hts _ q809)
    · exact va_Fw.of (hts _ q808) (hts _ q807) (hts _ q819) (hts _ q817) (hts _ q815)
    · exact va_Fw.of (hts _ q824) (hts _ q823) (hts _ q837) (hts _ q835) (hts _ q815)
  · exact va_AO.of (hts _ q232)
  · exact va_AO.of (hts _ q290)
  · simp only [List.mem_cons, List.not_mem_nil, or_false] at hw
    rcases hw with rfl | rfl
    · exact va_Nw.of (A := args) rfl (sel_priv (z := ⟨"java/lang/AbstractStringBuilder", "isLatin1", "()Z"⟩) (by decide) (hts _ (lw_all_tbl q398)) rfl (hts _ q376) (hts _ (lw_all_tbl q377)))
    · exact va_Nw.of (A := args) rfl (sel_priv (z := ⟨"java/lang/AbstractStringBuilder", "isLatin1", "()Z"⟩) (by decide) (hts _ (lw_all_tbl q398)) rfl (hts _ q380) (hts _ (lw_all_tbl q381)))
def narrow9 (b : Addr) (s : State) : Prop := (Jvm.Cond.and given_1 narrow_1).before #[Value.ref b] s = true
theorem mk_G {s : State} {b L : Nat} {xs : Nat → Int32} (hts : ∀ w ∈ lw_tbl, w.before #[Value.ref b] s = true) (hX : va_X b L xs s s.heap) (hbl : b < s.heap.size) (hgv : narrow9 b s) : ∃ G : Gx, En G s ∧ gB G = s.heap.size ∧ gmo G = 0 ∧ gst G 4 = b + 1 ∧ gst G 5 = L ∧ gst G 0 ≠ 0 := by
  have hta : ∀ w ∈ lw_all, w.before #[Value.ref b] s = true := fun w h => hts w (lw_all_tbl h)
  have hs := flat_of_before _ hgv
  have hA : ∀ a : Nat, a < s.heap.size → ¬ (fun q : Nat => s.heap.size ≤ q) a := fun a h h2 => absurd h2 (Nat.not_le.mpr h)
  obtain ⟨D, hD⟩ := mk_D hta
  obtain ⟨Ar, hAr⟩ := mk_A hts
  have hN := mk_N hts (fun q hq => by
    simp only [List.mem_cons, List.not_mem_nil, or_false] at hq
    rcases hq with rfl | rfl | rfl | rfl | rfl | rfl <;> exact hs _ (by decide +kernel))
  have cl : (Term.length (.static "java/lang/Integer$IntegerCache" "cache" "[Ljava/lang/Integer;" : Term)).eval #[Value.ref b] s none [] s = some (.int (Int32.ofNat 256)) := va_eqt (hs _ (by decide +kernel))
  have ca : (Cond.all (.static "java/lang/Integer$IntegerCache" "cache" "[Ljava/lang/Integer;" : Term) (.and (.exactly (.elem (.static "java/lang/Integer$IntegerCache" "cache" "[Ljava/lang/Integer;" : Term) (.index 0)) "java/lang/Integer") (.eq (.field (.elem (.static "java/lang/Integer$IntegerCache" "cache" "[Ljava/lang/Integer;" : Term) (.index 0)) "java/lang/Integer" "value" "I") (.sub (.index 0) (.int 128))))).before #[Value.ref b] s = true := hs _ (by decide +kernel)
  obtain ⟨ad, hC, hCe⟩ := vb_Cof (st := (.static "java/lang/Integer$IntegerCache" "cache" "[Ljava/lang/Integer;" : Term)) rfl cl ca hA
  obtain ⟨t1, e1, hT1⟩ := va_Tof (ty := .object "java/lang/Integer") (f := fun k => .ref (ad k)) (by decide) (hs (.arrayOf (.static "java/lang/Integer$IntegerCache" "cache" "[Ljava/lang/Integer;" : Term) (.object "java/lang/Integer")) (by decide +kernel)) cl hCe hA
  obtain ⟨t0, e0, hT0⟩ := va_Tof (N := 0) (ty := .object "java/lang/Object") (f := fun _ => .null) (by decide) (hs (.arrayOf (.static "java/util/ArrayList" "DEFAULTCAPACITY_EMPTY_ELEMENTDATA" "[Ljava/lang/Object;" : Term) (.object "java/lang/Object")) (by decide +kernel)) (va_eqt (hs (.eq (.length (.static "java/util/ArrayList" "DEFAULTCAPACITY_EMPTY_ELEMENTDATA" "[Ljava/lang/Object;" : Term)) (.int 0)) (by decide +kernel))) (fun j hj => absurd hj (Nat.not_lt_zero j)) hA
  have eh := va_eqi (args := #[Value.ref b]) (s := s) (C := "java/lang/Integer$IntegerCache") (n := "high") (d := "I") (z := 127) (hs _ (by decide +kernel))
  have ec := va_eqi (args := #[Value.ref b]) (s := s) (C := "java/lang/String") (n := "COMPACT_STRINGS") (d := "Z") (z := 1) (hs _ (by decide +kernel))
  obtain ⟨rf, ef⟩ := ref_of (args := #[Value.ref b]) (s := s) (t := .static "jdk/internal/util/Preconditions" "SIOOBE_FORMATTER" "Ljava/util/function/BiFunction;") (hs _ (by decide +kernel))
  obtain ⟨mi, hmi⟩ := va_Mi.of (args := #[Value.ref b]) (s := s) (C := "[Ljava/lang/Object;") (hs _ (by decide +kernel))
  have gsc : ∀ j : Nat, Int32.ofInt ((((xs j).toInt + 2147483648).toNat : Int) - 2147483648) = xs j := by
    intro j
    have h1 := Int32.le_toInt (xs j)
    rw [Int.toNat_of_nonneg (by omega), show (xs j).toInt + 2147483648 - 2147483648 = (xs j).toInt by omega]
    exact Int32.ofInt_toInt _
  let gs : Nat → Nat := fun k => if k = 0 then t0 + 1 else if k = 1 then t1 else if k = 2 then rf else if k = 3 then mi + 1 else if k = 4 then b + 1 else if k = 5 then L else ((xs (k - 6)).toInt + 2147483648).toNat
  let G : Gx := (fun c => (D c).1, fun c => (D c).2, Ar, s.heap.size, ad, gs, 0, fun _ => 0)
  have hscr : scr G = xs := by
    funext j
    show Int32.ofInt ((gs (6 + j) : Int) - 2147483648) = xs j
    have : gs (6 + j) = ((xs j).toInt + 2147483648).toNat := by
      show (if 6 + j = 0 then t0 + 1 else if 6 + j = 1 then t1 else if 6 + j = 2 then rf else if 6 + j = 3 then mi + 1 else if 6 + j = 4 then b + 1 else if 6 + j = 5 then L else ((xs (6 + j - 6)).toInt + 2147483648).toNat) = _
      rw [if_neg (by omega), if_neg (by omega), if_neg (by omega), if_neg (by omega), if_neg (by omega), if_neg (by omega), show 6 + j - 6 = j by omega]
    rw [this]
    exact gsc j
  refine ⟨G, ⟨⟨fun c r hr => hD c r hr, fun k q hk => ?_⟩, ⟨hC, ?_, hT0, ?_, ?_, hT1, ?_, ?_, ⟨mi, rfl, hmi⟩, ?_, ?_, Or.inr ⟨?_, hbl, hA b hbl⟩⟩, hN⟩, rfl, rfl, rfl, rfl, Nat.succ_ne_zero _⟩
  · match k, hk with
    | 0, hk => cases hk; exact hAr 1 (by decide) (by decide)
    | 1, hk => cases hk; exact hAr 2 (by decide) (by decide)
    | 2, hk => cases hk; exact hAr 3 (by decide) (by decide)
    | 3, hk => cases hk; exact hAr 4 (by decide) (by decide)
    | 4, hk => cases hk; exact hAr 5 (by decide) (by decide)
    | 5, hk => cases hk; exact hAr 6 (by decide) (by decide)
    | n + 6, hk => have := (List.getElem?_eq_some_iff.mp hk).1; exact absurd this (by show ¬ n + 6 < 6; omega)
  · exact va_Zof (hts _ q152) (hts _ (lw_all_tbl q80)) e0 hA
  · exact va_Zof (hts _ q1720) (hts _ (lw_all_tbl q118)) eh hA
  · exact va_Zof (hts _ q1722) (hts _ (lw_all_tbl q118)) e1 hA
  · exact va_Zof (hts _ q301) (hts _ (lw_all_tbl q88)) ec hA
  · exact va_Zof (hts _ q413) (hts _ (lw_all_tbl q97)) ef hA
  · exact vx_Zqof (hts _ q550) (hts _ (lw_all_tbl q91)) (hs _ (by decide +kernel)) hA
  · exact vx_Zqof (hts _ q552) (hts _ (lw_all_tbl q91)) (hs _ (by decide +kernel)) hA
  · show va_X b L (scr G) s s.heap
    rw [hscr]; exact hX
/-! THE CLAIM OUT OF ONE WALK OF THE LAW'S BODY. Your part is whole_start (and what it stands on); all else here is the same for every law, but numbers. -/
def R_law : String := "GaugeBlocksLaw"
def lw_P (b : Addr) (xs : List Int32) (args : Array Value) (s : State) : Prop := args = #[.ref b] ∧ s.IntsAt b xs ∧ xs.length ≤ 72 ∧ (Jvm.Cond.and given_1 narrow_1).before args s = true
def lw_Q (_ : Array Value) (s : State) (o : Outcome) (t : State) : Prop := o = .returned (some (.int 1)) ∧ Framed s o t [] 1200144 5496250
def lw_Z (below : List Frame) (a : Array Value) (s : State) : State → Prop := fun t => ∃ o, t.status = .running ∧ Ended t below o ∧ lw_Q a s o t
/-- the law's own end, with 1 on the stack, nothing written that was there before, its room as the claim has it -/
theorem lw_ret {p : Program} {l : Launch} {e : Env} {s : State} {m : MethodId} {below : List Frame} {meth : Method} {c : Code} {b : Nat} (hx : p.tables.exec = Jvm.exec) (hb : c.code = code) (hr : meth.sig.returnType = ret) (hlocks : meth.locks = false) {pc : Nat} {H : Heap} {ls : Array Slot} (hdg : decode code pc = .ok (.ireturn, 1)) : W p l e room_1 s m #[Value.ref b] below meth c H [] 1200144 5496250 (lw_Z below #[Value.ref b] s) (F0 m pc ls [.int 1]) := by
  intro T hT X
  obtain ⟨fs, hret, hrun, hended, hW, hframe⟩ := X.leave (v := some (.int 1)) (hlocks := hlocks) (fun h => by rw [hr] at h; cases h)
  have hmeth' : T.vm.method? m = some meth := X.method'
  refine ⟨T.setFrames fs, ?_, .returned (some (.int 1)), hrun, hended, rfl, ⟨_, rfl⟩, hW, hframe⟩
  jvm_step X.here [X.here.top, hx, hb, hdg, hmeth', hr, ret, narrow_b1]
  (try refine ⟨rfl, ?_⟩); (try refine ⟨rfl, ?_⟩)
  first | (intro acts; rw [hret _ acts rfl rfl rfl]) | rw [hret _ _ rfl rfl rfl]
  exact Steps.refl _
/-- what holds at the law's entry: the machine, the code, the tables' words (any of lw_tbl by 'hts w (by decide +kernel)'), the script of L ints xs at the cell b, what the Statement gives of the start (any of its parts by flat_of_before) -/
def lw_At (p : Program) (s : State) (m : MethodId) (meth : Method) (c : Code) (b L : Nat) (xs : Nat → Int32) : Prop :=
  p.tables.exec = Jvm.exec ∧ c.code = code ∧ meth.sig.returnType = ret ∧ c.maxLocals = 9 ∧ s.vm.findClass R_law = some m.cls ∧ (∀ w ∈ lw_tbl, w.before #[Value.ref b] s = true) ∧ va_X b L xs s s.heap ∧ b < s.heap.size ∧ meth.locks = false ∧ (Jvm.Cond.and given_1 narrow_1).before #[Value.ref b] s = true ∧ c.exceptionTable.toList = []

theorem plain_law : Plain := sorry
theorem whole_start {p : Program} {e : Env} {s : State} {m : MethodId} {below : List Frame} {meth : Method} {c : Code} (l : Launch) (hflags : l.flags = flags0) {b L : Nat} {xs : Nat → Int32} (hL : L ≤ 72) (C0 : lw_At p s m meth c b L xs) : W p l e room_1 s m #[Value.ref b] below meth c s.heap [] 0 0 (lw_Z below #[Value.ref b] s) (entryFrame m ([Value.ref b] : List Value).toArray 9) := by
  obtain ⟨hx, hb, hr, hml, hown, hts, hX, hbl, hlocks, hgv, hxt⟩ := C0
  have hst : l.stackTraces = false := by
    unfold Launch.stackTraces
    rw [hflags]
    decide +kernel
  obtain ⟨G, hE, hgB, hg0, hg4, hg5, hgd⟩ := mk_G hts hX hbl hgv
  obtain ⟨hR, h9⟩ := st_rep (S := (fun _ => 0, fun _ _ => 0)) hE hgB hg0 hgd
  obtain ⟨σ2, σ4, σe, Se, p1, p2, p3, p4, p5, p6, p7⟩ := plain_law G (σst G (s.heap.size + 1)) hg0 (by rw [hg4]; omega) (by rw [hg5]; exact hL) h9
  have hV := V_law (l := l) (σ0 := σst G (s.heap.size + 1)) (S := (fun _ => 0, fun _ _ => 0)) hst hg0 (by rw [hg4]; omega) p1 p2 p3 p4 p5
  have hl := lv_entry ([Value.ref b]) (n := 9) (Nat.le_of_ble_eq_true rfl)
  rw [lg_entry_eq]
  generalize (lg_sl ([Value.ref b]) ++ List.replicate (9 - (lg_sl ([Value.ref b])).length) Slot.unset).toArray = ls at hl ⊢
  have hl' : lv_has ls 9 (([(0, pR (gst G 4))] : Lo).map tq) := by rw [hg4]; exact hl
  have hC : Cx l G RX0 cL_law 9 (some .boolean) [] false p s m #[Value.ref b] meth c := ⟨hx, hb, hml, hown, fun w h => hts w (lw_all_tbl h), hr, hlocks, hxt, (fun h => by cases h), hst, hE⟩
  have hW := hV.2 p e s m #[Value.ref b] below meth c s.heap [] ls 0 0 hC hR va_S.rf hl' (Nat.zero_add _) (Nat.zero_add _)
  intro T hT X
  obtain ⟨t, a, o, b1, b2, b3⟩ := hW T hT (stand_room X (by show 35 ≤ 8192; decide) (by show 867 ≤ 104096; decide) p6 p7)
  refine ⟨t, a, o, b1, b2, ?_⟩
  rcases b3 with ⟨⟨⟨v, q1, q2, -⟩, -⟩, Lx, ⟨f1, f2, f3⟩, f4⟩ | ⟨q, r1, E, ce, Lx, ⟨⟨z1, -⟩, -⟩, -⟩
  · cases q1
    refine ⟨q2, f1, f2, ?_⟩
    obtain ⟨g1, g2, g3, g4, g5, g6⟩ := f3
    refine ⟨g1, g2, Nat.le_trans g3 (Nat.add_le_add_left p6 _), g4, Nat.le_trans g5 p7, fun a c hc => ?_⟩
    obtain ⟨c', y1, y2, y3, y4⟩ := g6 a c hc
    refine ⟨c', y1, y2, y3, fun i hi => y4 i fun hm => ?_⟩
    have h1 : gB G ≤ a := f4 _ hm
    have h2 : a < s.heap.size := (Array.getElem?_eq_some_iff.mp hc).1
    rw [hgB] at h1
    exact absurd h2 (Nat.not_lt.mpr h1)
  · cases z1
set_option maxHeartbeats 4000000 in
theorem lw_walk (l : Launch) (hflags : l.flags = flags0) (b : Addr) (xs : List Int32) : MetFree l x (headSpec (Jvm.Cond.code x code maxLocals ret :: tables_1) room_1) (lw_P b xs) (fun _ _ _ _ _ => True) lw_Q := by
  refine MetFree.of_bodyS (code := code) (maxLocals := maxLocals) (ret := ret) (by decide) ?_ ?_
  · intro args s m h hn
    obtain ⟨meth, c, h1, h2, h3, h4, h5, h6, -, -⟩ := Cond.code_spec hn (atoms_spec (ws := Jvm.Cond.code x code maxLocals ret :: tables_1) h _ List.mem_cons_self)
    exact ⟨meth, c, h1, h2, h3, h4, h5, h6⟩
  · intro p e s m args below meth c s₁ B hml0 hP _
    obtain ⟨rfl, hx, hbd, hgv⟩ := hP
    obtain ⟨scr, harrAt, hlist, hof, hsmall⟩ := hx
    obtain ⟨hcb, hkn, -, -⟩ := State.arrayAt?_spec harrAt
    have hown : s.vm.findClass R_law = some m.cls := findClass_of_methodNamed B.named
    have hts0 : ∀ c ∈ (Jvm.Cond.code x code maxLocals ret :: tables_1), c.before #[Value.ref b] s = true := atoms_spec (ws := Jvm.Cond.code x code maxLocals ret :: tables_1) B.pre
    have hts : ∀ w ∈ lw_tbl, w.before #[Value.ref b] s = true := k2_hts_sels lw_privs (fun w hw => hts0 w (List.mem_cons_of_mem _ hw)) lw_privs_ok
    have hml : c.maxLocals = 9 := B.maxLocals_eq (hts0 _ List.mem_cons_self)
    have hxt : c.exceptionTable.toList = [] := by
      obtain ⟨meth9, c9, h1, h2, -, -, -, -, h7, -⟩ := Cond.code_spec B.named (hts0 _ List.mem_cons_self)
      cases Option.some.inj (h1.symm.trans B.method)
      cases Option.some.inj (h2.symm.trans (Stand.of_body B).code)
      rw [Array.isEmpty_iff.mp h7]
    have X₀ : Stand p l e room_1 s m #[Value.ref b] below meth c s₁ [] 0 0 := Stand.of_body B
    have hh0 : s₁.heap = s.heap := by rw [B.state]; rfl
    have hsz : scr.slots.size = xs.length := by rw [← Array.length_toList, hlist, List.length_map]
    have hval : ∀ j : Nat, j < xs.length → scr.slots[j]? = some (.int (xs.getD j 0)) := fun j hj => by
      rw [← Array.getElem?_toList, hlist]
      simp [hj]
    have hbl : b < s.heap.size := (Array.getElem?_eq_some_iff.mp hcb).1
    have hX : va_X b xs.length (fun j => xs.getD j 0) s s.heap := ⟨scr, hcb, hof, hkn, hsz, hval⟩
    have K : W p l e room_1 s m #[Value.ref b] below meth c s₁.heap [] 0 0 (lw_Z below #[Value.ref b] s) (entryFrame m ([Value.ref b] : List Value).toArray 9) := by
      rw [hh0]
      exact whole_start l hflags hbd ⟨B.exec, B.bytes, B.returns, hml, hown, hts, hX, hbl, B.notSynchronized, hgv, hxt⟩
    obtain ⟨t, a1, o, b1, b2, b3⟩ := K s₁ rfl X₀
    exact ⟨t, o, a1, b1, b2, b3⟩
theorem lw_pre_spec {args : Array Value} {s : State} (h : (Jvm.Cond.and given_1 narrow_1).before args s = true) (hr : rest_1_c.before args s = true) : ∃ (b : Addr) (xs : List Int32), lw_P b xs args s := by
  have hs := flat_of_before _ h
  have hq := flat_of_before _ hr
  have hc : (Cond.count 1).before args s = true := hs _ (by decide +kernel)
  have harr : (Cond.arrayOf (.arg 0) .int).before args s = true := hs _ (by decide +kernel)
  have hle : (Cond.le (.length (.arg 0)) (.int 72)).before args s = true := hs _ (by decide +kernel)
  have hlen : (Cond.isInt (.length (.arg 0))).before args s = true := hq _ (by decide +kernel)
  have hall : (Cond.all (.arg 0) (.isInt (.elem (.arg 0) (.index 0)))).before args s = true := hq _ (by decide +kernel)
  obtain ⟨b, xs, hb, hx⟩ := State.ints_of_pre rfl harr hlen hall
  have hsm : xs.length < 2 ^ 31 := hx.choose_spec.2.2.2
  have hev : (Term.length (.arg 0)).eval args s none [] s = some (.int xs.length.toInt32) := hx.length_eval hb
  have hv := Cond.le_ints hev (show (Term.int 72).eval args s none [] s = some (.int 72) from rfl)
  have hd : xs.length.toInt32 ≤ 72 := by
    simpa [Cond.before, Cond.holds, hv] using hle
  have hN : xs.length ≤ 72 := (Int32.ofNat_le_ofNat hsm (by decide)).mp (show Int32.ofNat xs.length ≤ Int32.ofNat 72 from hd)
  exact ⟨b, xs, Cond.one_arg hc (show args[0]? = some (.ref b) from hb), hx, hN, h⟩
theorem lw_comes (l : Launch) (hflags : l.flags = flags0) : Comes l x (Jvm.Cond.code x code maxLocals ret :: tables_1) room_1 (fun tb e args s => Calls_1 tb e args s ∧ rest_1 tb e args s ∧ Pre_1 tb e args s)
    (fun _ _ args s o t => lw_Q args s o t) := by
  intro p e ha hc hk s m args below hf hfit hheap happ hpre
  obtain ⟨b, xs, hP⟩ := lw_pre_spec hpre.2.2 hpre.2.1
  obtain ⟨k, o, h1, h2, h3, hQ⟩ := lw_walk l hflags b xs p e ha hc hk s m args below hf ((Spec.applies_iff_loose hf).mp happ).1 hP trivial
  exact ⟨k, o, h1, h2, h3, hQ⟩
theorem lw_frame {s t : State} {o : Outcome} {args : Array Value} (h : Framed s o t [] 1200144 5496250) :
    Framed s o t (fieldLocs frame_1_writes args s ++ arrayLocs frame_1_arrays args s ++ staticLocs frame_1_statics s) 1200144 5496250 := h
theorem lw_limb (L : Cond) (hL : ∀ (args : Array Value) (s t : State), L.after args s (.returned (some (.int 1))) t = true) :
    ArmFor flags0 classFile x code maxLocals ret World_1 tables_1 room_1 Calls_1 rest_1 Pre_1
      (fun tb e a s o t => postC L tb e a s o t ∧ Framed s o t (fieldLocs frame_1_writes a s ++ arrayLocs frame_1_arrays a s ++ staticLocs frame_1_statics s) 1200144 5496250) := by
  intro l hflags _ _ p e ha hc hk s m args below hf hfit hheap happ hpre
  obtain ⟨k, o, h1, h2, h3, rfl, hF⟩ := lw_comes l hflags p e ha hc hk s m args below hf hfit hheap happ hpre
  exact ⟨k, _, h1, h2, h3, hL args s _, lw_frame hF⟩
theorem i_vc : Claimed_1_1 ∧ Claimed_1_2 := ⟨lw_limb limb_1_1 (fun args s t => by simp [limb_1_1, Cond.after, Cond.holds, Cond.value]), lw_limb limb_1_2 (fun args s t => Cond.after_iff.mpr (by
  first | (rw [show limb_1_2 = Cond.eq .result (.int 1) from rfl, Cond.eq_ints (x := 1) (y := 1) rfl rfl]; simp; done) | (simp [limb_1_2, Cond.value, Term.eval]; done)))⟩

