/-! THE PURE HEAP, and what it says of the machine's. A value: an int, a reference (0: null; a + 1: the cell a), a long, a double. -/
abbrev PV : Type := Int32 ⊕ Nat ⊕ Int64 ⊕ UInt64
abbrev pI (x : Int32) : PV := .inl x
abbrev pR (a : Nat) : PV := .inr (.inl a)
abbrev pL (x : Int64) : PV := .inr (.inr (.inl x))
abbrev pD (x : UInt64) : PV := .inr (.inr (.inr x))
def rv : Nat → Value
  | 0 => .null
  | a + 1 => .ref a
def tv : PV → Value
  | .inl x => .int x
  | .inr (.inl a) => rv a
  | .inr (.inr (.inl x)) => .long x
  | .inr (.inr (.inr x)) => .double x
def c2 : PV → Bool
  | .inl _ => false
  | .inr (.inl _) => false
  | .inr (.inr _) => true
theorem rv_cat (a : Nat) : (rv a).category = 1 := by cases a <;> rfl
theorem tv_cat (v : PV) : (tv v).category = if c2 v = true then 2 else 1 := by
  rcases v with x | a | x | x
  · rfl
  · exact rv_cat a
  · rfl
  · rfl
abbrev Lo : Type := List (Nat × PV)
def tq (q : Nat × PV) : Nat × Value := (q.1, tv q.2)
def stL (i : Nat) (v : PV) (L : Lo) : Lo := (i, v) :: L.filter (fun q => !(q.1 == i) && !(q.1 + 1 == i && c2 q.2))
theorem stL_map (i : Nat) (v : PV) (L : Lo) : (i, tv v) :: (L.map tq).filter (fun q => !(q.1 == i) && !(q.1 + 1 == i && q.2.category == 2)) = (stL i v L).map tq := by
  show _ = tq (i, v) :: (L.filter _).map tq
  rw [List.filter_map]
  congr 2
  apply List.filter_congr
  intro q _
  show (!(q.1 == i) && !(q.1 + 1 == i && (tv q.2).category == 2)) = _
  rw [tv_cat]
  cases h : c2 q.2 <;> simp
/-- next address, slots used, kinds, lengths; fields: ints, references; elements: ints, references -/
abbrev Hp : Type := Nat × Nat × (Nat → Nat) × (Nat → Nat) × (Nat → Nat → Int32) × (Nat → Nat → Nat) × (Nat → Nat → Int32) × (Nat → Nat → Nat) × (Nat → Nat)
def hN (σ : Hp) : Nat := σ.1
def hU (σ : Hp) : Nat := σ.2.1
def hK (σ : Hp) : Nat → Nat := σ.2.2.1
def hL (σ : Hp) : Nat → Nat := σ.2.2.2.1
def hI (σ : Hp) : Nat → Nat → Int32 := σ.2.2.2.2.1
def hR (σ : Hp) : Nat → Nat → Nat := σ.2.2.2.2.2.1
def hA (σ : Hp) : Nat → Nat → Int32 := σ.2.2.2.2.2.2.1
def hB (σ : Hp) : Nat → Nat → Nat := σ.2.2.2.2.2.2.2.1
/-- references of statics and of what stands before our heap: 0 the empty element array, 1 the formatter, 2 Object[]'s class object, 10 + k the small Integer k - 128 -/
def hQ (σ : Hp) : Nat → Nat := σ.2.2.2.2.2.2.2.2
def u1 {α : Type} (f : Nat → α) (a : Nat) (v : α) : Nat → α := fun b => if b = a then v else f b
def u2 {α : Type} (f : Nat → Nat → α) (a k : Nat) (v : α) : Nat → Nat → α := fun b j => if b = a ∧ j = k then v else f b j
def sI (σ : Hp) (a k : Nat) (v : Int32) : Hp := (hN σ, hU σ, hK σ, hL σ, u2 (hI σ) a k v, hR σ, hA σ, hB σ, hQ σ)
def sR (σ : Hp) (a k : Nat) (v : Nat) : Hp := (hN σ, hU σ, hK σ, hL σ, hI σ, u2 (hR σ) a k v, hA σ, hB σ, hQ σ)
def sA (σ : Hp) (a k : Nat) (v : Int32) : Hp := (hN σ, hU σ, hK σ, hL σ, hI σ, hR σ, u2 (hA σ) a k v, hB σ, hQ σ)
def sB (σ : Hp) (a k : Nat) (v : Nat) : Hp := (hN σ, hU σ, hK σ, hL σ, hI σ, hR σ, hA σ, u2 (hB σ) a k v, hQ σ)
/-- a new cell of the kind K, with n slots (an array of the length n; an object with n fields) -/
def nC (σ : Hp) (K n : Nat) : Hp := (hN σ + 1, hU σ + n, u1 (hK σ) (hN σ) K, u1 (hL σ) (hN σ) n, u1 (hI σ) (hN σ) (fun _ => 0), u1 (hR σ) (hN σ) (fun _ => 0), u1 (hA σ) (hN σ) (fun _ => 0), u1 (hB σ) (hN σ) (fun _ => 0), hQ σ)
/-- a new cell that is nobody's (a thrown JDK exception) -/
def nX (σ : Hp) (n : Nat) : Hp := (hN σ + 1, hU σ + n, hK σ, hL σ, hI σ, hR σ, hA σ, hB σ, hQ σ)
/-- an array copied, element for element -/
def cA (σ : Hp) (a : Nat) (f : Nat → Int32) : Hp := (hN σ, hU σ, hK σ, hL σ, hI σ, hR σ, u1 (hA σ) a f, hB σ, hQ σ)
def cB (σ : Hp) (a : Nat) (f : Nat → Nat) : Hp := (hN σ, hU σ, hK σ, hL σ, hI σ, hR σ, hA σ, u1 (hB σ) a f, hQ σ)
/-- the model's own cells: its fields, its arrays -/
abbrev Ms : Type := (Nat → Int32) × (Nat → Nat → Int32)
def sM (S : Ms) (k : Nat) (v : Int32) : Ms := (u1 S.1 k v, S.2)
def pM (S : Ms) (k i : Nat) (v : Int32) : Ms := (S.1, u2 S.2 k i v)
abbrev inB (i : Int32) (n : Nat) : Prop := ¬ i < 0 ∧ i.toNatClampNeg < n
theorem inB_vp {i : Int32} {n : Nat} (h : inB i n) : vp_in i n := fun q => q.elim h.1 (fun z => absurd h.2 (Nat.not_lt.mpr z))
theorem inB_vp' {i : Int32} {n : Nat} (h : inB i n) : ¬ (i < 0 ∨ n ≤ i.toNatClampNeg) := inB_vp h
/-- the classes: a kind is a place here and 1 -/
def TSF : u_T := fun k => match k with
  | _ => ("GaugeBlocks$SyntaxFault", "place", "I", true)
def tySF : Nat → FieldType := fun k => match k with
  | _ => .int
abbrev CL : List vw_C := [(RX1, TX1, 4), (RX2, TX2, 7), (RX4, TX4, 6), (RX5, TX5, 5), (RX6, TX6, 2), (RX7, TSF, 1), (RX8, TX8, 2), (RX9, TX9, 1), (RX10, TX10, 2), (RJ2, TJ2, 3), (RJ35, TJ35, 4), (RJ6, TJ6, 3), (RJ8, TJ8, 4), (RJ25, TJ25, 4), (RJ29, TJ29, 9), (RJ30, TJ30, 6), (RJ32, TJ32, 1), (RJ34, TJ34, 4), (RJ23, TJ23, 1), (RX3, TX3, 18)]
abbrev CTy : List (Nat → FieldType) := [tyX1, tyX2, tyX4, tyX5, tyX6, tySF, tyX8, tyX9, tyX10, tyJ2, tyJ35, tyJ6, tyJ8, tyJ25, tyJ29, tyJ30, tyJ32, tyJ34, tyJ23, tyX3]
def isRf : FieldType → Bool
  | .object _ => true
  | .array _ => true
  | _ => false
def fty (c k : Nat) : FieldType := (CTy.getD c (fun _ => .int)) k
/-- the launch's classes and arrays, where our heap begins, what stands before it, the model's cells -/
abbrev Gx : Type := (Nat → ClassId) × (Nat → Nat → Nat) × (Nat → ClassId) × Nat × (Nat → Nat) × (Nat → Nat) × Nat × (Nat → Nat)
def gC (G : Gx) : Nat → ClassId := G.1
def gI (G : Gx) : Nat → Nat → Nat := G.2.1
def gA (G : Gx) : Nat → ClassId := G.2.2.1
def gB (G : Gx) : Nat := G.2.2.2.1
def gic (G : Gx) : Nat → Nat := G.2.2.2.2.1
def gst (G : Gx) : Nat → Nat := G.2.2.2.2.2.1
def gmo (G : Gx) : Nat := G.2.2.2.2.2.2.1
def gma (G : Gx) : Nat → Nat := G.2.2.2.2.2.2.2
abbrev Af (G : Gx) : Nat → Prop := fun q => gB G ≤ q
def aty : Nat → FieldType
  | 1 => .int
  | 2 => .boolean
  | 3 => .long
  | 4 => .byte
  | 5 => .object "java/lang/Object"
  | _ => .object "GaugeBlocks$State"
abbrev tysG (G : Gx) : List (ClassId × FieldType) := [(gA G 1, aty 1), (gA G 2, aty 2), (gA G 3, aty 3), (gA G 4, aty 4), (gA G 5, aty 5), (gA G 6, aty 6)]
/-- a field's value, an element's value -/
def fv (σ : Hp) (c a k : Nat) : Value := if isRf (fty c k) = true then rv (hR σ a (10 * (c + 1) + k)) else .int (hI σ a (10 * (c + 1) + k))
def ev (σ : Hp) (t a j : Nat) : Value := if t < 3 ∨ t = 4 then .int (hA σ a j) else if t = 3 then .long (hA σ a j).toInt64 else rv (hB σ a j)
/-- what an address's kind says of its cell -/
def cOk (G : Gx) (σ : Hp) (p : Nat) (H : Heap) : Prop :=
  (∃ (c : Nat) (r : vw_C), hK σ (p + 1) = c + 1 ∧ CL[c]? = some r ∧ gB G ≤ p ∧ t_OB p (gC G c) r.2.2 (gI G c) H (fv σ c (p + 1))) ∨
  (∃ t : Nat, hK σ (p + 1) = 100 + t ∧ 1 ≤ t ∧ t ≤ 6 ∧ gB G ≤ p ∧ H[p]? = some (arrV (gA G t) (hL σ (p + 1)) (ev σ t (p + 1)))) ∨
  (hK σ (p + 1) = 201 ∧ p < gB G ∧ ∃ j : Nat, j < 256 ∧ p = gic G j ∧ hI σ (p + 1) 190 = vb_c j) ∨
  (hK σ (p + 1) = 202 ∧ p < gB G ∧ p + 1 = gst G 0 ∧ hL σ (p + 1) = 0)
/-- the model's arrays: by their field's place: length, and whether of booleans -/
def mlen : Nat → Nat
  | 0 => 149
  | 1 => 894
  | 3 => 298
  | 4 => 2
  | 6 => 20
  | 8 => 60
  | _ => 24
abbrev mar : List Nat := [0, 1, 3, 4, 6, 8, 13, 14, 15]
def mty (k : Nat) : Nat := if k = 4 then 2 else 1
def mfv (G : Gx) (S : Ms) (k : Nat) : Value := if isRf (fty 19 k) = true then rv (gma G k) else .int (S.1 k)
/-- the model's cells stand (once it is made): none is the heap's -/
def qG (G : Gx) : Nat → Nat := fun k => if k = 0 then gst G 0 else if k = 1 then gst G 2 else if k = 2 then gst G 3 else gic G (k - 10) + 1
def mOk (G : Gx) (σ : Hp) (S : Ms) (H : Heap) : Prop := hQ σ = qG G ∧ (gmo G = 0 ∨
  ((∃ p, gmo G = p + 1 ∧ gB G ≤ p ∧ hK σ (p + 1) = 0 ∧ t_OB p (gC G 19) 18 (gI G 19) H (mfv G S)) ∧
   (∀ k ∈ mar, ∃ p, gma G k = p + 1 ∧ gB G ≤ p ∧ hK σ (p + 1) = 0 ∧ p + 1 ≠ gmo G ∧ H[p]? = some (arrV (gA G (mty k)) (mlen k) (fun j => .int (S.2 k j)))) ∧
   (∀ k ∈ mar, ∀ j ∈ mar, gma G k = gma G j → k = j)))
def Rep (G : Gx) (σ : Hp) (S : Ms) (H : Heap) : Prop := hN σ = H.size + 1 ∧ gB G ≤ H.size ∧ hK σ 0 = 0 ∧ (∀ p, hK σ (p + 1) ≠ 0 → cOk G σ p H) ∧ mOk G σ S H
/-- table words that don't ride in the lists -/
abbrev nwF : List Cond := [.fieldLinkNest "GaugeBlocks$Reader" 19 "GaugeBlocks" "buffer" "Ljava/lang/StringBuilder;" "GaugeBlocks", .fieldLinkNest "java/util/ArrayList$Itr" 28 "java/util/ArrayList" "size" "I" "java/util/ArrayList", .fieldLinkNest "java/util/TreeMap$PrivateEntryIterator" 13 "java/util/TreeMap" "modCount" "I" "java/util/TreeMap"]
abbrev nwM : List Cond := [.methodLinkNest "GaugeBlocks$State" 119 ⟨"GaugeBlocks", "cooled", "(I)I"⟩ "GaugeBlocks", .methodLinkNest "GaugeBlocks" 158 ⟨"GaugeBlocks$Reader", "<init>", "(LGaugeBlocks;)V"⟩ "GaugeBlocks", .methodLinkNest "GaugeBlocks$Reader" 46 ⟨"GaugeBlocks", "isIn", "(III)Z"⟩ "GaugeBlocks"]
abbrev nwC : List (String × String) := [("GaugeBlocks$SyntaxFault", "GaugeBlocks$SyntaxFault"), ("GaugeBlocks$State", "java/lang/Object"), ("java/util/ArrayList", "java/lang/Object"), ("GaugeBlocks$Block", "java/lang/Object"), ("GaugeBlocks$Command", "java/lang/Object"), ("GaugeBlocks$Numbered", "java/lang/Object"), ("java/util/TreeMap", "java/util/NavigableMap"), ("java/lang/IllegalArgumentException", "java/lang/IllegalArgumentException"), ("java/lang/IllegalStateException", "java/lang/IllegalStateException"), ("java/lang/IndexOutOfBoundsException", "java/lang/IndexOutOfBoundsException"), ("java/lang/Integer", "java/lang/Comparable"), ("GaugeBlocks$Order", "java/util/Comparator")]
abbrev nwD : List MethodName := [⟨"java/lang/RuntimeException", "<init>", "()V"⟩, ⟨"java/lang/Exception", "<init>", "()V"⟩, ⟨"java/lang/Throwable", "<init>", "()V"⟩, ⟨"java/lang/IndexOutOfBoundsException", "<init>", "()V"⟩, ⟨"java/lang/Object", "getClass", "()Ljava/lang/Class;"⟩, ⟨"java/util/AbstractCollection", "isEmpty", "()Z"⟩, ⟨"java/util/AbstractCollection", "size", "()I"⟩, ⟨"java/util/TreeMap$PrivateEntryIterator", "nextEntry", "()Ljava/util/TreeMap$Entry;"⟩]
abbrev nwI : List (String × MethodName × MethodName) := [
  ("GaugeBlocks$Order", ⟨"java/util/Comparator", "compare", "(Ljava/lang/Object;Ljava/lang/Object;)I"⟩, ⟨"GaugeBlocks$Order", "compare", "(Ljava/lang/Object;Ljava/lang/Object;)I"⟩),
  ("java/lang/Integer", ⟨"java/lang/Comparable", "compareTo", "(Ljava/lang/Object;)I"⟩, ⟨"java/lang/Integer", "compareTo", "(Ljava/lang/Object;)I"⟩),
  ("java/util/TreeMap$KeySet", ⟨"java/util/Set", "iterator", "()Ljava/util/Iterator;"⟩, ⟨"java/util/TreeMap$KeySet", "iterator", "()Ljava/util/Iterator;"⟩),
  ("java/util/ArrayList$Itr", ⟨"java/util/Iterator", "hasNext", "()Z"⟩, ⟨"java/util/ArrayList$Itr", "hasNext", "()Z"⟩),
  ("java/util/ArrayList$Itr", ⟨"java/util/Iterator", "next", "()Ljava/lang/Object;"⟩, ⟨"java/util/ArrayList$Itr", "next", "()Ljava/lang/Object;"⟩),
  ("java/util/TreeMap$KeyIterator", ⟨"java/util/Iterator", "hasNext", "()Z"⟩, ⟨"java/util/TreeMap$PrivateEntryIterator", "hasNext", "()Z"⟩),
  ("java/util/TreeMap$KeyIterator", ⟨"java/util/Iterator", "next", "()Ljava/lang/Object;"⟩, ⟨"java/util/TreeMap$KeyIterator", "next", "()Ljava/lang/Object;"⟩)]
/-- private methods of a superclass, chosen at an object of ours -/
abbrev nwS : List Cond := [.selects "java/lang/StringBuilder" ⟨"java/lang/AbstractStringBuilder", "ensureCapacityInternal", "(I)V"⟩ ⟨"java/lang/AbstractStringBuilder", "ensureCapacityInternal", "(I)V"⟩, .selects "java/lang/StringBuilder" ⟨"java/lang/AbstractStringBuilder", "newCapacity", "(I)I"⟩ ⟨"java/lang/AbstractStringBuilder", "newCapacity", "(I)I"⟩]
/-- classes that are none of another: no handler of theirs takes it -/
abbrev nwK : List (String × String) := [("java/lang/IllegalStateException", "java/lang/IllegalArgumentException"), ("java/lang/IndexOutOfBoundsException", "java/lang/IllegalArgumentException"), ("java/lang/IllegalArgumentException", "java/lang/IllegalStateException"), ("java/lang/IndexOutOfBoundsException", "java/lang/IllegalStateException"), ("java/lang/IllegalArgumentException", "java/lang/IndexOutOfBoundsException"), ("java/lang/IllegalStateException", "java/lang/IndexOutOfBoundsException")]
def Nws (U : State) : Prop := (∀ w ∈ nwF, va_Nw w U) ∧ (∀ w ∈ nwM, va_Nw w U) ∧ (∀ q ∈ nwC, va_Nw (.castable q.1 q.2) U) ∧ (∀ x ∈ nwD, va_Nw (.declares x) U) ∧ (∀ q ∈ nwI, va_Fw q.1 q.2.1 q.2.2 U) ∧ va_AO "java/lang/Object" U ∧ va_AO "GaugeBlocks$State" U ∧ (∀ w ∈ nwS, va_Nw w U) ∧ ∀ q ∈ nwK, va_Nc q.1 q.2 U
theorem Nws.warm {s U : State} (hW : s.WarmedH U.vm) (h : Nws s) : Nws U := by
  obtain ⟨h1, h2, h3, h4, h5, h6, h7, h8, h9⟩ := h
  refine ⟨?_, ?_, fun q hq => (h3 q hq).warmC hW, fun x hx => (h4 x hx).warmD hW, fun q hq => va_Fw.moved ?_ hW.alike (h5 q hq), h6.moved hW.alike, h7.moved hW.alike, ?_, fun q hq => va_Nc.moved hW.alike (h9 q hq)⟩
  · intro w hw
    have h := h1 w hw
    simp only [List.mem_cons, List.not_mem_nil, or_false] at hw
    rcases hw with rfl | rfl | rfl <;> exact va_Nw.warmF hW h
  · intro w hw
    have h := h2 w hw
    simp only [List.mem_cons, List.not_mem_nil, or_false] at hw
    rcases hw with rfl | rfl | rfl <;> exact va_Nw.warmM hW h
  · simp only [List.mem_cons, List.not_mem_nil, or_false] at hq
    rcases hq with rfl | rfl | rfl | rfl | rfl | rfl | rfl <;> decide +kernel
  · intro w hw
    have h := h8 w hw
    simp only [List.mem_cons, List.not_mem_nil, or_false] at hw
    rcases hw with rfl | rfl <;> exact word_at hW (Or.inl rfl) h
theorem Nws.call {g : JFrame} {mk : MethodId} {a : Array Value} {U : State} (h : Nws U) : Nws (U.calling g mk a) := h.warm (State.WarmedH.refl U)
/-- the script, what it holds -/
def scr (G : Gx) (j : Nat) : Int32 := Int32.ofInt ((gst G (6 + j) : Int) - 2147483648)
def Scr (G : Gx) (U : State) (H : Heap) : Prop := gst G 4 = 0 ∨ (va_X (gst G 4 - 1) (gst G 5) (scr G) U H ∧ gst G 4 - 1 < H.size ∧ ¬ Af G (gst G 4 - 1))
/-- what stands before our heap: the small Integers, statics -/
def Old (G : Gx) (U : State) (H : Heap) : Prop :=
  vb_C (gic G) (Af G) U H ∧
  va_Z "java/util/ArrayList" "DEFAULTCAPACITY_EMPTY_ELEMENTDATA" "[Ljava/lang/Object;" (rv (gst G 0)) (Af G) U H ∧
  va_T (.object "java/lang/Object") (gst G 0 - 1) 0 (fun _ => .null) (Af G) U H ∧
  va_Z "java/lang/Integer$IntegerCache" "high" "I" (.int 127) (Af G) U H ∧
  va_Z "java/lang/Integer$IntegerCache" "cache" "[Ljava/lang/Integer;" (.ref (gst G 1)) (Af G) U H ∧
  va_T (.object "java/lang/Integer") (gst G 1) 256 (fun k => .ref (gic G k)) (Af G) U H ∧
  va_Z "java/lang/String" "COMPACT_STRINGS" "Z" (.int 1) (Af G) U H ∧
  va_Z "jdk/internal/util/Preconditions" "SIOOBE_FORMATTER" "Ljava/util/function/BiFunction;" (rv (gst G 2)) (Af G) U H ∧
  (∃ mi : Nat, gst G 3 = mi + 1 ∧ va_Mi "[Ljava/lang/Object;" mi U) ∧
  vx_Zq Bundle.tN "UNASSIGNED_STACK" Bundle.steD (Af G) U H ∧ vx_Zq Bundle.tN "SUPPRESSED_SENTINEL" Bundle.listD (Af G) U H ∧ Scr G U H
theorem Old.moved {G : Gx} {u U : State} {H : Heap} (hvm : u.vm.Alike U.vm) (h : Old G u H) : Old G U H := by
  obtain ⟨h1, h2, h3, h4, h5, h6, h7, h8, ⟨mi, hm1, hm2⟩, h9, h10, h11⟩ := h
  exact ⟨h1.moved hvm, h2.moved hvm, h3.moved hvm, h4.moved hvm, h5.moved hvm, h6.moved hvm, h7.moved hvm, h8.moved hvm, ⟨mi, hm1, hm2.moved hvm⟩, h9.moved hvm, h10.moved hvm, h11.imp id fun z => ⟨z.1.moved hvm, z.2⟩⟩
theorem Old.kept {G : Gx} {U : State} {H H1 : Heap} (h : Old G U H) (hq : ∀ a : Nat, a < H.size → ¬ Af G a → H1[a]? = H[a]?) : Old G U H1 := by
  obtain ⟨h1, h2, h3, h4, h5, h6, h7, h8, hm, h9, h10, h11⟩ := h
  exact ⟨h1.kept hq, h2.kept hq, h3.kept hq, h4.kept hq, h5.kept hq, h6.kept hq, h7.kept hq, h8.kept hq, hm, h9.kept hq, h10.kept hq, h11.imp id fun z => ⟨z.1.kept (hq _ z.2.1 z.2.2), by
    have h := hq _ z.2.1 z.2.2
    rw [Array.getElem?_eq_getElem z.2.1] at h
    exact (Array.getElem?_eq_some_iff.mp h).1, z.2.2⟩⟩
/-- what holds of a state's tables and of what stands before our heap -/
def En (G : Gx) (U : State) : Prop := va_K (gC G, gI G) CL (tysG G) U ∧ Old G U U.heap ∧ Nws U
theorem En.call {G : Gx} {g : JFrame} {mk : MethodId} {a : Array Value} {U : State} (h : En G U) : En G (U.calling g mk a) :=
  ⟨va_K.moved (u := U) (U := U.calling g mk a) (Vm.Alike.refl U.vm) h.1, Old.moved (u := U) (U := U.calling g mk a) (Vm.Alike.refl U.vm) h.2.1, h.2.2.call⟩
theorem En.next {G : Gx} {s U : State} {H : Heap} {locs : List Loc} (h : En G s) (hS : va_S (Af G) s.heap H locs) (hU : U.heap = H) (hW : s.WarmedH U.vm) : En G U :=
  ⟨va_K.moved hW.alike h.1, by rw [hU]; exact Old.moved hW.alike (h.2.1.kept hS.2.1), h.2.2.warm hW⟩
/-- a method's start -/
def Inv (G : Gx) (σ : Hp) (S : Ms) (U : State) : Prop := Rep G σ S U.heap ∧ En G U
/-- how a method ends: it returned a value (or none), or it threw an object of a class -/
abbrev Oc : Type := Option PV ⊕ (String × Nat)
def QR (G : Gx) (o : Oc) (σ : Hp) (S : Ms) : Array Value → State → Outcome → State → Prop := fun _ st oc t =>
  (∃ v : Option PV, o = .inl v ∧ oc = .returned (v.map tv) ∧ Rep G σ S t.heap) ∧ va_F (Af G) st t
def QX (G : Gx) (o : Oc) (σ : Hp) (S : Ms) : String → Addr → State → State → Prop := fun E q st t =>
  (o = .inr (E, q + 1) ∧ Rep G σ S t.heap) ∧ va_F (Af G) st t
/-- a method's contract from one pure state to another: fr frames, lo words of locals; cells and slots as the heaps say -/
def MT (l : Launch) (G : Gx) (y : MethodName) (ws : List Cond) (fr lo : Nat) (av : List PV) (σ : Hp) (S : Ms) (o : Oc) (σ' : Hp) (S' : Ms) : Prop :=
  (hN σ ≤ hN σ' ∧ hU σ ≤ hU σ') ∧ vx_Met l y ws ({ frames := fr, cells := hN σ' - hN σ, slots := hU σ' - hU σ, locals := lo }) (va_Pc (av.map tv) (Inv G σ S)) (QR G o σ' S') (QX G o σ' S') (hN σ' - hN σ) (hU σ' - hU σ) (Af G)
/-- a frame's place: with these locals, this stack, this heap it runs to the end o, σe, Se -/
abbrev Mx : Type := Launch × Gx × String × ByteArray × Nat × Option FieldType × List ExceptionTableEntry × Nat × Nat × Bool × Hp × Oc × Hp × Ms
def Cx (l : Launch) (G : Gx) (own : String) (cc : ByteArray) (nL : Nat) (ret : Option FieldType) (xt : List ExceptionTableEntry) (ini : Bool) (p : Program) (s : State) (m : MethodId) (args : Array Value) (meth : Method) (c : Code) : Prop :=
  p.tables.exec = Jvm.exec ∧ c.code = cc ∧ c.maxLocals = nL ∧ s.vm.findClass own = some m.cls ∧ (∀ w ∈ lw_all, w.before args s = true) ∧ meth.sig.returnType = ret ∧ meth.locks = false ∧ c.exceptionTable.toList = xt ∧ (ini = true → meth.name = "<init>") ∧ l.stackTraces = false ∧ En G s
def V (l : Launch) (G : Gx) (own : String) (cc : ByteArray) (nL : Nat) (ret : Option FieldType) (xt : List ExceptionTableEntry) (ini : Bool) (fr lo : Nat) (σ0 : Hp) (o : Oc) (σe : Hp) (Se : Ms) (pc : Nat) (L : Lo) (st : List PV) (σ : Hp) (S : Ms) : Prop :=
  (hN σ ≤ hN σe ∧ hU σ ≤ hU σe) ∧ ∀ (p : Program) (e : Env) (s : State) (m : MethodId) (args : Array Value) (below : List Frame) (meth : Method) (c : Code) (H : Heap) (locs : List Loc) (ls : Array Slot) (cells slots : Nat),
    Cx l G own cc nL ret xt ini p s m args meth c → Rep G σ S H → va_S (Af G) s.heap H locs → lv_has ls nL (L.map tq) → cells + hN σ0 = hN σ → slots + hU σ0 = hU σ →
    W p l e ({ frames := fr, cells := hN σe - hN σ0, slots := hU σe - hU σ0, locals := lo }) s m args below meth c H locs cells slots (vx_MQ below (QR G o σe Se) (QX G o σe Se) args s (hN σe - hN σ0) (hU σe - hU σ0) (Af G)) (F0 m pc ls (st.map tv))
