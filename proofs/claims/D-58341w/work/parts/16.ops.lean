/-! THE PURE STEPS, as the decompiled methods use them, and their rows -/
def bd {α β : Type} (x : Option α) (F : α → Option β) : Option β := match x with
  | none => none
  | some a => F a
def bp {α β γ : Type} (x : Option (α × β)) (F : α → β → Option γ) : Option γ := match x with
  | none => none
  | some (a, b) => F a b
theorem bd_s {α β : Type} {x : Option α} {F : α → Option β} {r : β} (h : bd x F = some r) : ∃ a, x = some a ∧ F a = some r := by
  cases x with
  | none => cases h
  | some a => exact ⟨a, rfl, h⟩
theorem bp_s {α β γ : Type} {x : Option (α × β)} {F : α → β → Option γ} {r : γ} (h : bp x F = some r) : ∃ a b, x = some (a, b) ∧ F a b = some r := by
  cases x with
  | none => cases h
  | some a => exact ⟨a.1, a.2, rfl, h⟩
theorem it_t {α : Type} {p : Prop} [Decidable p] {a b : α} {r : α} (c : p) (h : (if p then a else b) = r) : a = r := (if_pos c).symm.trans h
theorem it_f {α : Type} {p : Prop} [Decidable p] {a b : α} {r : α} (c : ¬ p) (h : (if p then a else b) = r) : b = r := (if_neg c).symm.trans h
theorem gd_s {α : Type} {p : Prop} [Decidable p] {a r : α} (h : (if p then some a else none) = some r) : p ∧ a = r := by
  by_cases c : p
  · rw [if_pos c] at h; exact ⟨c, Option.some.inj h⟩
  · rw [if_neg c] at h; cases h
def rdI (σ : Hp) (K a f : Nat) : Option Int32 := if hK σ a = K then some (hI σ a f) else none
def rdR (σ : Hp) (K a f : Nat) : Option Nat := if hK σ a = K then some (hR σ a f) else none
def rdN (σ : Hp) (a : Nat) : Option Int32 := if hK σ a = 19 ∨ hK σ a = 201 then some (hI σ a 190) else none
def wrI (σ : Hp) (K a f : Nat) (x : Int32) : Option Hp := if hK σ a = K then some (sI σ a f x) else none
def wrR (σ : Hp) (K a f b : Nat) : Option Hp := if hK σ a = K then some (sR σ a f b) else none
/-- a boolean, a byte, a char -/
abbrev isZ (x : Int32) : Prop := x = 0 ∨ x = 1
abbrev isB (x : Int32) : Prop := x.toInt8.toInt32 = x
abbrev isC (x : Int32) : Prop := (x.toUInt32 % 65536).toInt32 = x
def wrZ (σ : Hp) (K a f : Nat) (x : Int32) : Option Hp := if hK σ a = K ∧ isZ x then some (sI σ a f x) else none
def wrY (σ : Hp) (K a f : Nat) (x : Int32) : Option Hp := if hK σ a = K ∧ isB x then some (sI σ a f x) else none
def wrC (σ : Hp) (K a f : Nat) (x : Int32) : Option Hp := if hK σ a = K ∧ isC x then some (sI σ a f x) else none
def elI (σ : Hp) (K a : Nat) (i : Int32) : Option Int32 := if hK σ a = K ∧ inB i (hL σ a) then some (hA σ a i.toNatClampNeg) else none
def elR (σ : Hp) (K a : Nat) (i : Int32) : Option Nat := if hK σ a = K ∧ inB i (hL σ a) then some (hB σ a i.toNatClampNeg) else none
def elN (σ : Hp) (a : Nat) : Option Int32 := if 101 ≤ hK σ a ∧ hK σ a ≤ 106 then some (nI (hL σ a)) else if hK σ a = 202 then some 0 else none
def stI (σ : Hp) (K a : Nat) (i x : Int32) : Option Hp := if hK σ a = K ∧ inB i (hL σ a) then some (sA σ a i.toNatClampNeg x) else none
def stY (σ : Hp) (K a : Nat) (i x : Int32) : Option Hp := if hK σ a = K ∧ inB i (hL σ a) ∧ isB x then some (sA σ a i.toNatClampNeg x) else none
/-- what may stand in an Object[]: a State, a Block, a Command, a Numbered, a list -/
abbrev inO (k : Nat) : Prop := k = 2 ∨ k = 3 ∨ k = 7 ∨ k = 9 ∨ k = 10
def stR (σ : Hp) (K a : Nat) (i : Int32) (b : Nat) : Option Hp := if hK σ a = K ∧ inB i (hL σ a) ∧ (b = 0 ∨ (K = 105 ∧ inO (hK σ b)) ∨ (K = 106 ∧ hK σ b = 2)) then some (sB σ a i.toNatClampNeg b) else none
def nwA (σ : Hp) (K : Nat) (n : Int32) : Option Hp := if ¬ n < 0 ∧ n.toNatClampNeg ≤ 1000000 then some (nC σ K n.toNatClampNeg) else none
def dvI (x y : Int32) : Option Int32 := if y = 0 then none else some (x / y)
def rmI (x y : Int32) : Option Int32 := if y = 0 then none else some (x - x / y * y)
def ckC (σ : Hp) (K a : Nat) : Option Unit := if a = 0 ∨ hK σ a = K ∨ (K = 19 ∧ hK σ a = 201) then some () else none
/-- a receiver of the class K - 1 -/
def gk (σ : Hp) (K a : Nat) : Option Unit := if hK σ a = K then some () else none
theorem gk_k {σ : Hp} {c K a : Nat} {u : Unit} (h : gk σ K a = some u) (e : c + 1 = K) : hK σ a = c + 1 := (gd_s h).1.trans e.symm
theorem gk_n {σ : Hp} {c K a : Nat} {u : Unit} (h : gk σ K a = some u) (e : c + 1 = K) : hK σ a ≠ 0 := by rw [gk_k h e]; exact Nat.succ_ne_zero c
/-- an object of ours -/
def gz (σ : Hp) (a : Nat) : Option Unit := if hK σ a ≠ 0 then some () else none
theorem gz_n {σ : Hp} {a : Nat} {u : Unit} (h : gz σ a = some u) : hK σ a ≠ 0 := (gd_s h).1
def okI (i : Int32) (n : Nat) : Option Unit := if inB i n then some () else none
def okZ (x : Int32) : Option Unit := if isZ x then some () else none
def okC (x : Int32) : Option Unit := if isC x then some () else none
/-- the model's arrays -/
def mrd (S : Ms) (k n : Nat) (i : Int32) : Option Int32 := if inB i n then some (S.2 k i.toNatClampNeg) else none
def mwr (S : Ms) (k n : Nat) (i x : Int32) : Option Ms := if inB i n then some (pM S k i.toNatClampNeg x) else none
def mwz (S : Ms) (k n : Nat) (i x : Int32) : Option Ms := if inB i n ∧ isZ x then some (pM S k i.toNatClampNeg x) else none
/-- how often a loop may run -/
def FU : Nat := 4000000
theorem FU_pos : FU = FU - 1 + 1 := rfl
theorem dv_s {x y r : Int32} (h : dvI x y = some r) : ¬ y = 0 ∧ x / y = r := by
  unfold dvI at h
  by_cases c : y = 0
  · rw [if_pos c] at h; cases h
  · rw [if_neg c] at h; exact ⟨c, Option.some.inj h⟩
theorem rm_s {x y r : Int32} (h : rmI x y = some r) : ¬ y = 0 ∧ x - x / y * y = r := by
  unfold rmI at h
  by_cases c : y = 0
  · rw [if_pos c] at h; cases h
  · rw [if_neg c] at h; exact ⟨c, Option.some.inj h⟩
theorem nar_Z {x : Int32} (h : isZ x) : narrow .boolean (.int x) = .int x ∧ fits .boolean (.int x) = true := by rcases h with rfl | rfl <;> decide +kernel
theorem nar_C {x : Int32} (h : isC x) : narrow .char (.int x) = .int x := by
  show Value.int (vp_nar .char x) = _
  rw [vp_nar_char]
  have h1 : x.toUInt32.toUInt16.toUInt32.toInt32 = x := by
    have h0 : x.toUInt32.toUInt16.toUInt32 = x.toUInt32 % 65536 := by
      apply UInt32.toNat_inj.mp
      simp
    rw [h0]; exact h
  rw [h1]
theorem nar_B {x : Int32} (h : isB x) : narrow .byte (.int x) = .int x := congrArg Value.int h
theorem ts_in {x k lo hi : Int32} (c : x = k) (h1 : lo ≤ k) (h2 : k ≤ hi) : ¬ x.toInt < lo.toInt ∧ ¬ hi.toInt < x.toInt := by
  subst c
  exact ⟨Int.not_lt.mpr (Int32.le_iff_toInt_le.mp h1), Int.not_lt.mpr (Int32.le_iff_toInt_le.mp h2)⟩
theorem ne_int {x k : Int32} {a : Int} (h : ¬ x = k) (hk : k.toInt = a) : x.toInt ≠ a := fun e => h (Int32.toInt_inj.mp (e.trans hk.symm))
section VOps
variable {l : Launch} {G : Gx} {own : String} {cc : ByteArray} {nL : Nat} {ret : Option FieldType} {xt : List ExceptionTableEntry} {ini : Bool} {fr lo : Nat} {σ0 σe : Hp} {o : Oc} {Se : Ms} {pc : Nat} {L L' : Lo} {st st0 : List PV} {σ σ1 : Hp} {S S1 : Ms}
theorem V_div {x y r : Int32} (h : dvI x y = some r) (hd : decode cc pc = .ok (.idiv, 1)) (k : V l G own cc nL ret xt ini fr lo σ0 o σe Se (pc + 1) L (pI r :: st) σ S) : V l G own cc nL ret xt ini fr lo σ0 o σe Se pc L (pI y :: pI x :: st) σ S := by
  obtain ⟨h1, rfl⟩ := dv_s h
  exact V_idiv hd h1 k
theorem V_rem {x y r : Int32} (h : rmI x y = some r) (hd : decode cc pc = .ok (.irem, 1)) (k : V l G own cc nL ret xt ini fr lo σ0 o σe Se (pc + 1) L (pI r :: st) σ S) : V l G own cc nL ret xt ini fr lo σ0 o σe Se pc L (pI y :: pI x :: st) σ S := by
  obtain ⟨h1, rfl⟩ := rm_s h
  exact V_irem hd h1 k
theorem V_rdI {idx c k a f K : Nat} {x : Int32} (hf : GFR own idx c k) (hr : isRf (fty c k) = false) (hK9 : c + 1 = K) (hf9 : 10 * (c + 1) + k = f) (h : rdI σ K a f = some x) (hd : decode cc pc = .ok (.getfield idx, 3)) (kk : V l G own cc nL ret xt ini fr lo σ0 o σe Se (pc + 3) L (pI x :: st) σ S) : V l G own cc nL ret xt ini fr lo σ0 o σe Se pc L (pR a :: st) σ S := by
  subst hK9; subst hf9
  obtain ⟨h1, rfl⟩ := gd_s h
  exact V_getI hf hr h1 hd kk
theorem V_rdR {idx c k a f K : Nat} {x : Nat} (hf : GFR own idx c k) (hr : isRf (fty c k) = true) (hK9 : c + 1 = K) (hf9 : 10 * (c + 1) + k = f) (h : rdR σ K a f = some x) (hd : decode cc pc = .ok (.getfield idx, 3)) (kk : V l G own cc nL ret xt ini fr lo σ0 o σe Se (pc + 3) L (pR x :: st) σ S) : V l G own cc nL ret xt ini fr lo σ0 o σe Se pc L (pR a :: st) σ S := by
  subst hK9; subst hf9
  obtain ⟨h1, rfl⟩ := gd_s h
  exact V_getR hf hr h1 hd kk
theorem V_rdIN {idx c k a f K : Nat} {x : Int32} (hf : GFN own idx c k) (hr : isRf (fty c k) = false) (hK9 : c + 1 = K) (hf9 : 10 * (c + 1) + k = f) (h : rdI σ K a f = some x) (hd : decode cc pc = .ok (.getfield idx, 3)) (kk : V l G own cc nL ret xt ini fr lo σ0 o σe Se (pc + 3) L (pI x :: st) σ S) : V l G own cc nL ret xt ini fr lo σ0 o σe Se pc L (pR a :: st) σ S := by
  subst hK9; subst hf9
  obtain ⟨h1, rfl⟩ := gd_s h
  exact V_getvN hf h1 (by simp [fv, hr, tv]) hd kk
theorem V_rdRN {idx c k a f K : Nat} {x : Nat} (hf : GFN own idx c k) (hr : isRf (fty c k) = true) (hK9 : c + 1 = K) (hf9 : 10 * (c + 1) + k = f) (h : rdR σ K a f = some x) (hd : decode cc pc = .ok (.getfield idx, 3)) (kk : V l G own cc nL ret xt ini fr lo σ0 o σe Se (pc + 3) L (pR x :: st) σ S) : V l G own cc nL ret xt ini fr lo σ0 o σe Se pc L (pR a :: st) σ S := by
  subst hK9; subst hf9
  obtain ⟨h1, rfl⟩ := gd_s h
  exact V_getvN hf h1 (by simp [fv, hr, tv]) hd kk
theorem V_wrI {idx c k a f K : Nat} {x : Int32} (hf : GF own idx c k false) (ht : fty c k = .int) (hK9 : c + 1 = K) (hf9 : 10 * (c + 1) + k = f) (h : wrI σ K a f x = some σ1) (hd : decode cc pc = .ok (.putfield idx, 3)) (kk : V l G own cc nL ret xt ini fr lo σ0 o σe Se (pc + 3) L st σ1 S) : V l G own cc nL ret xt ini fr lo σ0 o σe Se pc L (pI x :: pR a :: st) σ S := by
  subst hK9; subst hf9
  obtain ⟨h1, rfl⟩ := gd_s h
  exact V_put hf h1 (okF_int x ht) hd kk
theorem V_wrR {idx c k a f K b : Nat} (hf : GF own idx c k false) (ht : okF c k (pR b)) (hK9 : c + 1 = K) (hf9 : 10 * (c + 1) + k = f) (h : wrR σ K a f b = some σ1) (hd : decode cc pc = .ok (.putfield idx, 3)) (kk : V l G own cc nL ret xt ini fr lo σ0 o σe Se (pc + 3) L st σ1 S) : V l G own cc nL ret xt ini fr lo σ0 o σe Se pc L (pR b :: pR a :: st) σ S := by
  subst hK9; subst hf9
  obtain ⟨h1, rfl⟩ := gd_s h
  exact V_put hf h1 ht hd kk
theorem V_wrZ {idx c k a f K : Nat} {x : Int32} (hf : GF own idx c k false) (ht : fty c k = .boolean) (hK9 : c + 1 = K) (hf9 : 10 * (c + 1) + k = f) (h : wrZ σ K a f x = some σ1) (hd : decode cc pc = .ok (.putfield idx, 3)) (kk : V l G own cc nL ret xt ini fr lo σ0 o σe Se (pc + 3) L st σ1 S) : V l G own cc nL ret xt ini fr lo σ0 o σe Se pc L (pI x :: pR a :: st) σ S := by
  subst hK9; subst hf9
  obtain ⟨⟨h1, h2⟩, rfl⟩ := gd_s h
  exact V_put hf h1 (okF_nar (by rw [ht]; rfl) (by rw [ht]; exact (nar_Z h2).1) (by rw [ht]; exact (nar_Z h2).2)) hd kk
theorem V_wrY {idx c k a f K : Nat} {x : Int32} (hf : GF own idx c k false) (ht : fty c k = .byte) (hK9 : c + 1 = K) (hf9 : 10 * (c + 1) + k = f) (h : wrY σ K a f x = some σ1) (hd : decode cc pc = .ok (.putfield idx, 3)) (kk : V l G own cc nL ret xt ini fr lo σ0 o σe Se (pc + 3) L st σ1 S) : V l G own cc nL ret xt ini fr lo σ0 o σe Se pc L (pI x :: pR a :: st) σ S := by
  subst hK9; subst hf9
  obtain ⟨⟨h1, h2⟩, rfl⟩ := gd_s h
  exact V_put hf h1 (okF_nar (by rw [ht]; rfl) (by rw [ht]; exact nar_B h2) (by rw [ht]; show fits .byte (.int x) = true; rw [← h2]; exact pk_fb x)) hd kk
theorem V_wrC {idx c k a f K : Nat} {x : Int32} (hf : GF own idx c k false) (ht : fty c k = .char) (hK9 : c + 1 = K) (hf9 : 10 * (c + 1) + k = f) (h : wrC σ K a f x = some σ1) (hd : decode cc pc = .ok (.putfield idx, 3)) (kk : V l G own cc nL ret xt ini fr lo σ0 o σe Se (pc + 3) L st σ1 S) : V l G own cc nL ret xt ini fr lo σ0 o σe Se pc L (pI x :: pR a :: st) σ S := by
  subst hK9; subst hf9
  obtain ⟨⟨h1, h2⟩, rfl⟩ := gd_s h
  exact V_put hf h1 (okF_nar (by rw [ht]; rfl) (by rw [ht]; exact nar_C h2) (by rw [ht]; show fits .char (.int x) = true; rw [← h2]; exact pk_fc x)) hd kk
theorem V_wrIF {idx c k a f K : Nat} {x : Int32} (hf : GF own idx c k true) (hi : ini = true) (ht : fty c k = .int) (hK9 : c + 1 = K) (hf9 : 10 * (c + 1) + k = f) (h : wrI σ K a f x = some σ1) (hd : decode cc pc = .ok (.putfield idx, 3)) (kk : V l G own cc nL ret xt ini fr lo σ0 o σe Se (pc + 3) L st σ1 S) : V l G own cc nL ret xt ini fr lo σ0 o σe Se pc L (pI x :: pR a :: st) σ S := by
  subst hK9; subst hf9
  obtain ⟨h1, rfl⟩ := gd_s h
  exact V_putF hf hi h1 (okF_int x ht) hd kk
theorem V_wrRF {idx c k a f K b : Nat} (hf : GF own idx c k true) (hi : ini = true) (ht : okF c k (pR b)) (hK9 : c + 1 = K) (hf9 : 10 * (c + 1) + k = f) (h : wrR σ K a f b = some σ1) (hd : decode cc pc = .ok (.putfield idx, 3)) (kk : V l G own cc nL ret xt ini fr lo σ0 o σe Se (pc + 3) L st σ1 S) : V l G own cc nL ret xt ini fr lo σ0 o σe Se pc L (pR b :: pR a :: st) σ S := by
  subst hK9; subst hf9
  obtain ⟨h1, rfl⟩ := gd_s h
  exact V_putF hf hi h1 ht hd kk
theorem V_wrZF {idx c k a f K : Nat} {x : Int32} (hf : GF own idx c k true) (hi : ini = true) (ht : fty c k = .boolean) (hK9 : c + 1 = K) (hf9 : 10 * (c + 1) + k = f) (h : wrZ σ K a f x = some σ1) (hd : decode cc pc = .ok (.putfield idx, 3)) (kk : V l G own cc nL ret xt ini fr lo σ0 o σe Se (pc + 3) L st σ1 S) : V l G own cc nL ret xt ini fr lo σ0 o σe Se pc L (pI x :: pR a :: st) σ S := by
  subst hK9; subst hf9
  obtain ⟨⟨h1, h2⟩, rfl⟩ := gd_s h
  exact V_putF hf hi h1 (okF_nar (by rw [ht]; rfl) (by rw [ht]; exact (nar_Z h2).1) (by rw [ht]; exact (nar_Z h2).2)) hd kk
theorem V_wrYF {idx c k a f K : Nat} {x : Int32} (hf : GF own idx c k true) (hi : ini = true) (ht : fty c k = .byte) (hK9 : c + 1 = K) (hf9 : 10 * (c + 1) + k = f) (h : wrY σ K a f x = some σ1) (hd : decode cc pc = .ok (.putfield idx, 3)) (kk : V l G own cc nL ret xt ini fr lo σ0 o σe Se (pc + 3) L st σ1 S) : V l G own cc nL ret xt ini fr lo σ0 o σe Se pc L (pI x :: pR a :: st) σ S := by
  subst hK9; subst hf9
  obtain ⟨⟨h1, h2⟩, rfl⟩ := gd_s h
  exact V_putF hf hi h1 (okF_nar (by rw [ht]; rfl) (by rw [ht]; exact nar_B h2) (by rw [ht]; show fits .byte (.int x) = true; rw [← h2]; exact pk_fb x)) hd kk
theorem V_wrCF {idx c k a f K : Nat} {x : Int32} (hf : GF own idx c k true) (hi : ini = true) (ht : fty c k = .char) (hK9 : c + 1 = K) (hf9 : 10 * (c + 1) + k = f) (h : wrC σ K a f x = some σ1) (hd : decode cc pc = .ok (.putfield idx, 3)) (kk : V l G own cc nL ret xt ini fr lo σ0 o σe Se (pc + 3) L st σ1 S) : V l G own cc nL ret xt ini fr lo σ0 o σe Se pc L (pI x :: pR a :: st) σ S := by
  subst hK9; subst hf9
  obtain ⟨⟨h1, h2⟩, rfl⟩ := gd_s h
  exact V_putF hf hi h1 (okF_nar (by rw [ht]; rfl) (by rw [ht]; exact nar_C h2) (by rw [ht]; show fits .char (.int x) = true; rw [← h2]; exact pk_fc x)) hd kk
theorem V_elI1 {a : Nat} {i x : Int32} (h : elI σ 101 a i = some x) (hd : decode cc pc = .ok (.iaload, 1)) (kk : V l G own cc nL ret xt ini fr lo σ0 o σe Se (pc + 1) L (pI x :: st) σ S) : V l G own cc nL ret xt ini fr lo σ0 o σe Se pc L (pI i :: pR a :: st) σ S := by
  obtain ⟨⟨h1, h2⟩, rfl⟩ := gd_s h
  exact V_iald h1 h2 hd kk
theorem V_elI4 {a : Nat} {i x : Int32} (h : elI σ 104 a i = some x) (hd : decode cc pc = .ok (.baload, 1)) (kk : V l G own cc nL ret xt ini fr lo σ0 o σe Se (pc + 1) L (pI x :: st) σ S) : V l G own cc nL ret xt ini fr lo σ0 o σe Se pc L (pI i :: pR a :: st) σ S := by
  obtain ⟨⟨h1, h2⟩, rfl⟩ := gd_s h
  exact V_bald h1 h2 hd kk
theorem V_elR5 {a x : Nat} {i : Int32} (h : elR σ 105 a i = some x) (hd : decode cc pc = .ok (.aaload, 1)) (kk : V l G own cc nL ret xt ini fr lo σ0 o σe Se (pc + 1) L (pR x :: st) σ S) : V l G own cc nL ret xt ini fr lo σ0 o σe Se pc L (pI i :: pR a :: st) σ S := by
  obtain ⟨⟨h1, h2⟩, rfl⟩ := gd_s h
  exact V_aald5 h1 h2 hd kk
theorem V_elR6 {a x : Nat} {i : Int32} (h : elR σ 106 a i = some x) (hd : decode cc pc = .ok (.aaload, 1)) (kk : V l G own cc nL ret xt ini fr lo σ0 o σe Se (pc + 1) L (pR x :: st) σ S) : V l G own cc nL ret xt ini fr lo σ0 o σe Se pc L (pI i :: pR a :: st) σ S := by
  obtain ⟨⟨h1, h2⟩, rfl⟩ := gd_s h
  exact V_aald6 h1 h2 hd kk
theorem V_elN {a : Nat} {x : Int32} (h : elN σ a = some x) (hd : decode cc pc = .ok (.arraylength, 1)) (kk : V l G own cc nL ret xt ini fr lo σ0 o σe Se (pc + 1) L (pI x :: st) σ S) : V l G own cc nL ret xt ini fr lo σ0 o σe Se pc L (pR a :: st) σ S := by
  unfold elN at h
  by_cases c : 101 ≤ hK σ a ∧ hK σ a ≤ 106
  · rw [if_pos c] at h
    cases h
    exact V_alen (t := hK σ a - 100) (by omega) (by omega) (by omega) hd kk
  · rw [if_neg c] at h
    by_cases c' : hK σ a = 202
    · rw [if_pos c'] at h
      cases h
      exact V_alen0 c' hd kk
    · rw [if_neg c'] at h
      cases h
theorem V_stI1 {a : Nat} {i x : Int32} (h : stI σ 101 a i x = some σ1) (hd : decode cc pc = .ok (.iastore, 1)) (kk : V l G own cc nL ret xt ini fr lo σ0 o σe Se (pc + 1) L st σ1 S) : V l G own cc nL ret xt ini fr lo σ0 o σe Se pc L (pI x :: pI i :: pR a :: st) σ S := by
  obtain ⟨⟨h1, h2⟩, rfl⟩ := gd_s h
  exact V_iast h1 h2 hd kk
theorem V_stI3 {a : Nat} {i x : Int32} (h : stI σ 103 a i x = some σ1) (hd : decode cc pc = .ok (.lastore, 1)) (kk : V l G own cc nL ret xt ini fr lo σ0 o σe Se (pc + 1) L st σ1 S) : V l G own cc nL ret xt ini fr lo σ0 o σe Se pc L (pL x.toInt64 :: pI i :: pR a :: st) σ S := by
  obtain ⟨⟨h1, h2⟩, rfl⟩ := gd_s h
  exact V_last h1 h2 hd kk
theorem V_stY4 {a : Nat} {i x : Int32} (h : stY σ 104 a i x = some σ1) (hd : decode cc pc = .ok (.bastore, 1)) (kk : V l G own cc nL ret xt ini fr lo σ0 o σe Se (pc + 1) L st σ1 S) : V l G own cc nL ret xt ini fr lo σ0 o σe Se pc L (pI x :: pI i :: pR a :: st) σ S := by
  obtain ⟨⟨h1, h2, h3⟩, rfl⟩ := gd_s h
  exact V_bast h1 h2 (nar_B h3) hd kk
theorem V_stR5 {a b : Nat} {i : Int32} (h : stR σ 105 a i b = some σ1) (hd : decode cc pc = .ok (.aastore, 1)) (kk : V l G own cc nL ret xt ini fr lo σ0 o σe Se (pc + 1) L st σ1 S) : V l G own cc nL ret xt ini fr lo σ0 o σe Se pc L (pR b :: pI i :: pR a :: st) σ S := by
  obtain ⟨⟨h1, h2, h3⟩, rfl⟩ := gd_s h
  rcases h3 with rfl | ⟨-, h3⟩ | ⟨h3, -⟩
  · exact V_aast5N h1 h2 hd kk
  · rcases h3 with h3 | h3 | h3 | h3 | h3
    · exact V_aast5 (c := 1) h1 h2 h3 ⟨(RX2, TX2, 7), rfl, by decide +kernel⟩ hd kk
    · exact V_aast5 (c := 2) h1 h2 h3 ⟨(RX4, TX4, 6), rfl, by decide +kernel⟩ hd kk
    · exact V_aast5 (c := 6) h1 h2 h3 ⟨(RX8, TX8, 2), rfl, by decide +kernel⟩ hd kk
    · exact V_aast5 (c := 8) h1 h2 h3 ⟨(RX10, TX10, 2), rfl, by decide +kernel⟩ hd kk
    · exact V_aast5 (c := 9) h1 h2 h3 ⟨(RJ2, TJ2, 3), rfl, by decide +kernel⟩ hd kk
  · exact absurd h3 (by decide)
theorem V_stR6 {a b : Nat} {i : Int32} (h : stR σ 106 a i b = some σ1) (hd : decode cc pc = .ok (.aastore, 1)) (kk : V l G own cc nL ret xt ini fr lo σ0 o σe Se (pc + 1) L st σ1 S) : V l G own cc nL ret xt ini fr lo σ0 o σe Se pc L (pR b :: pI i :: pR a :: st) σ S := by
  obtain ⟨⟨h1, h2, h3⟩, rfl⟩ := gd_s h
  rcases h3 with rfl | ⟨h3, -⟩ | ⟨-, h3⟩
  · exact V_aast6N h1 h2 hd kk
  · exact absurd h3 (by decide)
  · exact V_aast6 (c := 1) h1 h2 h3 rfl hd kk
theorem V_nwA {t : Nat} {n : Int32} {atype : ArrayType} (h : nwA σ (100 + t) n = some σ1) (ht : newarray.typeOf atype = aty t) (h1 : 1 ≤ t ∧ t ≤ 4) (harr : Cond.arrayClass (aty t) ∈ lw_all) (hd : decode cc pc = .ok (.newarray atype, 2)) (kk : V l G own cc nL ret xt ini fr lo σ0 o σe Se (pc + 2) L (pR (hN σ) :: st) σ1 S) : V l G own cc nL ret xt ini fr lo σ0 o σe Se pc L (pI n :: st) σ S := by
  obtain ⟨⟨h2, h3⟩, rfl⟩ := gd_s h
  exact V_newa ht h1.1 h1.2 harr h2 h3 hd kk
theorem V_nwQ {t idx : Nat} {n : Int32} {Cn : String} (h : nwA σ (100 + t) n = some σ1) (ht : (t = 5 ∧ Cn = "java/lang/Object") ∨ (t = 6 ∧ Cn = "GaugeBlocks$State")) (hcl : Cond.classLink own idx Cn ∈ lw_all) (hd : decode cc pc = .ok (.anewarray idx, 3)) (kk : V l G own cc nL ret xt ini fr lo σ0 o σe Se (pc + 3) L (pR (hN σ) :: st) σ1 S) : V l G own cc nL ret xt ini fr lo σ0 o σe Se pc L (pI n :: st) σ S := by
  obtain ⟨⟨h2, h3⟩, rfl⟩ := gd_s h
  exact V_newq ht hcl h2 h3 hd kk
theorem V_ckC {idx a c : Nat} {r : vw_C} {nm : String} (h : ckC σ (c + 1) a = some ()) (hcl : Cond.classLink own idx nm ∈ lw_all) (hcr : CL[c]? = some r) (hnm : r.1 = nm ∨ (r.1, nm) ∈ nwC) (hd : decode cc pc = .ok (.checkcast idx, 3)) (kk : V l G own cc nL ret xt ini fr lo σ0 o σe Se (pc + 3) L (pR a :: st) σ S) : V l G own cc nL ret xt ini fr lo σ0 o σe Se pc L (pR a :: st) σ S := by
  obtain ⟨h1, -⟩ := gd_s h
  refine V_cast hcl ?_ hd kk
  rcases h1 with h1 | h1 | ⟨h1, h2⟩
  · exact Or.inl h1
  · exact Or.inr (Or.inl ⟨c, r, h1, hcr, hnm⟩)
  · have e : c = 18 := by omega
    subst e
    have er : r = (RJ23, TJ23, 1) := (Option.some.inj hcr).symm
    subst er
    exact Or.inr (Or.inr ⟨h2, hnm.imp (fun z => z.symm) (fun z => z)⟩)
/-! the model -/
theorem V_mrdI {idx k : Nat} (hm : gmo G ≠ 0) (hf : GFR own idx 19 k) (hk : k < 18) (hr : isRf (fty 19 k) = false) (hd : decode cc pc = .ok (.getfield idx, 3)) (kk : V l G own cc nL ret xt ini fr lo σ0 o σe Se (pc + 3) L (pI (S.1 k) :: st) σ S) : V l G own cc nL ret xt ini fr lo σ0 o σe Se pc L (pR (gmo G) :: st) σ S := V_mget hm hf hk (by simp [mfv, hr, tv]) hd kk
theorem V_mrdA {idx k : Nat} (hm : gmo G ≠ 0) (hf : GFR own idx 19 k) (hk : k < 18) (hr : isRf (fty 19 k) = true) (hd : decode cc pc = .ok (.getfield idx, 3)) (kk : V l G own cc nL ret xt ini fr lo σ0 o σe Se (pc + 3) L (pR (gma G k) :: st) σ S) : V l G own cc nL ret xt ini fr lo σ0 o σe Se pc L (pR (gmo G) :: st) σ S := V_mget hm hf hk (by simp [mfv, hr, tv]) hd kk
theorem V_mel {k n : Nat} {i x : Int32} (hm : gmo G ≠ 0) (h : mrd S k n i = some x) (hk : k ∈ mar) (hn : mlen k = n) (h4 : k ≠ 4) (hd : decode cc pc = .ok (.iaload, 1)) (kk : V l G own cc nL ret xt ini fr lo σ0 o σe Se (pc + 1) L (pI x :: st) σ S) : V l G own cc nL ret xt ini fr lo σ0 o σe Se pc L (pI i :: pR (gma G k) :: st) σ S := by
  obtain ⟨h1, rfl⟩ := gd_s h
  subst hn
  exact V_mald hm hk h4 h1 hd kk
theorem V_melz {k n : Nat} {i x : Int32} (hm : gmo G ≠ 0) (h : mrd S k n i = some x) (hk : k ∈ mar) (hn : mlen k = n) (h4 : k = 4) (hd : decode cc pc = .ok (.baload, 1)) (kk : V l G own cc nL ret xt ini fr lo σ0 o σe Se (pc + 1) L (pI x :: st) σ S) : V l G own cc nL ret xt ini fr lo σ0 o σe Se pc L (pI i :: pR (gma G k) :: st) σ S := by
  obtain ⟨h1, rfl⟩ := gd_s h
  subst hn
  exact V_mzald hm hk h4 h1 hd kk
theorem V_mst {k n : Nat} {i x : Int32} (hm : gmo G ≠ 0) (h : mwr S k n i x = some S1) (hk : k ∈ mar) (hn : mlen k = n) (h4 : k ≠ 4) (hd : decode cc pc = .ok (.iastore, 1)) (kk : V l G own cc nL ret xt ini fr lo σ0 o σe Se (pc + 1) L st σ S1) : V l G own cc nL ret xt ini fr lo σ0 o σe Se pc L (pI x :: pI i :: pR (gma G k) :: st) σ S := by
  obtain ⟨h1, rfl⟩ := gd_s h
  subst hn
  exact V_mast hm hk h4 h1 hd kk
theorem V_mstz {k n : Nat} {i x : Int32} (hm : gmo G ≠ 0) (h : mwz S k n i x = some S1) (hk : k ∈ mar) (hn : mlen k = n) (h4 : k = 4) (hd : decode cc pc = .ok (.bastore, 1)) (kk : V l G own cc nL ret xt ini fr lo σ0 o σe Se (pc + 1) L st σ S1) : V l G own cc nL ret xt ini fr lo σ0 o σe Se pc L (pI x :: pI i :: pR (gma G k) :: st) σ S := by
  obtain ⟨⟨h1, h2⟩, rfl⟩ := gd_s h
  subst hn
  exact V_mzast hm hk h4 (nar_Z h2).1 h1 hd kk
theorem V_retZ {v : Int32} (h : okZ v = some ()) (hr : ret = some .boolean) (hd : decode cc pc = .ok (.ireturn, 1)) (ho : o = .inl (some (pI v)) := by rfl) (hσ : σe = σ := by rfl) (hSe : Se = S := by rfl) : V l G own cc nL ret xt ini fr lo σ0 o σe Se pc L [pI v] σ S := V_zret hr (nar_Z (gd_s h).1).1 hd ho hσ hSe
theorem V_retC {v : Int32} (h : okC v = some ()) (hr : ret = some .char) (hd : decode cc pc = .ok (.ireturn, 1)) (ho : o = .inl (some (pI v)) := by rfl) (hσ : σe = σ := by rfl) (hSe : Se = S := by rfl) : V l G own cc nL ret xt ini fr lo σ0 o σe Se pc L [pI v] σ S := V_zret hr (nar_C (gd_s h).1) hd ho hσ hSe
theorem V_callV_v {y : MethodName} {bytes : ByteArray} {maxL frc loc idx : Nat} {retc : Option FieldType} {av : List PV} {b c : Nat} {r : vw_C} {v : PV} (rest : List PV) (hM : MT l G y (ws_ y bytes maxL retc) frc loc (pR b :: av) σ S (.inl (some v)) σ1 S1) {n9 : Nat} (hs : st0 = av.reverse ++ pR b :: rest) (hn9 : av.length = n9) (hw : GoodIn lw_all (wsV own idx r.1 y (ws_ y bytes maxL retc))) (hd0 : y.cls = r.1 ∧ y.cls ≠ "java/lang/invoke/MethodHandle" ∧ y.cls ≠ "java/lang/invoke/VarHandle" ∧ (parseMethodDescriptor y.desc).map (fun d => d.parameters.length) = some n9) (hrm : frc + 1 ≤ fr ∧ 8 + (maxL + 11) + loc ≤ lo) (hcat : (rest.map fun v => if c2 v = true then 2 else 1).sum ≤ 8) (hk : hK σ b = c + 1) (hcr : CL[c]? = some r) (hd : decode cc pc = .ok (.invokevirtual idx, 3)) (kk : V l G own cc nL ret xt ini fr lo σ0 o σe Se (pc + 3) L (v :: rest) σ1 S1) : V l G own cc nL ret xt ini fr lo σ0 o σe Se pc L st0 σ S := by
  subst hs; subst hn9
  exact V_callV hM hw hd0 hrm hcat hk hcr hd (fun w hw => by cases hw; exact kk) (fun E q hq => by cases hq)
theorem V_callV_0 {y : MethodName} {bytes : ByteArray} {maxL frc loc idx : Nat} {retc : Option FieldType} {av : List PV} {b c : Nat} {r : vw_C} (rest : List PV) (hM : MT l G y (ws_ y bytes maxL retc) frc loc (pR b :: av) σ S (.inl (none)) σ1 S1) {n9 : Nat} (hs : st0 = av.reverse ++ pR b :: rest) (hn9 : av.length = n9) (hw : GoodIn lw_all (wsV own idx r.1 y (ws_ y bytes maxL retc))) (hd0 : y.cls = r.1 ∧ y.cls ≠ "java/lang/invoke/MethodHandle" ∧ y.cls ≠ "java/lang/invoke/VarHandle" ∧ (parseMethodDescriptor y.desc).map (fun d => d.parameters.length) = some n9) (hrm : frc + 1 ≤ fr ∧ 8 + (maxL + 11) + loc ≤ lo) (hcat : (rest.map fun v => if c2 v = true then 2 else 1).sum ≤ 8) (hk : hK σ b = c + 1) (hcr : CL[c]? = some r) (hd : decode cc pc = .ok (.invokevirtual idx, 3)) (kk : V l G own cc nL ret xt ini fr lo σ0 o σe Se (pc + 3) L (rest) σ1 S1) : V l G own cc nL ret xt ini fr lo σ0 o σe Se pc L st0 σ S := by
  subst hs; subst hn9
  exact V_callV hM hw hd0 hrm hcat hk hcr hd (fun w hw => by cases hw; exact kk) (fun E q hq => by cases hq)
theorem V_callS_v {y : MethodName} {bytes : ByteArray} {maxL frc loc idx : Nat} {retc : Option FieldType} {av : List PV} {v : PV} (rest : List PV) (hM : MT l G y (ws_ y bytes maxL retc) frc loc (av) σ S (.inl (some v)) σ1 S1) {n9 : Nat} (hs : st0 = av.reverse ++ rest) (hn9 : av.length = n9) (hw : GoodIn lw_all (va_wsS own idx y (ws_ y bytes maxL retc))) (hd0 : y.cls ≠ "java/lang/invoke/MethodHandle" ∧ y.cls ≠ "java/lang/invoke/VarHandle" ∧ (parseMethodDescriptor y.desc).map (fun d => d.parameters.length) = some n9) (hrm : frc + 1 ≤ fr ∧ 8 + (maxL + 11) + loc ≤ lo) (hcat : (rest.map fun v => if c2 v = true then 2 else 1).sum ≤ 8) (hd : decode cc pc = .ok (.invokestatic idx, 3)) (kk : V l G own cc nL ret xt ini fr lo σ0 o σe Se (pc + 3) L (v :: rest) σ1 S1) : V l G own cc nL ret xt ini fr lo σ0 o σe Se pc L st0 σ S := by
  subst hs; subst hn9
  exact V_callS hM hw hd0 hrm hcat hd (fun w hw => by cases hw; exact kk) (fun E q hq => by cases hq)
theorem V_callS_0 {y : MethodName} {bytes : ByteArray} {maxL frc loc idx : Nat} {retc : Option FieldType} {av : List PV} (rest : List PV) (hM : MT l G y (ws_ y bytes maxL retc) frc loc (av) σ S (.inl (none)) σ1 S1) {n9 : Nat} (hs : st0 = av.reverse ++ rest) (hn9 : av.length = n9) (hw : GoodIn lw_all (va_wsS own idx y (ws_ y bytes maxL retc))) (hd0 : y.cls ≠ "java/lang/invoke/MethodHandle" ∧ y.cls ≠ "java/lang/invoke/VarHandle" ∧ (parseMethodDescriptor y.desc).map (fun d => d.parameters.length) = some n9) (hrm : frc + 1 ≤ fr ∧ 8 + (maxL + 11) + loc ≤ lo) (hcat : (rest.map fun v => if c2 v = true then 2 else 1).sum ≤ 8) (hd : decode cc pc = .ok (.invokestatic idx, 3)) (kk : V l G own cc nL ret xt ini fr lo σ0 o σe Se (pc + 3) L (rest) σ1 S1) : V l G own cc nL ret xt ini fr lo σ0 o σe Se pc L st0 σ S := by
  subst hs; subst hn9
  exact V_callS hM hw hd0 hrm hcat hd (fun w hw => by cases hw; exact kk) (fun E q hq => by cases hq)
theorem V_callI_0 {y : MethodName} {bytes : ByteArray} {maxL frc loc idx : Nat} {av : List PV} {b : Nat} (rest : List PV) (hM : MT l G y (ws_ y bytes maxL none) frc loc (pR b :: av) σ S (.inl (none)) σ1 S1) {n9 : Nat} (hs : st0 = av.reverse ++ pR b :: rest) (hn9 : av.length = n9) (hq : Cond.code y bytes maxL none ∈ lw_all) (hi1 : Cond.initialized y.cls ∈ lw_all) (hq1 : Cond.methodLink own idx y ∈ lw_all) (hq2 : Cond.instanceMethod y ∈ lw_all) (hy : y.name = "<init>") (hd0 : y.cls ≠ "java/lang/invoke/MethodHandle" ∧ y.cls ≠ "java/lang/invoke/VarHandle" ∧ (parseMethodDescriptor y.desc).map (fun d => d.parameters.length) = some n9) (hrm : frc + 1 ≤ fr ∧ 8 + (maxL + 11) + loc ≤ lo) (hcat : (rest.map fun v => if c2 v = true then 2 else 1).sum ≤ 8) (hb0 : hK σ b ≠ 0) (hd : decode cc pc = .ok (.invokespecial idx, 3)) (kk : V l G own cc nL ret xt ini fr lo σ0 o σe Se (pc + 3) L (rest) σ1 S1) : V l G own cc nL ret xt ini fr lo σ0 o σe Se pc L st0 σ S := by
  subst hs; subst hn9
  exact V_callI hM hq hi1 hq1 hq2 hy hd0 hrm hcat hb0 hd (fun w hw => by cases hw; exact kk) (fun E q hq => by cases hq)
theorem V_callSN_v {y : MethodName} {bytes : ByteArray} {maxL frc loc idx : Nat} {retc : Option FieldType} {av : List PV} {host : String} {v : PV} (rest : List PV) (hM : MT l G y (ws_ y bytes maxL retc) frc loc (av) σ S (.inl (some v)) σ1 S1) {n9 : Nat} (hs : st0 = av.reverse ++ rest) (hn9 : av.length = n9) (hq : Cond.code y bytes maxL retc ∈ lw_all) (hq2 : Cond.static y ∈ lw_all) (hi1 : Cond.initialized y.cls ∈ lw_all) (hln : Cond.methodLinkNest own idx y host ∈ nwM) (hd0 : y.cls ≠ "java/lang/invoke/MethodHandle" ∧ y.cls ≠ "java/lang/invoke/VarHandle" ∧ (parseMethodDescriptor y.desc).map (fun d => d.parameters.length) = some n9) (hrm : frc + 1 ≤ fr ∧ 8 + (maxL + 11) + loc ≤ lo) (hcat : (rest.map fun v => if c2 v = true then 2 else 1).sum ≤ 8) (hd : decode cc pc = .ok (.invokestatic idx, 3)) (kk : V l G own cc nL ret xt ini fr lo σ0 o σe Se (pc + 3) L (v :: rest) σ1 S1) : V l G own cc nL ret xt ini fr lo σ0 o σe Se pc L st0 σ S := by
  subst hs; subst hn9
  exact V_callSN hM hq hq2 hi1 hln hd0 hrm hcat hd (fun w hw => by cases hw; exact kk) (fun E q hq => by cases hq)
theorem V_callSN_0 {y : MethodName} {bytes : ByteArray} {maxL frc loc idx : Nat} {retc : Option FieldType} {av : List PV} {host : String} (rest : List PV) (hM : MT l G y (ws_ y bytes maxL retc) frc loc (av) σ S (.inl (none)) σ1 S1) {n9 : Nat} (hs : st0 = av.reverse ++ rest) (hn9 : av.length = n9) (hq : Cond.code y bytes maxL retc ∈ lw_all) (hq2 : Cond.static y ∈ lw_all) (hi1 : Cond.initialized y.cls ∈ lw_all) (hln : Cond.methodLinkNest own idx y host ∈ nwM) (hd0 : y.cls ≠ "java/lang/invoke/MethodHandle" ∧ y.cls ≠ "java/lang/invoke/VarHandle" ∧ (parseMethodDescriptor y.desc).map (fun d => d.parameters.length) = some n9) (hrm : frc + 1 ≤ fr ∧ 8 + (maxL + 11) + loc ≤ lo) (hcat : (rest.map fun v => if c2 v = true then 2 else 1).sum ≤ 8) (hd : decode cc pc = .ok (.invokestatic idx, 3)) (kk : V l G own cc nL ret xt ini fr lo σ0 o σe Se (pc + 3) L (rest) σ1 S1) : V l G own cc nL ret xt ini fr lo σ0 o σe Se pc L st0 σ S := by
  subst hs; subst hn9
  exact V_callSN hM hq hq2 hi1 hln hd0 hrm hcat hd (fun w hw => by cases hw; exact kk) (fun E q hq => by cases hq)
theorem V_callIN_0 {y : MethodName} {bytes : ByteArray} {maxL frc loc idx : Nat} {av : List PV} {b : Nat} {host : String} (rest : List PV) (hM : MT l G y (ws_ y bytes maxL none) frc loc (pR b :: av) σ S (.inl (none)) σ1 S1) {n9 : Nat} (hs : st0 = av.reverse ++ pR b :: rest) (hn9 : av.length = n9) (hq : Cond.code y bytes maxL none ∈ lw_all) (hi1 : Cond.initialized y.cls ∈ lw_all) (hln : Cond.methodLinkNest own idx y host ∈ nwM) (hq2 : Cond.instanceMethod y ∈ lw_all) (hy : y.name = "<init>") (hd0 : y.cls ≠ "java/lang/invoke/MethodHandle" ∧ y.cls ≠ "java/lang/invoke/VarHandle" ∧ (parseMethodDescriptor y.desc).map (fun d => d.parameters.length) = some n9) (hrm : frc + 1 ≤ fr ∧ 8 + (maxL + 11) + loc ≤ lo) (hcat : (rest.map fun v => if c2 v = true then 2 else 1).sum ≤ 8) (hb0 : hK σ b ≠ 0) (hd : decode cc pc = .ok (.invokespecial idx, 3)) (kk : V l G own cc nL ret xt ini fr lo σ0 o σe Se (pc + 3) L (rest) σ1 S1) : V l G own cc nL ret xt ini fr lo σ0 o σe Se pc L st0 σ S := by
  subst hs; subst hn9
  exact V_callIN hM hq hi1 hln hq2 hy hd0 hrm hcat hb0 hd (fun w hw => by cases hw; exact kk) (fun E q hq => by cases hq)
theorem V_callU_v {y : MethodName} {bytes : ByteArray} {maxL frc loc idx : Nat} {retc : Option FieldType} {av : List PV} {b c : Nat} {r : vw_C} {x : MethodName} {owner : String} {v : PV} (rest : List PV) (hM : MT l G y (ws_ y bytes maxL retc) frc loc (pR b :: av) σ S (.inl (some v)) σ1 S1) {n9 : Nat} (hs : st0 = av.reverse ++ pR b :: rest) (hn9 : av.length = n9) (hw : GoodIn lw_all (va_wsU own idx r.1 owner x y (ws_ y bytes maxL retc))) (hyx : y = ⟨owner, x.name, x.desc⟩) (hd0 : owner ≠ "java/lang/invoke/MethodHandle" ∧ owner ≠ "java/lang/invoke/VarHandle" ∧ (parseMethodDescriptor x.desc).map (fun d => d.parameters.length) = some n9) (hrm : frc + 1 ≤ fr ∧ 8 + (maxL + 11) + loc ≤ lo) (hcat : (rest.map fun v => if c2 v = true then 2 else 1).sum ≤ 8) (hk : hK σ b = c + 1) (hcr : CL[c]? = some r) (hd : decode cc pc = .ok (.invokevirtual idx, 3)) (kk : V l G own cc nL ret xt ini fr lo σ0 o σe Se (pc + 3) L (v :: rest) σ1 S1) : V l G own cc nL ret xt ini fr lo σ0 o σe Se pc L st0 σ S := by
  subst hs; subst hn9
  exact V_callU hM hw hyx hd0 hrm hcat hk hcr hd (fun w hw => by cases hw; exact kk) (fun E q hq => by cases hq)
theorem V_callU_0 {y : MethodName} {bytes : ByteArray} {maxL frc loc idx : Nat} {retc : Option FieldType} {av : List PV} {b c : Nat} {r : vw_C} {x : MethodName} {owner : String} (rest : List PV) (hM : MT l G y (ws_ y bytes maxL retc) frc loc (pR b :: av) σ S (.inl (none)) σ1 S1) {n9 : Nat} (hs : st0 = av.reverse ++ pR b :: rest) (hn9 : av.length = n9) (hw : GoodIn lw_all (va_wsU own idx r.1 owner x y (ws_ y bytes maxL retc))) (hyx : y = ⟨owner, x.name, x.desc⟩) (hd0 : owner ≠ "java/lang/invoke/MethodHandle" ∧ owner ≠ "java/lang/invoke/VarHandle" ∧ (parseMethodDescriptor x.desc).map (fun d => d.parameters.length) = some n9) (hrm : frc + 1 ≤ fr ∧ 8 + (maxL + 11) + loc ≤ lo) (hcat : (rest.map fun v => if c2 v = true then 2 else 1).sum ≤ 8) (hk : hK σ b = c + 1) (hcr : CL[c]? = some r) (hd : decode cc pc = .ok (.invokevirtual idx, 3)) (kk : V l G own cc nL ret xt ini fr lo σ0 o σe Se (pc + 3) L (rest) σ1 S1) : V l G own cc nL ret xt ini fr lo σ0 o σe Se pc L st0 σ S := by
  subst hs; subst hn9
  exact V_callU hM hw hyx hd0 hrm hcat hk hcr hd (fun w hw => by cases hw; exact kk) (fun E q hq => by cases hq)
theorem V_callM_v {y : MethodName} {bytes : ByteArray} {maxL frc loc idx : Nat} {retc : Option FieldType} {av : List PV} {v : PV} (rest : List PV) (hm : gmo G ≠ 0) (hM : MT l G y (ws_ y bytes maxL retc) frc loc (pR (gmo G) :: av) σ S (.inl (some v)) σ1 S1) {n9 : Nat} (hs : st0 = av.reverse ++ pR (gmo G) :: rest) (hn9 : av.length = n9) (hw : GoodIn lw_all (wsV own idx RX3 y (ws_ y bytes maxL retc))) (hd0 : y.cls = RX3 ∧ y.cls ≠ "java/lang/invoke/MethodHandle" ∧ y.cls ≠ "java/lang/invoke/VarHandle" ∧ (parseMethodDescriptor y.desc).map (fun d => d.parameters.length) = some n9) (hrm : frc + 1 ≤ fr ∧ 8 + (maxL + 11) + loc ≤ lo) (hcat : (rest.map fun v => if c2 v = true then 2 else 1).sum ≤ 8) (hd : decode cc pc = .ok (.invokevirtual idx, 3)) (kk : V l G own cc nL ret xt ini fr lo σ0 o σe Se (pc + 3) L (v :: rest) σ1 S1) : V l G own cc nL ret xt ini fr lo σ0 o σe Se pc L st0 σ S := by
  subst hs; subst hn9
  exact V_callM hm hM hw hd0 hrm hcat hd kk
theorem V_callM_0 {y : MethodName} {bytes : ByteArray} {maxL frc loc idx : Nat} {retc : Option FieldType} {av : List PV} (rest : List PV) (hm : gmo G ≠ 0) (hM : MT l G y (ws_ y bytes maxL retc) frc loc (pR (gmo G) :: av) σ S (.inl (none)) σ1 S1) {n9 : Nat} (hs : st0 = av.reverse ++ pR (gmo G) :: rest) (hn9 : av.length = n9) (hw : GoodIn lw_all (wsV own idx RX3 y (ws_ y bytes maxL retc))) (hd0 : y.cls = RX3 ∧ y.cls ≠ "java/lang/invoke/MethodHandle" ∧ y.cls ≠ "java/lang/invoke/VarHandle" ∧ (parseMethodDescriptor y.desc).map (fun d => d.parameters.length) = some n9) (hrm : frc + 1 ≤ fr ∧ 8 + (maxL + 11) + loc ≤ lo) (hcat : (rest.map fun v => if c2 v = true then 2 else 1).sum ≤ 8) (hd : decode cc pc = .ok (.invokevirtual idx, 3)) (kk : V l G own cc nL ret xt ini fr lo σ0 o σe Se (pc + 3) L (rest) σ1 S1) : V l G own cc nL ret xt ini fr lo σ0 o σe Se pc L st0 σ S := by
  subst hs; subst hn9
  exact V_callM hm hM hw hd0 hrm hcat hd kk
end VOps
