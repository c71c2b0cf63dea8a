/-! small numbers as ints; loops -/
theorem nI_s (n : Nat) : nI n + 1 = nI (n + 1) := by
  unfold nI
  simp
theorem nI_nat {n : Nat} (h : n < 2 ^ 31) : (nI n).toNatClampNeg = n := Int32.toNatClampNeg_ofNat_of_lt h
theorem jI_toInt {n : Nat} (h : n < 2 ^ 31) : (nI n).toInt = (n : Int) := Int32.toInt_ofNat_of_lt h
theorem jI_lt {a b : Nat} (ha : a < 2 ^ 31) (hb : b < 2 ^ 31) : nI a < nI b ↔ a < b := by
  rw [Int32.lt_iff_toInt_lt, jI_toInt ha, jI_toInt hb]
  omega
theorem jI_le {a b : Nat} (ha : a < 2 ^ 31) (hb : b < 2 ^ 31) : nI a ≤ nI b ↔ a ≤ b := by
  rw [Int32.le_iff_toInt_le, jI_toInt ha, jI_toInt hb]
  omega
theorem nI_inj {a b : Nat} (ha : a < 2 ^ 31) (hb : b < 2 ^ 31) : nI a = nI b ↔ a = b := by
  constructor
  · intro h
    rw [← nI_nat ha, h, nI_nat hb]
  · intro h
    rw [h]
theorem jI_in {a n : Nat} (ha : a < 2 ^ 31) : inB (nI a) n ↔ a < n := by
  unfold inB
  rw [nI_nat ha]
  constructor
  · exact fun h => h.2
  · refine fun h => ⟨?_, h⟩
    rw [Int32.lt_iff_toInt_lt, jI_toInt ha]
    simp
theorem nI_nn {a : Nat} (ha : a < 2 ^ 31) : ¬ nI a < 0 := by
  rw [Int32.lt_iff_toInt_lt, jI_toInt ha]
  simp
/-- steps 0 .. n - 1, one after the other -/
def itr {α : Type} (f : Nat → α → α) : Nat → α → α
  | 0, a => a
  | n + 1, a => f n (itr f n a)
/-- a counted loop -/
theorem loop_up {α β : Type} {L : Nat → Nat → α → Option β} {f : Nat → α → α} {fin : α → Option β} {n : Nat}
    (hs : ∀ fuel j a, j < n → L (fuel + 1) j a = L fuel (j + 1) (f j a)) (he : ∀ fuel a, L (fuel + 1) n a = fin a) :
    ∀ (m : Nat) (fuel : Nat) (a : α), m ≤ n → n < fuel + m → L (fuel) m (itr f m a) = fin (itr f n a) := by
  intro m fuel
  induction fuel generalizing m with
  | zero => intro a h1 h2; omega
  | succ k ih =>
    intro a h1 h2
    by_cases e : m = n
    · subst e
      exact he k _
    · rw [hs k m _ (by omega)]
      exact ih (m + 1) a (by omega) (by omega)
/-- the same with a loop that keeps something true -/
theorem loop_inv {α β : Type} {L : Nat → Nat → α → Option β} {I : Nat → α → Prop} {P : β → Prop} {n : Nat}
    (hs : ∀ fuel j a, j < n → I j a → ∃ a', L (fuel + 1) j a = L fuel (j + 1) a' ∧ I (j + 1) a') (he : ∀ fuel a, I n a → ∃ r, L (fuel + 1) n a = some r ∧ P r) :
    ∀ (m : Nat) (fuel : Nat) (a : α), m ≤ n → n < fuel + m → I m a → ∃ r, L fuel m a = some r ∧ P r := by
  intro m fuel
  induction fuel generalizing m with
  | zero => intro a h1 h2; omega
  | succ k ih =>
    intro a h1 h2 hI
    by_cases e : m = n
    · subst e
      exact he k a hI
    · obtain ⟨a', e1, h3⟩ := hs k m a (by omega) hI
      rw [e1]
      exact ih (m + 1) a' (by omega) (by omega) h3
/-! steps that succeed -/
theorem bd_some {α β : Type} {a : α} {F : α → Option β} : bd (some a) F = F a := rfl
theorem bp_some {α β γ : Type} {a : α} {b : β} {F : α → β → Option γ} : bp (some (a, b)) F = F a b := rfl
theorem ex_inl {α β : Type} {v : α} {F : α → β} {X : String × Nat → β} : ex (.inl v) F X = F v := rfl
theorem ex_inr {α β : Type} {v : String × Nat} {F : α → β} {X : String × Nat → β} : ex (.inr v) F X = X v := rfl
section Ok
variable {σ : Hp} {K a f b n : Nat} {x i : Int32}
theorem gk_ok (h : hK σ a = K) : gk σ K a = some () := if_pos h
theorem gz_ok (h : hK σ a ≠ 0) : gz σ a = some () := if_pos h
theorem rdI_ok (h : hK σ a = K) : rdI σ K a f = some (hI σ a f) := if_pos h
theorem rdR_ok (h : hK σ a = K) : rdR σ K a f = some (hR σ a f) := if_pos h
theorem wrI_ok (h : hK σ a = K) : wrI σ K a f x = some (sI σ a f x) := if_pos h
theorem wrR_ok (h : hK σ a = K) : wrR σ K a f b = some (sR σ a f b) := if_pos h
theorem elI_ok (h : hK σ a = K) (hi : inB i (hL σ a)) : elI σ K a i = some (hA σ a i.toNatClampNeg) := if_pos ⟨h, hi⟩
theorem elR_ok (h : hK σ a = K) (hi : inB i (hL σ a)) : elR σ K a i = some (hB σ a i.toNatClampNeg) := if_pos ⟨h, hi⟩
theorem stI_ok (h : hK σ a = K) (hi : inB i (hL σ a)) : stI σ K a i x = some (sA σ a i.toNatClampNeg x) := if_pos ⟨h, hi⟩
theorem elN_ok (h1 : 101 ≤ hK σ a) (h2 : hK σ a ≤ 106) : elN σ a = some (nI (hL σ a)) := if_pos ⟨h1, h2⟩
theorem elN_0 (h : hK σ a = 202) : elN σ a = some 0 := by
  unfold elN
  rw [if_neg (by omega), if_pos h]
theorem stR_ok (h : hK σ a = 105) (hi : inB i (hL σ a)) (hb : b = 0 ∨ inO (hK σ b)) : stR σ 105 a i b = some (sB σ a i.toNatClampNeg b) := if_pos ⟨h, hi, hb.elim Or.inl fun z => Or.inr (Or.inl ⟨rfl, z⟩)⟩
theorem nwA_ok (h1 : ¬ i < 0) (h2 : i.toNatClampNeg ≤ 1000000) : nwA σ K i = some (nC σ K i.toNatClampNeg) := if_pos ⟨h1, h2⟩
theorem okZ_0 : okZ 0 = some () := if_pos (Or.inl rfl)
theorem okZ_1 : okZ 1 = some () := if_pos (Or.inr rfl)
end Ok
/-! frames -/
/-- new cells' kinds are nobody's yet -/
def Wf (σ : Hp) : Prop := ∀ a, hN σ ≤ a → hK σ a = 0
theorem Wf.lt {σ : Hp} (h : Wf σ) {a : Nat} (ha : hK σ a ≠ 0) : a < hN σ := by
  by_cases e : a < hN σ
  · exact e
  · exact absurd (h a (by omega)) ha
/-- from σ to σ': of the old cells only those of W are written; at most k new ones, of k slots -/
def Fr (W : Nat → Prop) (k : Nat) (σ σ' : Hp) : Prop := hN σ ≤ hN σ' ∧ hN σ' ≤ hN σ + k ∧ hU σ ≤ hU σ' ∧ hU σ' ≤ hU σ + k ∧ hQ σ' = hQ σ ∧ Wf σ' ∧ (∀ c, c < hN σ → hK σ' c = hK σ c ∧ hL σ' c = hL σ c) ∧ ∀ c, c < hN σ → ¬ W c → Sam σ σ' c
theorem Fr.rf {W : Nat → Prop} {σ : Hp} {k : Nat} (h : Wf σ) : Fr W k σ σ := ⟨Nat.le_refl _, Nat.le_add_right _ _, Nat.le_refl _, Nat.le_add_right _ _, rfl, h, fun _ _ => ⟨rfl, rfl⟩, fun _ _ _ => ⟨rfl, rfl, rfl, rfl, rfl, rfl⟩⟩
theorem Sam.trans {σ σ1 σ2 : Hp} {a : Nat} (h : Sam σ σ1 a) (g : Sam σ1 σ2 a) : Sam σ σ2 a := ⟨g.1.trans h.1, g.2.1.trans h.2.1, g.2.2.1.trans h.2.2.1, g.2.2.2.1.trans h.2.2.2.1, g.2.2.2.2.1.trans h.2.2.2.2.1, g.2.2.2.2.2.trans h.2.2.2.2.2⟩
theorem Fr.trans {W W1 W2 : Nat → Prop} {k1 k2 k : Nat} {σ σ1 σ2 : Hp} (h1 : Fr W1 k1 σ σ1) (h2 : Fr W2 k2 σ1 σ2) (hw1 : ∀ c, c < hN σ → W1 c → W c) (hw2 : ∀ c, c < hN σ → W2 c → W c) (hk : k1 + k2 ≤ k) : Fr W k σ σ2 := by
  obtain ⟨a1, a2, a3, a4, a5, a6, a7, a8⟩ := h1
  obtain ⟨b1, b2, b3, b4, b5, b6, b7, b8⟩ := h2
  refine ⟨by omega, by omega, by omega, by omega, b5.trans a5, b6, fun c hc => ⟨(b7 c (by omega)).1.trans (a7 c hc).1, (b7 c (by omega)).2.trans (a7 c hc).2⟩, fun c hc hn => (a8 c hc fun z => hn (hw1 c hc z)).trans (b8 c (by omega) fun z => hn (hw2 c hc z))⟩
theorem Fr.wk {W W1 : Nat → Prop} {k1 k : Nat} {σ σ1 : Hp} (h1 : Fr W1 k1 σ σ1) (hw1 : ∀ c, c < hN σ → W1 c → W c) (hk : k1 ≤ k) : Fr W k σ σ1 := by
  obtain ⟨a1, a2, a3, a4, a5, a6, a7, a8⟩ := h1
  exact ⟨a1, by omega, a3, by omega, a5, a6, a7, fun c hc hn => a8 c hc fun z => hn (hw1 c hc z)⟩
theorem Fr.kind {W : Nat → Prop} {k : Nat} {σ σ' : Hp} (h : Fr W k σ σ') (hw : Wf σ) {a : Nat} (ha : hK σ a ≠ 0) : hK σ' a = hK σ a := (h.2.2.2.2.2.2.1 a (hw.lt ha)).1
theorem Fr.sam {W : Nat → Prop} {k : Nat} {σ σ' : Hp} (h : Fr W k σ σ') (hw : Wf σ) {a : Nat} (ha : hK σ a ≠ 0) (hn : ¬ W a) : Sam σ σ' a := h.2.2.2.2.2.2.2 a (hw.lt ha) hn
theorem Fr.wf {W : Nat → Prop} {k : Nat} {σ σ' : Hp} (h : Fr W k σ σ') : Wf σ' := h.2.2.2.2.2.1
theorem Fr.sI {σ : Hp} {a f : Nat} {v : Int32} (h : Wf σ) : Fr (fun c => c = a) 0 σ (sI σ a f v) := ⟨Nat.le_refl _, Nat.le_refl _, Nat.le_refl _, Nat.le_refl _, rfl, h, fun _ _ => ⟨rfl, rfl⟩, fun _ _ hn => Sam_sI hn⟩
theorem Fr.sR {σ : Hp} {a f v : Nat} (h : Wf σ) : Fr (fun c => c = a) 0 σ (sR σ a f v) := ⟨Nat.le_refl _, Nat.le_refl _, Nat.le_refl _, Nat.le_refl _, rfl, h, fun _ _ => ⟨rfl, rfl⟩, fun _ _ hn => Sam_sR hn⟩
theorem Fr.sA {σ : Hp} {a f : Nat} {v : Int32} (h : Wf σ) : Fr (fun c => c = a) 0 σ (sA σ a f v) := ⟨Nat.le_refl _, Nat.le_refl _, Nat.le_refl _, Nat.le_refl _, rfl, h, fun _ _ => ⟨rfl, rfl⟩, fun _ _ hn => Sam_sA hn⟩
theorem Fr.sB {σ : Hp} {a f v : Nat} (h : Wf σ) : Fr (fun c => c = a) 0 σ (sB σ a f v) := ⟨Nat.le_refl _, Nat.le_refl _, Nat.le_refl _, Nat.le_refl _, rfl, h, fun _ _ => ⟨rfl, rfl⟩, fun _ _ hn => by
  refine ⟨rfl, rfl, rfl, rfl, rfl, ?_⟩
  funext j
  rw [B_sB, if_neg fun z => hn z.1]⟩
theorem Fr.nC {σ : Hp} {K n : Nat} (h : Wf σ) : Fr (fun _ => False) (n + 1) σ (nC σ K n) := by
  refine ⟨Nat.le_succ _, by rw [N_nC]; omega, Nat.le_add_right _ _, by rw [U_nC]; omega, rfl, fun a ha => ?_, fun c hc => ?_, fun c hc _ => ?_⟩
  · rw [N_nC] at ha
    rw [K_nC, if_neg (by omega)]
    exact h a (by omega)
  · rw [K_nC, L_nC, if_neg (by omega), if_neg (by omega)]
    exact ⟨rfl, rfl⟩
  · have : c ≠ hN σ := by omega
    refine ⟨?_, ?_, ?_, ?_, ?_, ?_⟩
    · rw [K_nC, if_neg this]
    · rw [L_nC, if_neg this]
    all_goals (funext j; simp only [I_nC, R_nC, A_nC, B_nC, if_neg this])
theorem Fr.nX {σ : Hp} {n : Nat} (h : Wf σ) : Fr (fun _ => False) (n + 1) σ (nX σ n) := ⟨Nat.le_succ _, by rw [N_nX]; omega, Nat.le_add_right _ _, by rw [U_nX]; omega, rfl, fun a ha => h a (by rw [N_nX] at ha; omega), fun _ _ => ⟨rfl, rfl⟩, fun _ _ _ => ⟨rfl, rfl, rfl, rfl, rfl, rfl⟩⟩
theorem Fr.cB {σ : Hp} {a : Nat} {f : Nat → Nat} (h : Wf σ) : Fr (fun c => c = a) 0 σ (cB σ a f) := ⟨Nat.le_refl _, Nat.le_refl _, Nat.le_refl _, Nat.le_refl _, rfl, h, fun _ _ => ⟨rfl, rfl⟩, fun _ _ hn => by
  refine ⟨rfl, rfl, rfl, rfl, rfl, ?_⟩
  funext j
  rw [B_cB, if_neg hn]⟩
theorem Fr.cA {σ : Hp} {a : Nat} {f : Nat → Int32} (h : Wf σ) : Fr (fun c => c = a) 0 σ (cA σ a f) := ⟨Nat.le_refl _, Nat.le_refl _, Nat.le_refl _, Nat.le_refl _, rfl, h, fun _ _ => ⟨rfl, rfl⟩, fun _ _ hn => by
  refine ⟨rfl, rfl, rfl, rfl, ?_, rfl⟩
  funext j
  rw [A_cA, if_neg hn]⟩
