/-! ROWS OF V that read and write the heap -/
/-- a class as the tables have it -/
def CI (c : Nat) (C : String) (T : u_T) (N : Nat) : Prop := CL[c]? = some (C, T, N) ∧ (∀ w ∈ u_ws C T N, w ∈ lw_all) ∧ (∀ k, k < N → parseFieldDescriptor (T k).2.2.1 = some (fty c k)) ∧ (∀ a, a < N → ∀ b, b < N → a ≠ b → (T a).2.1 ≠ (T b).2.1)
theorem CL_lt {c : Nat} {r : vw_C} (h : CL[c]? = some r) : c < 20 := (List.getElem?_eq_some_iff.mp h).1
theorem in_SF : ∀ w ∈ u_ws RX7 TSF 1, w ∈ lw_all := by
  intro w hw
  refine in_X7 w ?_
  obtain ⟨k, hk, rfl⟩ := List.mem_map.mp hw
  have h0 : k = 0 := by have := List.mem_range.mp hk; omega
  subst h0
  exact List.mem_map.mpr ⟨6, List.mem_range.mpr (by decide), rfl⟩
theorem ci_0 : CI 0 RX1 TX1 4 := ⟨rfl, in_X1, tyX1_ok, nmX1⟩
theorem ci_1 : CI 1 RX2 TX2 7 := ⟨rfl, in_X2, tyX2_ok, nmX2⟩
theorem ci_2 : CI 2 RX4 TX4 6 := ⟨rfl, in_X4, tyX4_ok, nmX4⟩
theorem ci_3 : CI 3 RX5 TX5 5 := ⟨rfl, in_X5, tyX5_ok, nmX5⟩
theorem ci_4 : CI 4 RX6 TX6 2 := ⟨rfl, in_X6, tyX6_ok, nmX6⟩
theorem ci_5 : CI 5 RX7 TSF 1 := ⟨rfl, in_SF, by decide +kernel, by decide +kernel⟩
theorem ci_6 : CI 6 RX8 TX8 2 := ⟨rfl, in_X8, tyX8_ok, nmX8⟩
theorem ci_7 : CI 7 RX9 TX9 1 := ⟨rfl, in_X9, tyX9_ok, nmX9⟩
theorem ci_8 : CI 8 RX10 TX10 2 := ⟨rfl, in_X10, tyX10_ok, nmX10⟩
theorem ci_9 : CI 9 RJ2 TJ2 3 := ⟨rfl, in_J2, tyJ2_ok, nmJ2⟩
theorem ci_10 : CI 10 RJ35 TJ35 4 := ⟨rfl, in_J35, tyJ35_ok, nmJ35⟩
theorem ci_11 : CI 11 RJ6 TJ6 3 := ⟨rfl, in_J6, tyJ6_ok, nmJ6⟩
theorem ci_12 : CI 12 RJ8 TJ8 4 := ⟨rfl, in_J8, tyJ8_ok, nmJ8⟩
theorem ci_13 : CI 13 RJ25 TJ25 4 := ⟨rfl, in_J25, tyJ25_ok, nmJ25⟩
theorem ci_14 : CI 14 RJ29 TJ29 9 := ⟨rfl, in_J29, tyJ29_ok, nmJ29⟩
theorem ci_15 : CI 15 RJ30 TJ30 6 := ⟨rfl, in_J30, tyJ30_ok, nmJ30⟩
theorem ci_16 : CI 16 RJ32 TJ32 1 := ⟨rfl, in_J32, tyJ32_ok, nmJ32⟩
theorem ci_17 : CI 17 RJ34 TJ34 4 := ⟨rfl, in_J34, tyJ34_ok, nmJ34⟩
theorem ci_18 : CI 18 RJ23 TJ23 1 := ⟨rfl, in_J23, tyJ23_ok, nmJ23⟩
theorem ci_19 : CI 19 RX3 TX3 18 := ⟨rfl, in_X3, tyX3_ok, nmX3⟩
/-- a field of a class by a method's own table; fin: final -/
def GF (own : String) (idx c k : Nat) (fin : Bool) : Prop := ∃ (C : String) (T : u_T) (N : Nat) (ref : String), CI c C T N ∧ k < N ∧ Cond.fieldLink own idx ref (T k).2.1 (T k).2.2.1 ∈ lw_all ∧ (ref = (T k).1 ∨ Cond.sameField ref (T k).1 (T k).2.1 (T k).2.2.1 ∈ lw_all) ∧ (T k).2.2.2 = fin ∧ (fin = true → (T k).1 = own)
/-- to read it alone -/
def GFR (own : String) (idx c k : Nat) : Prop := ∃ (C : String) (T : u_T) (N : Nat) (ref : String), CI c C T N ∧ k < N ∧ Cond.fieldLink own idx ref (T k).2.1 (T k).2.2.1 ∈ lw_all ∧ (ref = (T k).1 ∨ Cond.sameField ref (T k).1 (T k).2.1 (T k).2.2.1 ∈ lw_all)
/-- the same by the table of a nest mate -/
def GFN (own : String) (idx c k : Nat) : Prop := ∃ (C : String) (T : u_T) (N : Nat) (host : String), CI c C T N ∧ k < N ∧ Cond.fieldLinkNest own idx (T k).1 (T k).2.1 (T k).2.2.1 host ∈ nwF
section HeapFacts
variable {G : Gx} {σ σ' : Hp} {S : Ms} {H H' : Heap}
theorem Rep.ob {c a : Nat} {C : String} {T : u_T} {N : Nat} (hR : Rep G σ S H) (hk : hK σ a = c + 1) (hc : CL[c]? = some (C, T, N)) : ∃ p, a = p + 1 ∧ gB G ≤ p ∧ t_OB p (gC G c) N (gI G c) H (fv σ c a) := by
  have hlt := CL_lt hc
  cases a with
  | zero => rw [hR.2.2.1] at hk; cases hk
  | succ p =>
    rcases hR.2.2.2.1 p (by omega) with ⟨c', r, h1, h2, h3, h4⟩ | ⟨t, h1, -⟩ | ⟨h1, -⟩ | ⟨h1, -⟩
    · have e : c' = c := by omega
      subst e
      cases hc.symm.trans h2
      exact ⟨p, rfl, h3, h4⟩
    · omega
    · omega
    · omega
theorem Rep.ar {t a : Nat} (hR : Rep G σ S H) (hk : hK σ a = 100 + t) (h1 : 1 ≤ t) (h6 : t ≤ 6) : ∃ p, a = p + 1 ∧ gB G ≤ p ∧ H[p]? = some (arrV (gA G t) (hL σ a) (ev σ t a)) := by
  cases a with
  | zero => rw [hR.2.2.1] at hk; omega
  | succ p =>
    rcases hR.2.2.2.1 p (by omega) with ⟨c', r, h1, h2, h3, h4⟩ | ⟨t', h1, h2, h3, h4, h5⟩ | ⟨h1, -⟩ | ⟨h1, -⟩
    · have := CL_lt h2; omega
    · have e : t' = t := by omega
      subst e
      exact ⟨p, rfl, h4, h5⟩
    · omega
    · omega
theorem Rep.lt {p : Nat} (hR : Rep G σ S H) (hk : hK σ (p + 1) ≠ 0) : p < H.size := by
  have hb := hR.2.1
  rcases hR.2.2.2.1 p hk with ⟨c', r, h1, h2, h3, h4⟩ | ⟨t', h1, h2, h3, h4, h5⟩ | ⟨h1, h2, -⟩ | ⟨h1, h2, -⟩
  · obtain ⟨cell, q, -⟩ := h4; exact (Array.getElem?_eq_some_iff.mp q).1
  · exact (Array.getElem?_eq_some_iff.mp h5).1
  · omega
  · omega
/-- two heaps say the same of an address -/
def Sam (σ σ' : Hp) (a : Nat) : Prop := hK σ' a = hK σ a ∧ hL σ' a = hL σ a ∧ hI σ' a = hI σ a ∧ hR σ' a = hR σ a ∧ hA σ' a = hA σ a ∧ hB σ' a = hB σ a
theorem cOk.congr {p : Nat} (h : cOk G σ p H) (hs : Sam σ σ' (p + 1)) (hq : H'[p]? = H[p]?) : cOk G σ' p H' := by
  obtain ⟨s1, s2, s3, s4, s5, s6⟩ := hs
  rcases h with ⟨c', r, h1, h2, h3, h4⟩ | ⟨t', h1, h2, h3, h4, h5⟩ | ⟨h1, hb, j, h2, h3, h4⟩ | ⟨h1, hb, h2, h3⟩
  · exact Or.inl ⟨c', r, s1.trans h1, h2, h3, (h4.kept hq).to fun k _ => by simp only [fv, s3, s4]⟩
  · refine Or.inr (Or.inl ⟨t', s1.trans h1, h2, h3, h4, ?_⟩)
    rw [hq, h5, s2]
    congr 2
    funext j
    simp only [ev, s5, s6]
  · exact Or.inr (Or.inr (Or.inl ⟨s1.trans h1, hb, j, h2, h3, by rw [s3]; exact h4⟩))
  · exact Or.inr (Or.inr (Or.inr ⟨s1.trans h1, hb, h2, by rw [s2]; exact h3⟩))
theorem mOk.congr (h : mOk G σ S H) (hqq : hQ σ' = hQ σ) (hk : ∀ p, hK σ (p + 1) = 0 → gB G ≤ p → p < H.size → hK σ' (p + 1) = 0 ∧ H'[p]? = H[p]?) : mOk G σ' S H' := by
  obtain ⟨h0, h⟩ := h
  refine ⟨hqq.trans h0, ?_⟩
  rcases h with h | ⟨⟨p, h1, h2, h3, h4⟩, h5, h6⟩
  · exact Or.inl h
  · have l1 : p < H.size := by obtain ⟨cell, q, -⟩ := h4; exact (Array.getElem?_eq_some_iff.mp q).1
    refine Or.inr ⟨⟨p, h1, h2, (hk p h3 h2 l1).1, h4.kept (hk p h3 h2 l1).2⟩, fun k hkm => ?_, h6⟩
    obtain ⟨q, g1, g2, g3, g4, g5⟩ := h5 k hkm
    have l2 : q < H.size := (Array.getElem?_eq_some_iff.mp g5).1
    exact ⟨q, g1, g2, (hk q g3 g2 l2).1, g4, by rw [(hk q g3 g2 l2).2]; exact g5⟩
/-- one cell of ours is changed -/
theorem Rep.upd {p : Nat} (hR : Rep G σ S H) (hqq : hQ σ' = hQ σ) (hn : hN σ' = hN σ) (hkk : hK σ' = hK σ) (hp : hK σ (p + 1) ≠ 0) (hsam : ∀ b, b ≠ p + 1 → Sam σ σ' b) (hz : H'.size = H.size) (hq : ∀ q, q ≠ p → H'[q]? = H[q]?) (hc : cOk G σ' p H') : Rep G σ' S H' := by
  obtain ⟨h1, h2, h3, h4, h5⟩ := hR
  refine ⟨by rw [hn, hz]; exact h1, by rw [hz]; exact h2, by rw [hkk]; exact h3, fun b hb => ?_, h5.congr hqq fun b hb _ _ => ⟨by rw [hkk]; exact hb, hq b (fun e => hp (by rw [← e]; exact hb))⟩⟩
  by_cases e : b = p
  · rw [e]; exact hc
  · rw [hkk] at hb
    exact (h4 b hb).congr (hsam (b + 1) (by omega)) (hq b e)
theorem Rep.fresh (hR : Rep G σ S H) {p : Nat} (h : H.size ≤ p) : hK σ (p + 1) = 0 := by
  by_cases e : hK σ (p + 1) = 0
  · exact e
  · have := hR.lt e
    omega
/-- a cell is made -/
theorem Rep.new {K n : Nat} (hR : Rep G σ S H) (hz : H'.size = H.size + 1) (hq : ∀ q, q < H.size → H'[q]? = H[q]?) (hc : cOk G (nC σ K n) H.size H') : Rep G (nC σ K n) S H' := by
  have h0 := hR.fresh (Nat.le_refl _)
  obtain ⟨h1, h2, h3, h4, h5⟩ := hR
  have hs : ∀ b, b ≠ H.size + 1 → Sam σ (nC σ K n) b := by
    intro b hb
    refine ⟨?_, ?_, ?_, ?_, ?_, ?_⟩ <;> simp [nC, hK, hL, hI, hR, hA, hB, u1, h1, hN, hb] <;> intro e <;> exact absurd (e.trans h1) hb
  refine ⟨by simp [nC, hN, hz, ← h1], by omega, ?_, fun b hb => ?_, h5.congr rfl fun b hb h6 h7 => ⟨by rw [(hs (b + 1) (by omega)).1]; exact hb, hq b h7⟩⟩
  · rw [(hs 0 (by omega)).1]; exact h3
  · by_cases e : b = H.size
    · rw [e]; exact hc
    · have hb' := hb
      rw [(hs (b + 1) (by omega)).1] at hb'
      have hlt : b < H.size := Rep.lt ⟨h1, h2, h3, h4, h5⟩ hb'
      exact (h4 b hb').congr (hs (b + 1) (by omega)) (hq b hlt)
/-- a cell is made that is nobody's -/
theorem Rep.newX {n : Nat} (hR : Rep G σ S H) (hz : H'.size = H.size + 1) (hq : ∀ q, q < H.size → H'[q]? = H[q]?) : Rep G (nX σ n) S H' := by
  obtain ⟨h1, h2, h3, h4, h5⟩ := hR
  refine ⟨by show hN σ + 1 = _; rw [h1, hz], by omega, h3, fun b hb => ?_, h5.congr rfl fun b hb h6 h7 => ⟨hb, hq b h7⟩⟩
  have hlt : b < H.size := Rep.lt ⟨h1, h2, h3, h4, h5⟩ hb
  exact (h4 b hb).congr ⟨rfl, rfl, rfl, rfl, rfl, rfl⟩ (hq b hlt)
theorem Sam_sI {a k b : Nat} {v : Int32} (h : b ≠ a) : Sam σ (sI σ a k v) b := ⟨rfl, rfl, by funext j; simp [sI, hI, u2, h], rfl, rfl, rfl⟩
theorem Sam_sR {a k b v : Nat} (h : b ≠ a) : Sam σ (sR σ a k v) b := ⟨rfl, rfl, rfl, by funext j; simp [sR, hR, u2, h], rfl, rfl⟩
theorem Sam_sA {a k b : Nat} {v : Int32} (h : b ≠ a) : Sam σ (sA σ a k v) b := ⟨rfl, rfl, rfl, rfl, by funext j; simp [sA, hA, u2, h], rfl⟩
theorem Sam_sB {a k b v : Nat} (h : b ≠ a) : Sam σ (sB σ a k v) b := ⟨rfl, rfl, rfl, rfl, rfl, by funext j; simp [sB, hB, u2, h]⟩
theorem Sam_cA {a b : Nat} {f : Nat → Int32} (h : b ≠ a) : Sam σ (cA σ a f) b := ⟨rfl, rfl, rfl, rfl, by simp [cA, hA, u1, h], rfl⟩
theorem Sam_cB {a b : Nat} {f : Nat → Nat} (h : b ≠ a) : Sam σ (cB σ a f) b := ⟨rfl, rfl, rfl, rfl, rfl, by simp [cB, hB, u1, h]⟩
end HeapFacts
/-- a field set: an int, or a reference -/
def sF (σ : Hp) (a f : Nat) : PV → Hp
  | .inl x => sI σ a f x
  | .inr (.inl b) => sR σ a f b
  | _ => σ
theorem fv_sF {σ : Hp} {c a k : Nat} {v : PV} (hv : match v with | .inl _ => isRf (fty c k) = false | .inr (.inl _) => isRf (fty c k) = true | _ => False) (j : Nat) : updV (fv σ c a) k (tv v) j = fv (sF σ a (10 * (c + 1) + k) v) c a j := by
  rcases v with x | b | x | x
  · by_cases h : j = k
    · subst h
      have hv : isRf (fty c j) = false := hv
      simp [updV, fv, hv, sF, sI, hI, u2, tv]
    · simp [updV, fv, h, sF, sI, hI, hR, u2]
  · by_cases h : j = k
    · subst h
      have hv : isRf (fty c j) = true := hv
      simp [updV, fv, hv, sF, sR, hR, u2, tv]
    · simp [updV, fv, h, sF, sR, hI, hR, u2]
  · exact absurd hv id
  · exact absurd hv id
section VHeap
variable {l : Launch} {G : Gx} {own : String} {cc : ByteArray} {nL : Nat} {ret : Option FieldType} {xt : List ExceptionTableEntry} {ini : Bool} {fr lo : Nat} {σ0 σe : Hp} {o : Oc} {Se : Ms} {pc : Nat} {L L' : Lo} {st : List PV} {σ : Hp} {S : Ms}
theorem V_getv {idx c k a : Nat} {v : PV} (hf : GFR own idx c k) (hk : hK σ a = c + 1) (hv : fv σ c a k = tv v) (hd : decode cc pc = .ok (.getfield idx, 3)) (kk : V l G own cc nL ret xt ini fr lo σ0 o σe Se (pc + 3) L (v :: st) σ S) : V l G own cc nL ret xt ini fr lo σ0 o σe Se pc L (pR a :: st) σ S :=
  ⟨kk.1, fun p e s m args below meth c9 H locs ls cells slots C hR hS hl e1 e2 => by
    obtain ⟨C1, T, N, ref, ⟨h1, h2, h3, h4⟩, h5, h6, h7⟩ := hf
    obtain ⟨p1, rfl, -, cell, q1, q2, q3, q4⟩ := hR.ob hk h1
    have C' := C
    obtain ⟨hx, hb, hml, hown, hts, -, -, -, -, -, hE⟩ := C
    obtain ⟨hSl, hfc, kC, hkC, hkind⟩ := hE.1.1 c _ h1
    obtain ⟨cf, kf, fi, f, hi, hsl⟩ := hSl k h5
    have hi' : s.fieldFound? ref (T k).2.1 (T k).2.2.1 = some (cf, kf, fi, f) := by
      rcases h7 with e | e
      · rw [e]; exact hi
      · exact u_same (hts _ e) _ hi
    refine W.getf hx hb hown (hts _ h6) hi' (u_facts hfc hkC (u_lays hts h2 h5) hi).1 q1 (by rw [q3]; exact fun h => by cases h) (v := tv v) ?_ rfl rfl hd (kk.2 p e s m args below meth c9 H locs ls cells slots C' hR hS hl e1 e2)
    rw [hsl, q4 k h5, hv]⟩
theorem V_getI {idx c k a : Nat} (hf : GFR own idx c k) (hr : isRf (fty c k) = false) (hk : hK σ a = c + 1) (hd : decode cc pc = .ok (.getfield idx, 3)) (kk : V l G own cc nL ret xt ini fr lo σ0 o σe Se (pc + 3) L (pI (hI σ a (10 * (c + 1) + k)) :: st) σ S) : V l G own cc nL ret xt ini fr lo σ0 o σe Se pc L (pR a :: st) σ S :=
  V_getv hf hk (by simp [fv, hr, tv]) hd kk
theorem V_getR {idx c k a : Nat} (hf : GFR own idx c k) (hr : isRf (fty c k) = true) (hk : hK σ a = c + 1) (hd : decode cc pc = .ok (.getfield idx, 3)) (kk : V l G own cc nL ret xt ini fr lo σ0 o σe Se (pc + 3) L (pR (hR σ a (10 * (c + 1) + k)) :: st) σ S) : V l G own cc nL ret xt ini fr lo σ0 o σe Se pc L (pR a :: st) σ S :=
  V_getv hf hk (by simp [fv, hr, tv]) hd kk
end VHeap
