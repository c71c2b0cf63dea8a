/-! FROM THE LAW's START: the model is made as cells of our heap; then it becomes the model's own state -/
def cutM (σ : Hp) (m : Nat) : Hp := (hN σ, hU σ, fun a => if m ≤ a ∧ a < m + 10 then 0 else hK σ a, hL σ, hI σ, hR σ, hA σ, hB σ, hQ σ)
def mstM (σ : Hp) (m : Nat) : Ms := (fun k => hI σ m (200 + k), fun k j => hA σ (hR σ m (200 + k)) j)
def gG (G : Gx) (m : Nat) (f : Nat → Nat) : Gx := (G.1, G.2.1, G.2.2.1, G.2.2.2.1, G.2.2.2.2.1, G.2.2.2.2.2.1, m, f)
def MOk9 (σ : Hp) (m : Nat) : Prop := hK σ m = 20 ∧ (∀ k ∈ mar, m < hR σ m (200 + k) ∧ hR σ m (200 + k) < m + 10 ∧ hK σ (hR σ m (200 + k)) = 100 + mty k ∧ hL σ (hR σ m (200 + k)) = mlen k) ∧ ∀ k ∈ mar, ∀ j ∈ mar, hR σ m (200 + k) = hR σ m (200 + j) → k = j
section Start0
variable {l : Launch} {G : Gx} {own : String} {cc : ByteArray} {nL : Nat} {ret : Option FieldType} {xt : List ExceptionTableEntry} {ini : Bool} {fr lo : Nat} {σ0 σe : Hp} {o : Oc} {Se : Ms} {pc : Nat} {L : Lo} {st : List PV} {σ : Hp} {S : Ms} {H : Heap}
theorem mar_x3 : ∀ k ∈ mar, k < 18 ∧ isRf (fty 19 k) = true ∧ 1 ≤ mty k ∧ mty k < 3 := by decide +kernel
theorem Rep_cut {m : Nat} (hRe : Rep G σ S H) (h : MOk9 σ m) : Rep (gG G m (fun k => hR σ m (200 + k))) (cutM σ m) (mstM σ m) H := by
  obtain ⟨m1, m2, m3⟩ := h
  refine ⟨hRe.1, hRe.2.1, ?_, fun p hp => ?_, hRe.2.2.2.2.1, Or.inr ⟨?_, fun k hk => ?_, m3⟩⟩
  · show (if m ≤ 0 ∧ 0 < m + 10 then 0 else hK σ 0) = 0
    split
    · rfl
    · exact hRe.2.2.1
  · have hc : ¬ (m ≤ p + 1 ∧ p + 1 < m + 10) := fun h => hp (if_pos h)
    have e : hK (cutM σ m) (p + 1) = hK σ (p + 1) := if_neg hc
    have h9 := hRe.2.2.2.1 p (by rw [← e]; exact hp)
    exact h9.congr (σ' := cutM σ m) (H' := H) ⟨e, rfl, rfl, rfl, rfl, rfl⟩ rfl
  · obtain ⟨p, ep, hg, ho⟩ := hRe.ob (c := 19) (C := RX3) (T := TX3) (N := 18) m1 rfl
    refine ⟨p, ep, hg, if_pos ⟨by omega, by omega⟩, ho.to fun k hk => ?_⟩
    rfl
  · obtain ⟨k1, k2, k3, k4⟩ := mar_x3 k hk
    obtain ⟨g1, g2, g3, g4⟩ := m2 k hk
    obtain ⟨p, ep, hg, ho⟩ := hRe.ar (t := mty k) g3 k3 (by omega)
    refine ⟨p, ep, hg, ?_, ?_, ?_⟩
    · rw [← ep]; exact if_pos ⟨by omega, g2⟩
    · rw [← ep]; exact Nat.ne_of_gt g1
    · rw [ho, g4]
      congr 2
      funext j
      show ev σ (mty k) (hR σ m (200 + k)) j = _
      rw [ev, if_pos (Or.inl k4)]
      rfl
theorem Rep_un {m : Nat} {f : Nat → Nat} (h0 : gmo G = 0) (h : Rep (gG G m f) σ S H) : Rep G σ S H := ⟨h.1, h.2.1, h.2.2.1, h.2.2.2.1, h.2.2.2.2.1, Or.inl h0⟩
theorem V_made {m : Nat} (h0 : gmo G = 0) (hm : MOk9 σ m) (k : V l (gG G m (fun k => hR σ m (200 + k))) own cc nL ret xt ini fr lo σ0 o σe Se pc L st (cutM σ m) (mstM σ m)) : V l G own cc nL ret xt ini fr lo σ0 o σe Se pc L st σ S :=
  ⟨k.1, fun p e s m9 args below meth c H locs ls cells slots C hRe hS hl e1 e2 => by
    have C9 : Cx l (gG G m (fun k => hR σ m (200 + k))) own cc nL ret xt ini p s m9 args meth c := C
    intro T hT X
    obtain ⟨t, a, oc, b1, b2, b3⟩ := k.2 p e s m9 args below meth c H locs ls cells slots C9 (Rep_cut hRe hm) hS hl e1 e2 T hT X
    refine ⟨t, a, oc, b1, b2, ?_⟩
    rcases b3 with ⟨⟨⟨v, q1, q2, q3⟩, q4⟩, q5⟩ | ⟨q, r1, r2⟩
    · exact Or.inl ⟨⟨⟨v, q1, q2, Rep_un h0 q3⟩, q4⟩, q5⟩
    · refine Or.inr ⟨q, r1, ?_⟩
      obtain ⟨E, ce, Lx, ⟨⟨z1, z2⟩, z3⟩, z4⟩ := r2
      exact ⟨E, ce, Lx, ⟨⟨z1, Rep_un h0 z2⟩, z3⟩, z4⟩⟩
theorem V_law (hst : l.stackTraces = false) (h0 : gmo G = 0) (hsc : gst G 4 ≠ 0) {σ2 σ4 : Hp} {r : Int32} (hN2 : hN σ2 ≠ 0) (f1 : f_X1_init (nC σ 1 4) (hN σ) = some ((), σ2)) (f3 : f_X3_init (nC σ2 20 18) (hN σ2) = some ((), σ4)) (hM : MOk9 σ4 (hN σ2)) (f : f_L_law_16 (gG G (hN σ2) (fun k => hR σ4 (hN σ2) (200 + k))) (cutM σ4 (hN σ2)) (mstM σ4 (hN σ2)) (hN σ) = some (r, σe, Se)) : VV_L_law l G σ0 (.inl (some (pI r))) σe Se 0 [(0, pR (gst G 4))] [] σ S := by
  refine V_new (n := 4) ci_0 (by decide +kernel) q125 q126 q76 dL_law_0 ?_
  refine V_dup dL_law_3 rfl ?_
  refine V_callI_0 (n9 := 0) [pR (hN σ)] (v_X1_init l G hst _ f1) rfl rfl q129 q76 q127 q128 rfl (by decide +kernel) (by decide) (Nat.le_of_ble_eq_true rfl) (by show u1 (hK σ) (hN σ) 1 (hN σ) ≠ 0; rw [u1, if_pos rfl]; decide) dL_law_4 ?_
  refine V_astore_n (i := 1) (L' := [(1, pR (hN σ)), (0, pR (gst G 4))]) dL_law_7 rfl (by decide) rfl ?_
  refine V_new (n := 18) ci_19 (by decide +kernel) q1992 q1993 q90 dL_law_8 ?_
  refine V_dup dL_law_11 rfl ?_
  refine V_callI_0 (n9 := 0) [pR (hN σ2)] (v_X3_init l G hst _ f3) rfl rfl q1996 q90 q1994 q1995 rfl (by decide +kernel) (by decide) (Nat.le_of_ble_eq_true rfl) (by show u1 (hK σ2) (hN σ2) 20 (hN σ2) ≠ 0; rw [u1, if_pos rfl]; decide) dL_law_12 ?_
  refine V_astore_n (i := 2) (L' := [(2, pR (hN σ2)), (1, pR (hN σ)), (0, pR (gst G 4))]) dL_law_15 rfl (by decide) rfl ?_
  refine V_sub [2, 1, 0] rfl ?_
  exact V_made h0 hM (v_L_law_16 (G := gG G (hN σ2) (fun k => hR σ4 (hN σ2) (200 + k))) hst hN2 hsc f)
end Start0
