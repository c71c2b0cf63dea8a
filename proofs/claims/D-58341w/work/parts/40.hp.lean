/-! PURE HEAPS: what a setter does to what is read -/
section Acc
variable {σ : Hp}
theorem N_sI {a k : Nat} {v : Int32}  : hN (sI σ a k v) = hN σ := rfl
theorem U_sI {a k : Nat} {v : Int32}  : hU (sI σ a k v) = hU σ := rfl
theorem K_sI {a k : Nat} {v : Int32} {b : Nat} : hK (sI σ a k v) b = hK σ b := rfl
theorem L_sI {a k : Nat} {v : Int32} {b : Nat} : hL (sI σ a k v) b = hL σ b := rfl
theorem I_sI {a k : Nat} {v : Int32} {b j : Nat} : hI (sI σ a k v) b j = if b = a ∧ j = k then v else hI σ b j := rfl
theorem R_sI {a k : Nat} {v : Int32} {b j : Nat} : hR (sI σ a k v) b j = hR σ b j := rfl
theorem A_sI {a k : Nat} {v : Int32} {b j : Nat} : hA (sI σ a k v) b j = hA σ b j := rfl
theorem B_sI {a k : Nat} {v : Int32} {b j : Nat} : hB (sI σ a k v) b j = hB σ b j := rfl
theorem Q_sI {a k : Nat} {v : Int32}  : hQ (sI σ a k v) = hQ σ := rfl
theorem N_sR {a k v : Nat}  : hN (sR σ a k v) = hN σ := rfl
theorem U_sR {a k v : Nat}  : hU (sR σ a k v) = hU σ := rfl
theorem K_sR {a k v : Nat} {b : Nat} : hK (sR σ a k v) b = hK σ b := rfl
theorem L_sR {a k v : Nat} {b : Nat} : hL (sR σ a k v) b = hL σ b := rfl
theorem I_sR {a k v : Nat} {b j : Nat} : hI (sR σ a k v) b j = hI σ b j := rfl
theorem R_sR {a k v : Nat} {b j : Nat} : hR (sR σ a k v) b j = if b = a ∧ j = k then v else hR σ b j := rfl
theorem A_sR {a k v : Nat} {b j : Nat} : hA (sR σ a k v) b j = hA σ b j := rfl
theorem B_sR {a k v : Nat} {b j : Nat} : hB (sR σ a k v) b j = hB σ b j := rfl
theorem Q_sR {a k v : Nat}  : hQ (sR σ a k v) = hQ σ := rfl
theorem N_sA {a k : Nat} {v : Int32}  : hN (sA σ a k v) = hN σ := rfl
theorem U_sA {a k : Nat} {v : Int32}  : hU (sA σ a k v) = hU σ := rfl
theorem K_sA {a k : Nat} {v : Int32} {b : Nat} : hK (sA σ a k v) b = hK σ b := rfl
theorem L_sA {a k : Nat} {v : Int32} {b : Nat} : hL (sA σ a k v) b = hL σ b := rfl
theorem I_sA {a k : Nat} {v : Int32} {b j : Nat} : hI (sA σ a k v) b j = hI σ b j := rfl
theorem R_sA {a k : Nat} {v : Int32} {b j : Nat} : hR (sA σ a k v) b j = hR σ b j := rfl
theorem A_sA {a k : Nat} {v : Int32} {b j : Nat} : hA (sA σ a k v) b j = if b = a ∧ j = k then v else hA σ b j := rfl
theorem B_sA {a k : Nat} {v : Int32} {b j : Nat} : hB (sA σ a k v) b j = hB σ b j := rfl
theorem Q_sA {a k : Nat} {v : Int32}  : hQ (sA σ a k v) = hQ σ := rfl
theorem N_sB {a k v : Nat}  : hN (sB σ a k v) = hN σ := rfl
theorem U_sB {a k v : Nat}  : hU (sB σ a k v) = hU σ := rfl
theorem K_sB {a k v : Nat} {b : Nat} : hK (sB σ a k v) b = hK σ b := rfl
theorem L_sB {a k v : Nat} {b : Nat} : hL (sB σ a k v) b = hL σ b := rfl
theorem I_sB {a k v : Nat} {b j : Nat} : hI (sB σ a k v) b j = hI σ b j := rfl
theorem R_sB {a k v : Nat} {b j : Nat} : hR (sB σ a k v) b j = hR σ b j := rfl
theorem A_sB {a k v : Nat} {b j : Nat} : hA (sB σ a k v) b j = hA σ b j := rfl
theorem B_sB {a k v : Nat} {b j : Nat} : hB (sB σ a k v) b j = if b = a ∧ j = k then v else hB σ b j := rfl
theorem Q_sB {a k v : Nat}  : hQ (sB σ a k v) = hQ σ := rfl
theorem N_nC {K n : Nat}  : hN (nC σ K n) = hN σ + 1 := rfl
theorem U_nC {K n : Nat}  : hU (nC σ K n) = hU σ + n := rfl
theorem K_nC {K n : Nat} {b : Nat} : hK (nC σ K n) b = if b = hN σ then K else hK σ b := rfl
theorem L_nC {K n : Nat} {b : Nat} : hL (nC σ K n) b = if b = hN σ then n else hL σ b := rfl
theorem I_nC {K n : Nat} {b j : Nat} : hI (nC σ K n) b j = if b = hN σ then 0 else hI σ b j := by
  show (u1 (α := Nat → _) _ _ _ b) j = _
  unfold u1
  split <;> rfl
theorem R_nC {K n : Nat} {b j : Nat} : hR (nC σ K n) b j = if b = hN σ then 0 else hR σ b j := by
  show (u1 (α := Nat → _) _ _ _ b) j = _
  unfold u1
  split <;> rfl
theorem A_nC {K n : Nat} {b j : Nat} : hA (nC σ K n) b j = if b = hN σ then 0 else hA σ b j := by
  show (u1 (α := Nat → _) _ _ _ b) j = _
  unfold u1
  split <;> rfl
theorem B_nC {K n : Nat} {b j : Nat} : hB (nC σ K n) b j = if b = hN σ then 0 else hB σ b j := by
  show (u1 (α := Nat → _) _ _ _ b) j = _
  unfold u1
  split <;> rfl
theorem Q_nC {K n : Nat}  : hQ (nC σ K n) = hQ σ := rfl
theorem N_nX {n : Nat}  : hN (nX σ n) = hN σ + 1 := rfl
theorem U_nX {n : Nat}  : hU (nX σ n) = hU σ + n := rfl
theorem K_nX {n : Nat} {b : Nat} : hK (nX σ n) b = hK σ b := rfl
theorem L_nX {n : Nat} {b : Nat} : hL (nX σ n) b = hL σ b := rfl
theorem I_nX {n : Nat} {b j : Nat} : hI (nX σ n) b j = hI σ b j := rfl
theorem R_nX {n : Nat} {b j : Nat} : hR (nX σ n) b j = hR σ b j := rfl
theorem A_nX {n : Nat} {b j : Nat} : hA (nX σ n) b j = hA σ b j := rfl
theorem B_nX {n : Nat} {b j : Nat} : hB (nX σ n) b j = hB σ b j := rfl
theorem Q_nX {n : Nat}  : hQ (nX σ n) = hQ σ := rfl
theorem N_cA {a : Nat} {f : Nat → Int32}  : hN (cA σ a f) = hN σ := rfl
theorem U_cA {a : Nat} {f : Nat → Int32}  : hU (cA σ a f) = hU σ := rfl
theorem K_cA {a : Nat} {f : Nat → Int32} {b : Nat} : hK (cA σ a f) b = hK σ b := rfl
theorem L_cA {a : Nat} {f : Nat → Int32} {b : Nat} : hL (cA σ a f) b = hL σ b := rfl
theorem I_cA {a : Nat} {f : Nat → Int32} {b j : Nat} : hI (cA σ a f) b j = hI σ b j := rfl
theorem R_cA {a : Nat} {f : Nat → Int32} {b j : Nat} : hR (cA σ a f) b j = hR σ b j := rfl
theorem A_cA {a : Nat} {f : Nat → Int32} {b j : Nat} : hA (cA σ a f) b j = if b = a then f j else hA σ b j := by
  show (u1 (α := Nat → _) _ _ _ b) j = _
  unfold u1
  split <;> rfl
theorem B_cA {a : Nat} {f : Nat → Int32} {b j : Nat} : hB (cA σ a f) b j = hB σ b j := rfl
theorem Q_cA {a : Nat} {f : Nat → Int32}  : hQ (cA σ a f) = hQ σ := rfl
theorem N_cB {a : Nat} {f : Nat → Nat}  : hN (cB σ a f) = hN σ := rfl
theorem U_cB {a : Nat} {f : Nat → Nat}  : hU (cB σ a f) = hU σ := rfl
theorem K_cB {a : Nat} {f : Nat → Nat} {b : Nat} : hK (cB σ a f) b = hK σ b := rfl
theorem L_cB {a : Nat} {f : Nat → Nat} {b : Nat} : hL (cB σ a f) b = hL σ b := rfl
theorem I_cB {a : Nat} {f : Nat → Nat} {b j : Nat} : hI (cB σ a f) b j = hI σ b j := rfl
theorem R_cB {a : Nat} {f : Nat → Nat} {b j : Nat} : hR (cB σ a f) b j = hR σ b j := rfl
theorem A_cB {a : Nat} {f : Nat → Nat} {b j : Nat} : hA (cB σ a f) b j = hA σ b j := rfl
theorem B_cB {a : Nat} {f : Nat → Nat} {b j : Nat} : hB (cB σ a f) b j = if b = a then f j else hB σ b j := by
  show (u1 (α := Nat → _) _ _ _ b) j = _
  unfold u1
  split <;> rfl
theorem Q_cB {a : Nat} {f : Nat → Nat}  : hQ (cB σ a f) = hQ σ := rfl
end Acc
