/-! numbers and loops -/
theorem nI_inc (j : Nat) : nI j + Int32.ofInt 1 = nI (j + 1) := nI_1 j
theorem lp_out {j N : Nat} {L : Int32} (hL : L = nI N) (hN : N < 2 ^ 31) (hj : j ≤ N) (c : L ≤ nI j) : j = N := by
  subst hL
  have := (nI_leI hN (by omega)).mp c
  omega
theorem lp_in {j N : Nat} {L : Int32} (hL : L = nI N) (hN : N < 2 ^ 31) (hj : j ≤ N) (c : ¬ L ≤ nI j) : j < N := by
  subst hL
  rcases Nat.lt_or_ge j N with h | h
  · exact h
  · exact absurd (nI_le h (by omega)) c
theorem i_le {a b : Int32} : a ≤ b ↔ a.toInt ≤ b.toInt := Int32.le_iff_toInt_le
theorem i_lt {a b : Int32} : a < b ↔ a.toInt < b.toInt := Int32.lt_iff_toInt_lt
theorem i_eq {a b : Int32} : a = b ↔ a.toInt = b.toInt := ⟨fun h => by rw [h], fun h => Int32.toInt_inj.mp h⟩
theorem i_bd (a : Int32) : -2147483648 ≤ a.toInt ∧ a.toInt < 2147483648 := ⟨Int32.le_toInt a, Int32.toInt_lt a⟩
theorem i_bm {z : Int} (h1 : -2147483648 ≤ z) (h2 : z < 2147483648) : z.bmod (2 ^ 32) = z := by
  rw [Int.bmod_def]
  split <;> omega
theorem i_add {a b : Int32} (h1 : -2147483648 ≤ a.toInt + b.toInt) (h2 : a.toInt + b.toInt < 2147483648) : (a + b).toInt = a.toInt + b.toInt := by
  rw [Int32.toInt_add]; exact i_bm h1 h2
theorem i_sub {a b : Int32} (h1 : -2147483648 ≤ a.toInt - b.toInt) (h2 : a.toInt - b.toInt < 2147483648) : (a - b).toInt = a.toInt - b.toInt := by
  rw [Int32.toInt_sub]; exact i_bm h1 h2
theorem i_mul {a b : Int32} (h1 : -2147483648 ≤ a.toInt * b.toInt) (h2 : a.toInt * b.toInt < 2147483648) : (a * b).toInt = a.toInt * b.toInt := by
  rw [Int32.toInt_mul]; exact i_bm h1 h2
theorem i_nat {a : Int32} (h : 0 ≤ a.toInt) : a = nI a.toNatClampNeg ∧ (a.toNatClampNeg : Int) = a.toInt := by
  obtain ⟨j, h1, h2⟩ := nI_of (x := a) (by rw [i_lt]; simpa using h)
  constructor
  · conv => lhs; rw [h2]
    rw [h2, nI_clamp h1]
  · rw [h2, nI_clamp h1, nI_toInt h1]
