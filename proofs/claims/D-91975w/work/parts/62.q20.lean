/-! LONGS: quotient, remainder, the common divisor -/
theorem bm64 {x : Int} (h1 : -(2 ^ 63) ≤ x) (h2 : x < 2 ^ 63) : x.bmod (2 ^ 64) = x := Int.bmod_eq_of_le (by omega) (by omega)
theorem abs_tdiv {a b : Int} (hb : 0 < b) : (a.tdiv b).natAbs ≤ a.natAbs := by
  rw [Int.natAbs_tdiv]
  exact Nat.div_le_self _ _
theorem rg64 (a : Int64) : -(2 ^ 63) ≤ a.toInt ∧ a.toInt < 2 ^ 63 := ⟨Int64.le_toInt a, Int64.toInt_lt a⟩
theorem div64 {a b : Int64} (hb : 0 < b.toInt) : (a / b).toInt = a.toInt.tdiv b.toInt := by
  rw [Int64.toInt_div]
  have h := abs_tdiv (a := a.toInt) hb
  have hr := rg64 a
  by_cases c : 0 ≤ a.toInt
  · have := Int.tdiv_nonneg c (Int.le_of_lt hb)
    exact bm64 (by omega) (by omega)
  · exact bm64 (by omega) (by
      have : a.toInt.tdiv b.toInt ≤ 0 := by
        rw [show a.toInt = -(-a.toInt) by omega, Int.neg_tdiv]
        have := Int.tdiv_nonneg (show 0 ≤ -a.toInt by omega) (Int.le_of_lt hb)
        omega
      omega)
theorem rem64 {a b : Int64} (hb : 0 < b.toInt) : (a - a / b * b).toInt = a.toInt.tmod b.toInt := by
  rw [Int64.toInt_sub, Int64.toInt_mul, div64 hb]
  have e := Int.mul_tdiv_add_tmod a.toInt b.toInt
  have hm : (a.toInt.tmod b.toInt).natAbs ≤ a.toInt.natAbs := by
    rw [Int.natAbs_tmod]
    exact Nat.mod_le _ _
  have hq : ((a.toInt.tdiv b.toInt) * b.toInt).natAbs ≤ a.toInt.natAbs := by
    rw [Int.natAbs_mul, Int.natAbs_tdiv]
    exact Nat.div_mul_le_self _ _
  have hr := rg64 a
  have hsgn : (a.toInt.tdiv b.toInt) * b.toInt < 2 ^ 63 := by
    by_cases c : 0 ≤ a.toInt
    · omega
    · have h1 : a.toInt.tdiv b.toInt ≤ 0 := by
        rw [show a.toInt = -(-a.toInt) by omega, Int.neg_tdiv]
        have := Int.tdiv_nonneg (show 0 ≤ -a.toInt by omega) (Int.le_of_lt hb)
        omega
      have := Int.mul_nonpos_of_nonpos_of_nonneg h1 (Int.le_of_lt hb)
      omega
  rw [bm64 (by omega) hsgn]
  rw [Int.mul_comm] at e
  have hm2 : a.toInt.tmod b.toInt < 2 ^ 63 := by
    by_cases c : 0 ≤ a.toInt
    · omega
    · have h9 : a.toInt.tmod b.toInt ≤ 0 := by
        rw [show a.toInt = -(-a.toInt) by omega, Int.neg_tmod]
        have := Int.tmod_nonneg b.toInt (show 0 ≤ -a.toInt by omega)
        omega
      omega
  rw [show a.toInt - a.toInt.tdiv b.toInt * b.toInt = a.toInt.tmod b.toInt by omega]
  exact bm64 (by omega) hm2
