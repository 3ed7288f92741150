/-! THE COMMON DIVISOR, a part -/
theorem bm_le (v : Int) : (v.bmod (2 ^ 64)).natAbs ≤ v.natAbs := by
  rw [Int.bmod_def]
  split <;> omega
theorem mulA (a b : Int64) : (a * b).toInt.natAbs ≤ a.toInt.natAbs * b.toInt.natAbs := by
  rw [Int64.toInt_mul, ← Int.natAbs_mul]
  exact bm_le _
theorem addA (a b : Int64) : (a + b).toInt.natAbs ≤ a.toInt.natAbs + b.toInt.natAbs := by
  rw [Int64.toInt_add]
  exact Nat.le_trans (bm_le _) (Int.natAbs_add_le _ _)
theorem divG {a b : Int64} (ha : a.toInt.natAbs < 2 ^ 62) : (a / b).toInt = a.toInt.tdiv b.toInt := by
  rw [Int64.toInt_div]
  have h : (a.toInt.tdiv b.toInt).natAbs ≤ a.toInt.natAbs := by
    rw [Int.natAbs_tdiv]
    exact Nat.div_le_self _ _
  exact bm64 (by omega) (by omega)
theorem remG {a b : Int64} (ha : a.toInt.natAbs < 2 ^ 62) : (a - a / b * b).toInt = a.toInt.tmod b.toInt := by
  rw [Int64.toInt_sub, Int64.toInt_mul, divG ha]
  have e := Int.mul_tdiv_add_tmod a.toInt b.toInt
  have hm : (a.toInt.tmod b.toInt).natAbs ≤ a.toInt.natAbs := by
    rw [Int.natAbs_tmod]
    exact Nat.mod_le _ _
  have hq : ((a.toInt.tdiv b.toInt) * b.toInt).natAbs ≤ a.toInt.natAbs := by
    rw [Int.natAbs_mul, Int.natAbs_tdiv]
    exact Nat.div_mul_le_self _ _
  rw [bm64 (x := a.toInt.tdiv b.toInt * b.toInt) (by omega) (by omega)]
  rw [Int.mul_comm] at e
  rw [show a.toInt - a.toInt.tdiv b.toInt * b.toInt = a.toInt.tmod b.toInt by omega]
  exact bm64 (by omega) (by omega)
theorem remA {a b : Int64} (ha : a.toInt.natAbs < 2 ^ 62) : (a - a / b * b).toInt.natAbs = a.toInt.natAbs % b.toInt.natAbs := by
  rw [remG ha, Int.natAbs_tmod]
def gcL (a b : Int64) : Int64 := Int64.ofNat (Nat.gcd a.toInt.natAbs b.toInt.natAbs)
theorem gcL_step {a b : Int64} (ha : a.toInt.natAbs < 2 ^ 62) : gcL b (a - a / b * b) = gcL a b := by
  unfold gcL
  rw [remA ha, Nat.gcd_comm a.toInt.natAbs, Nat.gcd_comm b.toInt.natAbs, ← Nat.gcd_rec]
theorem gcL_t {a b : Int64} (hb : b.toInt ≠ 0) (hb2 : b.toInt.natAbs < 2 ^ 62) : (gcL a b).toInt ≠ 0 := by
  have h1 : Nat.gcd a.toInt.natAbs b.toInt.natAbs ≤ b.toInt.natAbs := Nat.gcd_le_right _ (by omega)
  have h2 : 0 < Nat.gcd a.toInt.natAbs b.toInt.natAbs := Nat.gcd_pos_of_pos_right _ (by omega)
  unfold gcL
  rw [Int64.toInt_ofNat_of_lt (by omega)]
  omega
theorem z64 {b : Int64} : b.toInt = 0 ↔ b = 0 := ⟨fun h => Int64.toInt_inj.mp (by rw [h]; rfl), fun h => by rw [h]; rfl⟩
theorem gcL_0 {a b : Int64} (ha : a.toInt.natAbs < 2 ^ 62) (hb : b.toInt = 0) : (lg_cmp a 0 < 0 → -a = gcL a b) ∧ (¬ lg_cmp a 0 < 0 → a = gcL a b) := by
  rw [lc_lt]
  have e0 : (0 : Int64).toInt = 0 := rfl
  have e : (gcL a b).toInt = a.toInt.natAbs := by
    unfold gcL
    rw [hb, Int.natAbs_zero, Nat.gcd_zero_right, Int64.toInt_ofNat_of_lt (by omega)]
  refine ⟨fun h => Int64.toInt_inj.mp ?_, fun h => Int64.toInt_inj.mp ?_⟩
  · rw [e, Int64.toInt_neg, bm64 (by omega) (by omega)]; omega
  · rw [e]; omega
theorem zJ3a {Z : zZ} {G : zG} {d : Nat} {Q : Option zV → zS → Prop} {AW : zAW} (ha : zClo zcl VJ3 (some .long) gJ3_abs Z G d Q AW) {a0 : Int64} {σ : zS} (h : (((lg_cmp a0 (0 : Int64)) < 0 → Q (some (zL (-a0))) σ) ∧ (¬ (lg_cmp a0 (0 : Int64)) < 0 → Q (some (zL a0)) σ))) : AW 0 [some (zL a0), none] [] σ := zseg_ok ha [] 10 h
theorem pfJ3a : plainFor mJ3_abs.1 = true := by decide +kernel
theorem z_abs {Z : zZ} {G : zG} {d : Nat} {a b : Int64} {σ : zS} {K : Int64 → zS → Prop} (ha : a.toInt.natAbs < 2 ^ 62) (hb : b.toInt = 0) (h : K (gcL a b) σ) : zCallL zcl Z G d mJ3_abs [zL a] σ K := by
  refine zmethF VJ3_ok pJ3_abs rfl pfJ3a (Nat.le_of_ble_eq_true rfl) (fun AW hA => ?_)
  have e := gcL_0 ha hb
  exact zJ3a hA ⟨fun c => ⟨_, rfl, by rw [e.1 c]; exact h⟩, fun c => ⟨_, rfl, by rw [e.2 c]; exact h⟩⟩
theorem x_common1 {G : zG} {d : Nat} {a b : Int64} {σ : zS} {K : Int64 → zS → Prop} (ha : a.toInt.natAbs < 2 ^ 62) (h0 : b.toInt = 0 → K (gcL a b) σ) (h1 : b.toInt ≠ 0 → zCallL zcl Zx G d mX0_common [zL b, zL (a - a / b * b)] σ K) : zCallL zcl Zx G (d + 1) mX0_common [zL a, zL b] σ K := by
  refine zmeth VX0_ok pX0_common rfl (by decide) (Nat.le_of_ble_eq_true rfl) (fun AW hA => ?_)
  refine sX0_common_0 hA ?_
  rw [lc_eq]
  refine ⟨fun c => z_abs (b := b) ha (z64.mpr c) ⟨_, rfl, h0 (z64.mpr c)⟩, fun c => ⟨c, zmono (h1 (fun q => c (z64.mp q))) (fun r σ1 q => ?_)⟩⟩
  obtain ⟨x, e, q⟩ := q
  exact ⟨x, e, _, rfl, q⟩
theorem half_mod {m r : Nat} (h1 : r ≤ m) (h0 : 0 < r) : 2 * (m % r) < m := by
  have h2 := Nat.mod_lt m h0
  have h3 := Nat.div_add_mod m r
  have h4 : 1 ≤ m / r := (Nat.le_div_iff_mul_le h0).mpr (by omega)
  have h5 : r * 1 ≤ r * (m / r) := Nat.mul_le_mul_left r h4
  omega
theorem x_common {G : zG} {σ : zS} {K : Int64 → zS → Prop} : ∀ (n : Nat) {d : Nat} {a b : Int64}, a.toInt.natAbs < 2 ^ 62 → b.toInt.natAbs < 2 ^ 62 → b.toInt.natAbs < 2 ^ n → K (gcL a b) σ → zCallL zcl Zx G (d + 2 * n + 1) mX0_common [zL a, zL b] σ K := by
  intro n
  induction n with
  | zero =>
    intro d a b ha hb hn h
    exact x_common1 ha (fun _ => h) (fun q => absurd hn (by simp; omega))
  | succ n ih =>
    intro d a b ha hb hn h
    refine x_common1 (d := d + 2 * n + 1 + 1) ha (fun _ => h) (fun hb0 => ?_)
    have e1 := remA (b := b) ha
    have l1 : a.toInt.natAbs % b.toInt.natAbs < b.toInt.natAbs := Nat.mod_lt _ (by omega)
    refine x_common1 hb (fun _ => by rw [gcL_step ha]; exact h) (fun hr0 => ?_)
    have e2 := remA (a := b) (b := a - a / b * b) hb
    have l2 := half_mod (m := b.toInt.natAbs) (r := (a - a / b * b).toInt.natAbs) (by omega) (by omega)
    have hp : 2 ^ (n + 1) = 2 * 2 ^ n := by rw [Nat.pow_succ]; omega
    refine ih (by omega) (by omega) (by omega) ?_
    rw [gcL_step hb, gcL_step ha]; exact h
theorem m_divisor {G : zG} {d : Nat} {a b : Int64} {σ : zS} {K : Int64 → zS → Prop} (ha : a.toInt.natAbs < 2 ^ 62) (hb0 : 0 ≤ b.toInt) (hb : b.toInt.natAbs < 2 ^ 62) (h : K (gcL a b) σ) : zCallL zcl Zm G (d + 1) mX6_divisor [zL a, zL b] σ K := by
  refine zmeth VX6_ok pX6_divisor rfl (by decide) (Nat.le_of_ble_eq_true rfl) (fun AW hA => ?_)
  have loop : ∀ (n : Nat) (x y : Int64) (o8 o9 : Option zV), x.toInt.natAbs < 2 ^ 62 → y.toInt.natAbs < 2 ^ 62 → 0 ≤ x.toInt → 0 ≤ y.toInt → y.toInt.natAbs ≤ n → K (gcL x y) σ → AW 9 [some (zL a), none, some (zL b), none, some (zL x), none, some (zL y), none, o8, o9] [] σ := by
    intro n
    induction n with
    | zero =>
      intro x y o8 o9 hx hy hx0 hy0 hn h
      refine sX6_divisor_9 hA ?_
      rw [lc_eq]
      have y0 : y.toInt = 0 := by omega
      refine ⟨fun c => ⟨_, rfl, ?_⟩, fun c => absurd (z64.mp y0) c⟩
      have e := (gcL_0 hx y0).2 (by rw [lc_lt]; have e0 : (0 : Int64).toInt = 0 := rfl; omega)
      rw [e]; exact h
    | succ n ih =>
      intro x y o8 o9 hx hy hx0 hy0 hn h
      refine sX6_divisor_9 hA ?_
      rw [lc_eq]
      refine ⟨fun c => ⟨_, rfl, ?_⟩, fun c => ⟨c, ih _ _ _ _ hy ?_ hy0 ?_ ?_ (by rw [gcL_step hx]; exact h)⟩⟩
      · have e := (gcL_0 hx (z64.mpr c)).2 (by rw [lc_lt]; have e0 : (0 : Int64).toInt = 0 := rfl; omega)
        rw [e]; exact h
      · rw [remA hx]; exact Nat.lt_of_le_of_lt (Nat.mod_le _ _) hx
      · rw [remG hx]; exact Int.tmod_nonneg _ hx0
      · rw [remA hx]
        have := Nat.mod_lt x.toInt.natAbs (show 0 < y.toInt.natAbs by have : y.toInt ≠ 0 := fun q => c (z64.mp q); omega)
        omega
  refine sX6_divisor_0 hA (z_abs (b := 0) ha rfl ?_)
  have e0 : (0 : Int64).toInt = 0 := rfl
  have eg : (gcL a 0).toInt = a.toInt.natAbs := by
    unfold gcL
    rw [e0, Int.natAbs_zero, Nat.gcd_zero_right, Int64.toInt_ofNat_of_lt (by omega)]
  refine loop b.toInt.natAbs _ _ _ _ (by rw [eg]; omega) hb (by rw [eg]; omega) hb0 (Nat.le_refl _) ?_
  have : gcL (gcL a 0) b = gcL a b := by unfold gcL at eg ⊢; rw [eg]; rfl
  rw [this]; exact h
def ptL (a b : Int64) (v : Int32) : Int64 := if v = 0 then a / gcL a b else b / gcL a b
theorem m_part {G : zG} {d : Nat} {a b : Int64} {v : Int32} {σ : zS} {K : Int64 → zS → Prop} (ha : a.toInt.natAbs < 2 ^ 62) (hb0 : 0 < b.toInt) (hb : b.toInt.natAbs < 2 ^ 62) (h : K (ptL a b v) σ) : zCallL zcl Zm G (d + 2) mX6_part [zL a, zL b, zI v] σ K := by
  refine zmeth VX6_ok pX6_part rfl (by decide) (Nat.le_of_ble_eq_true rfl) (fun AW hA => ?_)
  have g0 : ¬ gcL a b = 0 := fun q => gcL_t (a := a) (b := b) (by omega) hb (z64.mpr q)
  unfold ptL at h
  exact sX6_part_0 hA ⟨fun c => m_divisor ha (by omega) hb ⟨g0, _, rfl, by rw [if_pos c] at h; exact h⟩, fun c => m_divisor ha (by omega) hb ⟨g0, _, rfl, by rw [if_neg c] at h; exact h⟩⟩
theorem x_part {G : zG} {d : Nat} {a b : Int64} {v : Int32} {σ : zS} {K : Int64 → zS → Prop} (ha : a.toInt.natAbs < 2 ^ 62) (hb0 : 0 < b.toInt) (hb : b.toInt.natAbs < 2 ^ 62) (h : K (ptL a b v) σ) : zCallL zcl Zx G (d + 126) mX0_part [zL a, zL b, zI v] σ K := by
  refine zmeth VX0_ok pX0_part rfl (by decide) (Nat.le_of_ble_eq_true rfl) (fun AW hA => ?_)
  have g0 : ¬ gcL a b = 0 := fun q => gcL_t (a := a) (b := b) (by omega) hb (z64.mpr q)
  unfold ptL at h
  exact sX0_part_0 hA ⟨fun c => x_common 62 ha hb hb ⟨g0, _, rfl, by rw [if_pos c] at h; exact h⟩, fun c => x_common 62 ha hb hb ⟨g0, _, rfl, by rw [if_neg c] at h; exact h⟩⟩
theorem x_factD {G : zG} {D n : Nat} {σ : zS} {x : Int32} {K : Int64 → zS → Prop} (hD : n < D) (hn : n ≤ 8) (hx : x = nI n) (h : K (n64 (fc n)) σ) : zCallL zcl Zx G D mX0_factorial [zI x] σ K := by
  have := x_factorial (G := G) (d := D - 1 - n) (σ := σ) hn hx h
  rwa [show D - 1 - n + 1 + n = D by omega] at this
theorem x_powD {G : zG} {D n : Nat} {σ : zS} {b : Int64} {x : Int32} {K : Int64 → zS → Prop} (hD : n < D) (hn : n < 2 ^ 31) (hx : x = nI n) (h : K (pw b n) σ) : zCallL zcl Zx G D mX0_power [zL b, zI x] σ K := by
  have := x_power (G := G) (d := D - 1 - n) (σ := σ) hn hx h
  rwa [show D - 1 - n + 1 + n = D by omega] at this
theorem n64_add (a b : Nat) : n64 a + n64 b = n64 (a + b) := (Int64.ofNat_add a b).symm
theorem n64_mul (a b : Nat) : n64 a * n64 b = n64 (a * b) := (Int64.ofNat_mul a b).symm
theorem pw_n (b : Nat) : ∀ n, pw (n64 b) n = n64 (b ^ n) := by
  intro n
  induction n with
  | zero => rfl
  | succ n ih => rw [pw, ih, n64_mul, Nat.pow_succ, Nat.mul_comm]
