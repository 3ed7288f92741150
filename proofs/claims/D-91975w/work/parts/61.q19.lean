/-! SHARES, CHANCES: factorials, powers -/
def fc : Nat → Nat
  | 0 => 1
  | n + 1 => (n + 1) * fc n
def n64 (n : Nat) : Int64 := Int64.ofNat n
theorem fc64 : ∀ n, n < 9 → (nI (n + 1)).toInt64 * n64 (fc n) = n64 (fc (n + 1)) := by decide +kernel
theorem fcI : ∀ n, n < 9 → (nI (fc n)).toInt64 = n64 (fc n) := by decide +kernel
theorem fc1 : fc 1 = 1 := rfl
theorem x_factorial {G : zG} {d : Nat} {σ : zS} {n : Nat} (hn : n ≤ 8) : ∀ {x : Int32} {K : Int64 → zS → Prop}, x = nI n → K (n64 (fc n)) σ → zCallL zcl Zx G (d + 1 + n) mX0_factorial [zI x] σ K := by
  induction n with
  | zero =>
    intro x K hx h
    refine zmeth VX0_ok pX0_factorial rfl (by decide) (Nat.le_of_ble_eq_true rfl) (fun AW ha => ?_)
    refine sX0_factorial_0 ha ?_
    rw [hx, c2]
    exact zltN (by decide) (by decide) (fun _ => ⟨_, rfl, h⟩) (fun c => absurd c (by decide))
  | succ n ih =>
    intro x K hx h
    refine zmeth VX0_ok pX0_factorial rfl (by decide) (Nat.le_of_ble_eq_true rfl) (fun AW ha => ?_)
    refine sX0_factorial_0 ha ?_
    rw [hx, c2, nI_sub1]
    refine zltN (by omega) (by decide) (fun c => ⟨_, rfl, ?_⟩) (fun c => ih (by omega) rfl ⟨_, rfl, ?_⟩)
    · have : n = 0 := by omega
      subst this; exact h
    · rw [fc64 n (by omega)]; exact h
theorem m_factorial {G : zG} {d : Nat} {σ : zS} {n : Nat} {x : Int32} {K : Int32 → zS → Prop} (hn : n ≤ 8) (hx : x = nI n) (h : K (nI (fc n)) σ) : zCallI zcl Zm G d mX6_factorial [zI x] σ K := by
  refine zmeth VX6_ok pX6_factorial rfl (by decide) (Nat.le_of_ble_eq_true rfl) (fun AW ha => ?_)
  subst hx
  have loop : ∀ r k, k + r = n → 1 ≤ k → AW 4 [some (zI (nI n)), some (zI (nI (fc k))), some (zI (nI (k + 1)))] [] σ := by
    intro r
    induction r with
    | zero =>
      intro k hk h1
      refine sX6_factorial_4 ha (zltN (by omega) (by omega) (fun _ => ⟨_, rfl, ?_⟩) (fun c => absurd c (by omega)))
      rw [show k = n by omega]; exact h
    | succ r ih =>
      intro k hk h1
      refine sX6_factorial_4 ha (zltN (by omega) (by omega) (fun c => absurd c (by omega)) (fun _ => ?_))
      rw [pk_mul, c1, nI_add, Nat.mul_comm]
      exact ih (k + 1) (by omega) (by omega)
  refine sX6_factorial_0 ha ?_
  by_cases h0 : n = 0
  · subst h0
    exact sX6_factorial_4 ha ⟨fun _ => ⟨_, rfl, h⟩, fun c => absurd (show nI 0 < (2 : Int32) by decide) c⟩
  · exact loop (n - 1) 1 (by omega) (Nat.le_refl _)
/-- a power -/
def pw (b : Int64) : Nat → Int64
  | 0 => 1
  | n + 1 => b * pw b n
theorem x_power {G : zG} {d : Nat} {σ : zS} {b : Int64} {n : Nat} (hn : n < 2 ^ 31) : ∀ {x : Int32} {K : Int64 → zS → Prop}, x = nI n → K (pw b n) σ → zCallL zcl Zx G (d + 1 + n) mX0_power [zL b, zI x] σ K := by
  induction n with
  | zero =>
    intro x K hx h
    refine zmeth VX0_ok pX0_power rfl (by decide) (Nat.le_of_ble_eq_true rfl) (fun AW ha => ?_)
    refine sX0_power_0 ha ⟨fun _ => ⟨_, rfl, h⟩, fun c => absurd (hx.trans nI_0) c⟩
  | succ n ih =>
    intro x K hx h
    refine zmeth VX0_ok pX0_power rfl (by decide) (Nat.le_of_ble_eq_true rfl) (fun AW ha => ?_)
    refine sX0_power_0 ha ⟨fun c => absurd ((nI_eq hn (by decide)).mp (hx.symm.trans (c.trans nI_0.symm))) (by omega), fun _ => ?_⟩
    rw [hx, nI_sub1]
    exact ih (by omega) rfl ⟨_, rfl, h⟩
