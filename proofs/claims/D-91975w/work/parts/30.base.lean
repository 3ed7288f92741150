/-! SMALL PURE ROWS for the contracts -/
theorem zin_lit {j : Int32} {N : Nat} (h : decide (¬ (j < 0 ∨ N ≤ j.toNatClampNeg)) = true) : vp_in j N := by unfold vp_in; exact of_decide_eq_true h
def bI (c : Prop) [Decidable c] : Int32 := if c then 1 else 0
theorem bI_t {c : Prop} [Decidable c] (h : c) : bI c = 1 := if_pos h
theorem bI_f {c : Prop} [Decidable c] (h : ¬ c) : bI c = 0 := if_neg h
theorem bI_01 (c : Prop) [Decidable c] : bI c = 0 ∨ bI c = 1 := by
  by_cases h : c
  · exact Or.inr (bI_t h)
  · exact Or.inl (bI_f h)
theorem bI_0 {c : Prop} [Decidable c] : bI c = 0 ↔ ¬ c := by
  by_cases h : c
  · rw [bI_t h]; exact ⟨fun q => absurd q (by decide), fun q => absurd h q⟩
  · rw [bI_f h]; exact ⟨fun _ => h, fun _ => rfl⟩
theorem bI_c {a b : Prop} [Decidable a] [Decidable b] (h : a ↔ b) : bI a = bI b := by
  by_cases q : a
  · rw [bI_t q, bI_t (h.mp q)]
  · rw [bI_f q, bI_f (fun z => q (h.mpr z))]
/-- a branch on a truth value -/
theorem zbr {c A B : Prop} [Decidable c] (h1 : ¬ c → A) (h2 : c → B) : (bI c = 0 → A) ∧ (¬ bI c = 0 → B) := by
  rw [bI_0]
  exact ⟨h1, fun q => h2 (Classical.not_not.mp q)⟩
theorem zlt {x y : Int32} {a b : Int} {A B : Prop} (hx : x.toInt = a) (hy : y.toInt = b) (h1 : a < b → A) (h2 : b ≤ a → B) : (x < y → A) ∧ (¬ x < y → B) := by
  rw [Int32.lt_iff_toInt_lt, hx, hy]
  exact ⟨h1, fun q => h2 (by omega)⟩
theorem zltN {a b : Nat} {A B : Prop} (ha : a < 2 ^ 31) (hb : b < 2 ^ 31) (h1 : a < b → A) (h2 : b ≤ a → B) : (nI a < nI b → A) ∧ (¬ nI a < nI b → B) := by
  rw [nI_ltI ha hb]
  exact ⟨h1, fun q => h2 (by omega)⟩
theorem zeqN {a b : Nat} {A B : Prop} (ha : a < 2 ^ 31) (hb : b < 2 ^ 31) (h1 : a = b → A) (h2 : a ≠ b → B) : (nI a = nI b → A) ∧ (¬ nI a = nI b → B) := by
  rw [nI_eq ha hb]
  exact ⟨h1, h2⟩
theorem zl_lit (n : Nat) (h : n < 2 ^ 31) : (lN n).toInt = n := lN_toInt h
theorem i64 (x : Int32) : x.toInt64.toInt = x.toInt := Int32.toInt_toInt64 x
theorem lc_lt {x y : Int64} : lg_cmp x y < 0 ↔ x.toInt < y.toInt := by
  unfold lg_cmp
  simp only [gt_iff_lt, Int64.lt_iff_toInt_lt, ← Int64.toInt_inj]
  by_cases h1 : y.toInt < x.toInt
  · rw [if_pos h1]
    exact ⟨fun q => absurd q (by decide), fun q => absurd q (by omega)⟩
  · rw [if_neg h1]
    by_cases h2 : x.toInt = y.toInt
    · rw [if_pos h2]
      exact ⟨fun q => absurd q (by decide), fun q => absurd q (by omega)⟩
    · rw [if_neg h2]
      exact ⟨fun _ => by omega, fun _ => by decide⟩
theorem lc_gt {x y : Int64} : 0 < lg_cmp x y ↔ y.toInt < x.toInt := by
  unfold lg_cmp
  simp only [gt_iff_lt, Int64.lt_iff_toInt_lt, ← Int64.toInt_inj]
  by_cases h1 : y.toInt < x.toInt
  · rw [if_pos h1]
    exact ⟨fun _ => h1, fun q => by decide⟩
  · rw [if_neg h1]
    by_cases h2 : x.toInt = y.toInt
    · rw [if_pos h2]
      exact ⟨fun q => absurd q (by decide), fun q => absurd q (by omega)⟩
    · rw [if_neg h2]
      exact ⟨fun q => absurd q (by decide), fun q => absurd q (by omega)⟩
theorem lc_eq {x y : Int64} : lg_cmp x y = 0 ↔ x = y := by
  unfold lg_cmp
  by_cases h1 : x > y
  · rw [if_pos h1]
    refine ⟨fun q => absurd q (by decide), fun q => ?_⟩
    rw [q, gt_iff_lt, Int64.lt_iff_toInt_lt] at h1
    omega
  · rw [if_neg h1]
    by_cases h2 : x = y
    · rw [if_pos h2]; exact ⟨fun _ => h2, fun _ => rfl⟩
    · rw [if_neg h2]; exact ⟨fun q => absurd q (by decide), fun q => absurd q h2⟩
/-- a place in an array -/
theorem zix {x : Int32} {N : Nat} (n : Nat) (hx : x = nI n) (h : n < N) (hN : N < 2 ^ 31 := by decide) : vp_in x N := by rw [hx]; exact vp_in_nI h hN
theorem zcl_n {x : Int32} (n : Nat) (hx : x = nI n) (h : n < 2 ^ 31 := by omega) : x.toNatClampNeg = n := by rw [hx]; exact nI_clamp h
theorem zmono {cl : List vw_C} {Z : zZ} {G : zG} {d : Nat} {mm : zM} {as : List zV} {σ : zS} {P Q : Option zV → zS → Prop} (h : zCall cl Z G d mm as σ P) (hPQ : ∀ r σ1, P r σ1 → Q r σ1) : zCall cl Z G d mm as σ Q := by
  intro l sz
  refine MetFree.mono (h l sz) (fun _ _ q => q) (fun _ _ _ _ _ q => q) (fun a s o t _ hq => ⟨?_, hq.2⟩)
  obtain ⟨⟨r, σ', e1, e2, e3, e4⟩, e5⟩ := hq.1
  exact ⟨⟨r, σ', e1, e2, e3, hPQ r σ' e4⟩, e5⟩
