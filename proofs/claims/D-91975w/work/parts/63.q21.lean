/-! RATE: the only question that changes an inn -/
abbrev rateOk (w : Nat → Nat) (a b : Int32) : Prop := inOk w a ∧ (0 ≤ b.toInt ∧ b.toInt ≤ 9) ∧ w 8 = 0
def obRateW (w : Nat → Nat) (a b : Int32) : Nat → Nat := if rateOk w a b then fU w (10 + a.toNatClampNeg) b.toNatClampNeg else w
def oRate (w : Nat → Nat) (a b : Int32) : Int32 := if inOk w a ∧ (0 ≤ b.toInt ∧ b.toInt ≤ 9) then (if w 8 = 0 then nI (w (10 + a.toNatClampNeg)) else -5) else -2
theorem m_rate {G : zG} {d : Nat} {w : Nat → Nat} {σ : zS} {a b : Int32} {K : Int32 → zS → Prop} (hw : wM w σ) (hI : obInv w) (h : ∀ σ', wM (obRateW w a b) σ' → zFr [] [] [1] [] σ σ' → K (oRate w a b) σ') : zCallI zcl Zm G (d + 2) mX6_rate [zR 0 0, zI a, zI b] σ K := by
  refine zmeth VX6_ok pX6_rate rfl (by decide) (Nat.le_of_ble_eq_true rfl) (fun AW ha => ?_)
  have hb := hI.b
  have no : ¬ rateOk w a b → K (oRate w a b) σ := fun q => h σ (by unfold obRateW; rw [if_neg q]; exact hw) zFr.refl
  refine sX6_rate_0 ha (m_isInn hw hI ?_)
  rw [i64]
  refine zbr (fun c => ⟨_, rfl, by have n := no (fun q => c q.1); unfold oRate at n; rw [if_neg (fun q => c q.1)] at n; exact n⟩) (fun c => m_in ?_)
  rw [i64]
  refine zbr (c := 0 ≤ b.toInt ∧ b.toInt ≤ 9) (fun c2 => ⟨_, rfl, by have n := no (fun q => c2 q.2.1); unfold oRate at n; rw [if_neg (fun q => c2 q.2)] at n; exact n⟩) (fun c2 => ⟨zin_lit rfl, ?_⟩)
  rw [hw 8 (by decide), ← nI_0]
  refine zltN (by decide) (by omega) (fun c3 => ⟨_, rfl, by have n := no (fun q => absurd q.2.2 (by omega)); unfold oRate at n; rw [if_pos ⟨c, c2⟩, if_neg (by omega)] at n; exact n⟩) (fun c3 => ?_)
  have c3 : w 8 = 0 := by omega
  obtain ⟨e, hl⟩ := okN c
  obtain ⟨e2, hl2⟩ := okN' (a := b) (n := 9) c2
  have e3 : (10 : Int32) + a = nI (10 + a.toNatClampNeg) := by rw [c10, ← nI_add, ← e]
  refine ⟨zix _ e3 (by omega), zix _ e3 (by omega), _, rfl, ?_⟩
  rw [zcl_n _ e3, hw _ (by omega)]
  have h := h (uA σ 1 0 (upd (gA σ 1 0) (10 + a.toNatClampNeg) b)) (by
    unfold obRateW
    rw [if_pos ⟨c, c2, c3⟩]
    exact agr.upd (N := 102) hw e2) (zFr.uA zFr.refl 1 _)
  unfold oRate at h
  rw [if_pos ⟨c, c2⟩, if_pos c3] at h
  exact h
theorem x_noActs {G : zG} {d : Nat} {w : Nat → Nat} {σ : zS} {K : Int32 → zS → Prop} (hw : wX w σ) (hI : obInv w) (h : K (bI (w 8 = 0)) σ) : zCallI zcl Zx G d mJ2_isEmpty [zR 17 0] σ K := by
  refine zmeth VJ2_ok pJ2_isEmpty rfl (by decide) (Nat.le_of_ble_eq_true rfl) (fun AW ha => ?_)
  have hb := hI.b
  refine sJ2_isEmpty_17_0 ha ?_
  rw [hw.2.2.1.2.2, ← nI_0]
  exact zeqN (by omega) (by decide) (fun c => ⟨Or.inr rfl, _, rfl, by rw [bI_t c] at h; exact h⟩) (fun c => ⟨Or.inl rfl, _, rfl, by rw [bI_f c] at h; exact h⟩)
theorem x_rate {G : zG} {d : Nat} {w : Nat → Nat} {σ : zS} {a b : Int32} {K : Int32 → zS → Prop} (hw : wX w σ) (hI : obInv w) (h : ∀ σ', wX (obRateW w a b) σ' → xFr [] [22] σ σ' → K (oRate w a b) σ') : zCallI zcl Zx G (d + 2) mX0_rate [zR 0 0, zI a, zI b] σ K := by
  refine zmeth VX0_ok pX0_rate rfl (by decide) (Nat.le_of_ble_eq_true rfl) (fun AW ha => ?_)
  have hb := hI.b
  have no : ¬ rateOk w a b → K (oRate w a b) σ := fun q => h σ (by unfold obRateW; rw [if_neg q]; exact hw) xFr.refl
  refine sX0_rate_0 ha (x_isInn hw hI (zbr (fun c => ⟨_, rfl, by have n := no (fun q => c q.1); unfold oRate at n; rw [if_neg (fun q => c q.1)] at n; exact n⟩) (fun c => x_in ?_)))
  rw [i64]
  refine zbr (c := 0 ≤ b.toInt ∧ b.toInt ≤ 9) (fun c2 => ⟨_, rfl, by have n := no (fun q => c2 q.2.1); unfold oRate at n; rw [if_neg (fun q => c2 q.2)] at n; exact n⟩) (fun c2 => x_noActs hw hI (zbr (fun c3 => ⟨_, rfl, by have n := no (fun q => c3 q.2.2); unfold oRate at n; rw [if_pos ⟨c, c2⟩, if_neg c3] at n; exact n⟩) (fun c3 => ?_)))
  obtain ⟨e, hl⟩ := okN c
  obtain ⟨e2, hl2⟩ := okN' (a := b) (n := 9) c2
  refine ⟨zix _ e (by omega), zix _ e (by omega), _, rfl, ?_⟩
  rw [zcl_n _ e, hw.2.2.2.1 _ (by omega)]
  have h := h (uA σ 22 0 (upd (gA σ 22 0) a.toNatClampNeg b)) (by
    unfold obRateW
    rw [if_pos ⟨c, c2, c3⟩]
    have far : ∀ j, (j < 10 ∨ 14 ≤ j) → fU w (10 + a.toNatClampNeg) b.toNatClampNeg j = w j := fun j hj => fU_n (by omega)
    obtain ⟨h1, h2, h3, h4, h5, h6, h7⟩ := hw
    refine ⟨?_, ?_, ?_, fun j hj => ?_, fun p hp => ?_, fun i hi => ?_, fun k hk => ?_⟩
    · rw [far 4 (by omega), far 7 (by omega), far 8 (by omega)]; exact h1
    · rw [far 0 (by omega), far 1 (by omega), far 2 (by omega), far 3 (by omega), far 5 (by omega), far 6 (by omega), far 9 (by omega)]; exact h2
    · rw [far 4 (by omega), far 7 (by omega), far 8 (by omega)]; exact h3
    · show upd (gA σ 22 0) a.toNatClampNeg b j = nI (fU w (10 + a.toNatClampNeg) b.toNatClampNeg (10 + j))
      by_cases cj : j = a.toNatClampNeg
      · rw [cj, pk_us, fU_s]; exact e2
      · rw [pk_un cj, fU_n (by omega)]; exact h4 j hj
    · rw [far 4 (by omega)] at hp
      obtain ⟨q1, q2, q3⟩ := h5 p hp
      refine ⟨?_, ?_, fun j hj => ?_⟩
      · unfold obMany; rw [far _ (by omega)]; exact q1
      · unfold obArm; rw [far _ (by omega)]; exact q2
      · unfold obTo; rw [far _ (by omega)]; exact q3 j hj
    · rw [far 7 (by omega)] at hi
      unfold obWp obWh
      rw [far _ (by omega), far _ (by omega)]; exact h6 i hi
    · rw [far 8 (by omega)] at hk
      unfold obAct
      rw [far _ (by omega)]; exact h7 k hk) (xFr.uA xFr.refl 22 _)
  unfold oRate at h
  rw [if_pos ⟨c, c2⟩, if_pos c3] at h
  exact h
theorem rate_inv {w : Nat → Nat} {a b : Int32} (hI : obInv w) : obInv (obRateW w a b) := by
  have hb := hI.b
  unfold obRateW
  by_cases c : rateOk w a b
  · rw [if_pos c]
    obtain ⟨e, hl⟩ := okN c.1
    obtain ⟨e2, hl2⟩ := okN' (a := b) (n := 9) c.2.1
    have far : ∀ j, (j < 10 ∨ 14 ≤ j) → fU w (10 + a.toNatClampNeg) b.toNatClampNeg j = w j := fun j hj => fU_n (by omega)
    obtain ⟨h1, h2, h3, h4, h5, h6, h7, h8, h9⟩ := hI
    unfold obInv obRoom obMany obArm obTo obWp obWh obAct obActOk
    rw [far 0 (by omega), far 1 (by omega), far 2 (by omega), far 3 (by omega), far 4 (by omega), far 5 (by omega), far 6 (by omega), far 7 (by omega), far 8 (by omega), far 9 (by omega)]
    refine ⟨h1, fun i hi => ?_, fun p hp => ?_, fun p k hp hk => ?_, fun i hi => ?_, fun i hi => ?_, fun k hk => ?_, fun q => absurd q ?_, h9⟩
    · by_cases ci : i = a.toNatClampNeg
      · rw [ci, fU_s]; exact hl2
      · rw [fU_n (by omega)]; exact h2 i hi
    · rw [far _ (by omega), far _ (by omega)]; exact h3 p hp
    · rw [far _ (by omega)] at hk
      rw [far _ (by omega)]; exact h4 p k hp hk
    · rw [far _ (by omega)]; exact h5 i hi
    · rw [far _ (by omega)]; exact h6 i hi
    · rw [far _ (by omega)]; exact h7 k hk
    · intro q
      have := h8 q 3 (by decide)
      omega
  · rw [if_neg c]; exact hI
