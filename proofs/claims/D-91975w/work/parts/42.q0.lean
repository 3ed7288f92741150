/-! QUESTIONS: what both sides need -/
theorem okN {a : Int32} {n : Nat} (h : 0 ≤ a.toInt ∧ a.toInt < n) (hn : n ≤ 2 ^ 31 := by omega) : a = nI a.toNatClampNeg ∧ a.toNatClampNeg < n := by
  have e : a.toNatClampNeg = a.toInt.toNat := rfl
  refine ⟨Int32.toInt_inj.mp ?_, by omega⟩
  rw [nI_toInt (by omega)]
  omega
theorem okN' {a : Int32} {n : Nat} (h : 0 ≤ a.toInt ∧ a.toInt ≤ n) (hn : n < 2 ^ 31 := by omega) : a = nI a.toNatClampNeg ∧ a.toNatClampNeg ≤ n := by
  have := okN (a := a) (n := n + 1) (by omega) (by omega)
  exact ⟨this.1, by omega⟩
theorem zneg {x : Int32} {A B : Prop} (h1 : x.toInt < 0 → A) (h2 : 0 ≤ x.toInt → B) : (x < 0 → A) ∧ (¬ x < 0 → B) := by
  rw [Int32.lt_iff_toInt_lt, Int32.toInt_zero]
  exact ⟨h1, fun q => h2 (by omega)⟩
abbrev mSI : List Nat := [17, 18, 19, 30, 32]
abbrev mSL : List Nat := [34, 35, 36]
abbrev mSA : List Nat := [15, 16, 20, 21, 22, 23, 24, 25, 26, 27, 28, 29, 31, 33]
/-- only the twin's scratch changes; the component's -/
def mSc (σ σ' : zS) : Prop := zFr mSI mSL mSA [] σ σ'
def xSc (σ σ' : zS) : Prop := xFr xScr xArr σ σ'
theorem mSc.refl {σ : zS} : mSc σ σ := zFr.refl
theorem xSc.refl {σ : zS} : xSc σ σ := xFr.refl
theorem wM.sc {w : Nat → Nat} {σ σ' : zS} (h : wM w σ) (hf : mSc σ σ') : wM w σ' := h.fr hf
theorem wX.sc {w : Nat → Nat} {σ σ' : zS} (h : wX w σ) (hf : xSc σ σ') : wX w σ' := h.fr hf
abbrev pl (w : Nat → Nat) (P : obP) (t i : Nat) : Option Nat := (obAt w P t).2.1 i
theorem pl_lt {w : Nat → Nat} {P : obP} (hI : obInv w) (hP : obPok w P) {t i p : Nat} (h : pl w P t i = some p) : p < w 4 ∨ (10 ≤ p ∧ p < 10 + w 3) := (obAt_ok hI hP t).2.1 i p h
/-- inside an inn; on a post -/
def plIn (q : Option Nat) : Bool := match q with
  | none => false
  | some p => decide (10 ≤ p)
def plOut (q : Option Nat) : Bool := match q with
  | none => false
  | some p => decide (p < 10)
theorem zpl10 {q : Option Nat} {A B : Prop} (hq : ∀ p, q = some p → p < 2 ^ 31) (h1 : plIn q = false → A) (h2 : plIn q = true → B) : (pI q < (10 : Int32) → A) ∧ (¬ pI q < (10 : Int32) → B) := by
  cases q with
  | none => exact ⟨fun _ => h1 rfl, fun c => absurd (show pI none < 10 by decide) c⟩
  | some p =>
    show (nI p < 10 → A) ∧ (¬ nI p < 10 → B)
    rw [c10]
    have := hq p rfl
    exact zltN (by omega) (by decide) (fun c => h1 (by simp [plIn]; omega)) (fun c => h2 (by simp [plIn]; omega))
theorem pI_inj {p q : Option Nat} (hp : ∀ x, p = some x → x < 2 ^ 31) (hq : ∀ x, q = some x → x < 2 ^ 31) : pI p = pI q ↔ p = q := by
  constructor
  · intro h
    cases p with
    | none =>
      cases q with
      | none => rfl
      | some y => exact absurd h.symm (pI_ne (hq y rfl))
    | some x =>
      cases q with
      | none => exact absurd h (pI_ne (hp x rfl))
      | some y => rw [(nI_eq (hp x rfl) (hq y rfl)).mp h]
  · intro h; rw [h]
theorem pl31 {w : Nat → Nat} {P : obP} (hI : obInv w) (hP : obPok w P) {t i : Nat} : ∀ p, pl w P t i = some p → p < 2 ^ 31 := by
  intro p h
  have := pl_lt hI hP h
  have := hI.b
  omega
/-! the twin's beginnings -/
theorem m_asksHour {G : zG} {d : Nat} {w : Nat → Nat} {σ : zS} {t : Int32} {K : Int32 → zS → Prop} (hw : wM w σ) (hI : obInv w) (h : ∀ σ', mRan w (obAs w) σ' → mPar (obAs w) σ' → mSc σ σ' → K (bI (0 < w 9 ∧ 0 ≤ t.toInt ∧ t.toInt ≤ w 0)) σ') : zCallI zcl Zm G (d + 7) mX6_asksHour [zR 0 0, zI t] σ K := by
  refine zmeth VX6_ok pX6_asksHour rfl (by decide) (Nat.le_of_ble_eq_true rfl) (fun AW ha => ?_)
  refine sX6_asksHour_0 ha (m_asksHeath hw hI (fun σ1 r1 p1 f1 => m_isHour (hw.fr f1) hI ⟨bI_01 _, _, rfl, ?_⟩))
  rw [i64]; exact h σ1 r1 p1 f1.wk
theorem m_asksWalker {G : zG} {d : Nat} {w : Nat → Nat} {σ : zS} {t : Int32} {K : Int32 → zS → Prop} (hw : wM w σ) (hI : obInv w) (h : ∀ σ', mRan w (obAs w) σ' → mPar (obAs w) σ' → mSc σ σ' → K (bI (0 ≤ t.toInt ∧ t.toInt < w 7)) σ') : zCallI zcl Zm G (d + 7) mX6_asksWalker [zR 0 0, zI t] σ K := by
  refine zmeth VX6_ok pX6_asksWalker rfl (by decide) (Nat.le_of_ble_eq_true rfl) (fun AW ha => ?_)
  refine sX6_asksWalker_0 ha (m_asksHeath hw hI (fun σ1 r1 p1 f1 => m_isWalker (hw.fr f1) hI ⟨bI_01 _, _, rfl, ?_⟩))
  rw [i64]; exact h σ1 r1 p1 f1.wk
theorem m_asksPost {G : zG} {d : Nat} {w : Nat → Nat} {σ : zS} {t : Int32} {K : Int32 → zS → Prop} (hw : wM w σ) (hI : obInv w) (h : ∀ σ', mRan w (obAs w) σ' → mPar (obAs w) σ' → mSc σ σ' → K (bI (0 ≤ t.toInt ∧ t.toInt < w 4)) σ') : zCallI zcl Zm G (d + 7) mX6_asksPost [zR 0 0, zI t] σ K := by
  refine zmeth VX6_ok pX6_asksPost rfl (by decide) (Nat.le_of_ble_eq_true rfl) (fun AW ha => ?_)
  refine sX6_asksPost_0 ha (m_asksHeath hw hI (fun σ1 r1 p1 f1 => m_isPost (hw.fr f1) hI ⟨bI_01 _, _, rfl, ?_⟩))
  rw [i64]; exact h σ1 r1 p1 f1.wk
theorem m_placeOf {G : zG} {d : Nat} {w : Nat → Nat} {P : obP} {σ : zS} {i t : Nat} {x y : Int32} {K : Int32 → zS → Prop} (hI : obInv w) (hr : mRan w P σ) (hx : x = nI i) (hy : y = nI t) (hi : i < w 7) (ht : t ≤ w 0) (h : K (pI (pl w P t i)) σ) : zCallI zcl Zm G d mX6_placeOf [zR 0 0, zI x, zI y] σ K := by
  refine zmeth VX6_ok pX6_placeOf rfl (by decide) (Nat.le_of_ble_eq_true rfl) (fun AW ha => ?_)
  have hb := hI.b
  have e : (8 : Int32) * y + x = nI (8 * t + i) := by rw [hx, hy, c8, pk_mul, nI_add]
  refine sX6_placeOf_0 ha ⟨zix _ e (by omega), _, rfl, ?_⟩
  rw [zcl_n _ e, (hr.1 t (by omega)).1 i hi]; exact h
theorem m_isInside {G : zG} {d : Nat} {w : Nat → Nat} {P : obP} {σ : zS} {i t : Nat} {x y : Int32} {K : Int32 → zS → Prop} (hI : obInv w) (hPo : obPok w P) (hr : mRan w P σ) (hx : x = nI i) (hy : y = nI t) (hi : i < w 7) (ht : t ≤ w 0) (h : K (bI (plIn (pl w P t i) = true)) σ) : zCallI zcl Zm G (d + 1) mX6_isInside [zR 0 0, zI x, zI y] σ K := by
  refine zmeth VX6_ok pX6_isInside rfl (by decide) (Nat.le_of_ble_eq_true rfl) (fun AW ha => ?_)
  refine sX6_isInside_0 ha (m_placeOf hI hr hx hy hi ht (zpl10 (pl31 hI hPo) (fun c => ⟨Or.inl rfl, _, rfl, ?_⟩) (fun c => ⟨Or.inr rfl, _, rfl, ?_⟩)))
  · rw [bI_f (by rw [c]; decide)] at h; exact h
  · rw [bI_t c] at h; exact h
/-! the component's beginnings -/
theorem x_isInn {G : zG} {d : Nat} {w : Nat → Nat} {σ : zS} {a : Int32} {K : Int32 → zS → Prop} (hw : wX w σ) (hI : obInv w) (h : K (bI (0 ≤ a.toInt ∧ a.toInt < w 3)) σ) : zCallI zcl Zx G (d + 1) mX0_isInn [zR 0 0, zI a] σ K := by
  refine zmeth VX0_ok pX0_isInn rfl (by decide) (Nat.le_of_ble_eq_true rfl) (fun AW ha => ?_)
  have := hI.b
  refine sX0_isInn_0 ha (x_in ⟨bI_01 _, _, rfl, ?_⟩)
  rw [bI_c (b := 0 ≤ a.toInt ∧ a.toInt < w 3) (by rw [hw.2.1.2.2.2.1, i64, i64, toI_1 (by omega)]; show (0 : Int) ≤ _ ∧ _ ↔ _; omega)]
  exact h
theorem x_isPost {G : zG} {d : Nat} {w : Nat → Nat} {σ : zS} {a : Int32} {K : Int32 → zS → Prop} (hw : wX w σ) (hI : obInv w) (h : K (bI (0 ≤ a.toInt ∧ a.toInt < w 4)) σ) : zCallI zcl Zx G (d + 2) mX0_isPost [zR 0 0, zI a] σ K := by
  refine zmeth VX0_ok pX0_isPost rfl (by decide) (Nat.le_of_ble_eq_true rfl) (fun AW ha => ?_)
  have := hI.b
  refine sX0_isPost_0 ha (x_posts hw (x_in ⟨bI_01 _, _, rfl, ?_⟩))
  rw [bI_c (b := 0 ≤ a.toInt ∧ a.toInt < w 4) (by rw [i64, i64, toI_1 (by omega)]; show (0 : Int) ≤ _ ∧ _ ↔ _; omega)]
  exact h
theorem x_isWalker {G : zG} {d : Nat} {w : Nat → Nat} {σ : zS} {a : Int64} {K : Int32 → zS → Prop} (hw : wX w σ) (hI : obInv w) (h : K (bI (0 ≤ a.toInt ∧ a.toInt < w 7)) σ) : zCallI zcl Zx G (d + 2) mX0_isWalker [zR 0 0, zL a] σ K := by
  refine zmeth VX0_ok pX0_isWalker rfl (by decide) (Nat.le_of_ble_eq_true rfl) (fun AW ha => ?_)
  have := hI.b
  refine sX0_isWalker_0 ha (x_many hw (x_in ⟨bI_01 _, _, rfl, ?_⟩))
  rw [bI_c (b := 0 ≤ a.toInt ∧ a.toInt < w 7) (by rw [i64, toI_1 (by omega)]; show (0 : Int) ≤ _ ∧ _ ↔ _; omega)]
  exact h
theorem x_isAhead {G : zG} {d : Nat} {w : Nat → Nat} {σ : zS} {a : Int32} {K : Int32 → zS → Prop} (hw : wX w σ) (hI : obInv w) (h : K (bI (0 ≤ a.toInt ∧ a.toInt < w 0)) σ) : zCallI zcl Zx G (d + 1) mX0_isAhead [zR 0 0, zI a] σ K := by
  refine zmeth VX0_ok pX0_isAhead rfl (by decide) (Nat.le_of_ble_eq_true rfl) (fun AW ha => ?_)
  have := hI.b
  refine sX0_isAhead_0 ha (x_in ⟨bI_01 _, _, rfl, ?_⟩)
  rw [bI_c (b := 0 ≤ a.toInt ∧ a.toInt < w 0) (by rw [hw.2.1.1, i64, i64, toI_1 (by omega)]; show (0 : Int) ≤ _ ∧ _ ↔ _; omega)]
  exact h
theorem x_isHeath {G : zG} {d : Nat} {w : Nat → Nat} {σ : zS} {K : Int32 → zS → Prop} (hw : wX w σ) (hI : obInv w) (h : K (bI (0 < w 9)) σ) : zCallI zcl Zx G d mX2_is [zR 1 0] σ K := by
  refine zmeth VX2_ok pX2_is rfl (by decide) (Nat.le_of_ble_eq_true rfl) (fun AW ha => ?_)
  have := hI.b
  refine sX2_is_0 ha ?_
  rw [hw.2.1.2.2.2.2.2.2, ← nI_0]
  refine zltN (by decide) (by omega) (fun c => ⟨Or.inr rfl, _, rfl, ?_⟩) (fun c => ⟨Or.inl rfl, _, rfl, ?_⟩)
  · rw [bI_t (by omega)] at h; exact h
  · rw [bI_f (by omega)] at h; exact h
theorem x_isHour {G : zG} {d : Nat} {w : Nat → Nat} {σ : zS} {t : Int64} {K : Int32 → zS → Prop} (hw : wX w σ) (hI : obInv w) (h : K (bI (0 < w 9 ∧ 0 ≤ t.toInt ∧ t.toInt ≤ w 0)) σ) : zCallI zcl Zx G (d + 1) mX0_isHour [zR 0 0, zL t] σ K := by
  refine zmeth VX0_ok pX0_isHour rfl (by decide) (Nat.le_of_ble_eq_true rfl) (fun AW ha => ?_)
  have := hI.b
  refine sX0_isHour_0 ha (x_isHeath hw hI (zbr (fun c => ⟨Or.inl rfl, _, rfl, ?_⟩) (fun c => x_in ?_)))
  · rw [bI_f (fun q => c q.1)] at h; exact h
  · rw [hw.2.1.1, i64, nI_toInt (by omega)]
    refine zbr (fun c2 => ⟨Or.inl rfl, _, rfl, ?_⟩) (fun c2 => ⟨Or.inr rfl, _, rfl, ?_⟩)
    · rw [bI_f (fun q => c2 q.2)] at h; exact h
    · rw [bI_t ⟨c, c2⟩] at h; exact h
theorem x_isPlace {G : zG} {d : Nat} {w : Nat → Nat} {σ : zS} {p : Int64} {K : Int32 → zS → Prop} (hw : wX w σ) (hI : obInv w) (h : K (bI ((0 ≤ p.toInt ∧ p.toInt < w 4) ∨ (10 ≤ p.toInt ∧ p.toInt < 10 + w 3))) σ) : zCallI zcl Zx G (d + 2) mX0_isPlace [zR 0 0, zL p] σ K := by
  refine zmeth VX0_ok pX0_isPlace rfl (by decide) (Nat.le_of_ble_eq_true rfl) (fun AW ha => ?_)
  have hb := hI.b
  refine sX0_isPlace_0 ha (x_posts hw (x_in ?_))
  rw [i64, toI_1 (by omega)]
  have e10 : (10 : Int64).toInt = 10 := rfl
  have e0 : (0 : Int64).toInt = 0 := rfl
  refine zbr (fun c => x_in ?_) (fun c => ⟨Or.inr rfl, _, rfl, ?_⟩)
  · rw [hw.2.1.2.2.2.1, i64, c10, nI_add, toI_1 (by omega)]
    refine zbr (fun c2 => ⟨Or.inl rfl, _, rfl, ?_⟩) (fun c2 => ⟨Or.inr rfl, _, rfl, ?_⟩)
    · rw [bI_f (by omega)] at h; exact h
    · rw [bI_t (by omega)] at h; exact h
  · rw [bI_t (by omega)] at h; exact h
theorem x_isThen {G : zG} {d : Nat} {w : Nat → Nat} {σ : zS} {a t : Int32} {K : Int32 → zS → Prop} (hw : wX w σ) (hI : obInv w) (h : K (bI ((0 ≤ a.toInt ∧ a.toInt < w 7) ∧ 0 < w 9 ∧ 0 ≤ t.toInt ∧ t.toInt ≤ w 0)) σ) : zCallI zcl Zx G (d + 3) mX0_isThen [zR 0 0, zI a, zI t] σ K := by
  refine zmeth VX0_ok pX0_isThen rfl (by decide) (Nat.le_of_ble_eq_true rfl) (fun AW ha => ?_)
  refine sX0_isThen_0 ha (x_isWalker hw hI ?_)
  rw [i64]
  refine zbr (fun c => ⟨Or.inl rfl, _, rfl, ?_⟩) (fun c => x_isHour hw hI ?_)
  · rw [bI_f (fun q => c q.1)] at h; exact h
  · rw [i64]
    refine zbr (fun c2 => ⟨Or.inl rfl, _, rfl, ?_⟩) (fun c2 => ⟨Or.inr rfl, _, rfl, ?_⟩)
    · rw [bI_f (fun q => c2 q.2)] at h; exact h
    · rw [bI_t ⟨c, c2⟩] at h; exact h
theorem x_isBit {G : zG} {d : Nat} {σ : zS} {a : Int32} {K : Int32 → zS → Prop} (h : K (bI (0 ≤ a.toInt ∧ a.toInt ≤ 1)) σ) : zCallI zcl Zx G (d + 1) mX0_isBit [zI a] σ K := by
  refine zmeth VX0_ok pX0_isBit rfl (by decide) (Nat.le_of_ble_eq_true rfl) (fun AW ha => ?_)
  refine sX0_isBit_0 ha (x_in ⟨bI_01 _, _, rfl, ?_⟩)
  rw [i64]; exact h
/-- hours: as it is (arms as told) -/
theorem x_hoursIs {G : zG} {d : Nat} {w : Nat → Nat} {σ : zS} {K : Nat → zS → Prop} (hw : wX w σ) (hI : obInv w) (h : ∀ σ', xPar w (obAs w) σ' → agr (w 4) (gA σ' 24 0) (obArm w) → (gI σ' 2 11 0 = 0 ∧ gI σ' 2 12 0 = -1 ∧ agr (w 7) (gA σ' 30 0) (obWh w)) → xFr [(2, 9), (2, 10), (2, 11), (2, 12)] [24, 30] σ σ' → K 0 σ') : zCallR zcl Zx G (d + 4) mX3_is [zR 2 0] σ 2 K := by
  refine zmeth VX3_ok pX3_is rfl (by decide) (Nat.le_of_ble_eq_true rfl) (fun AW ha => ?_)
  have hb := hI.b
  refine sX3_is_0 ha ?_
  rw [hw.2.1.2.1]
  have loop2 : ∀ n i (σ2 : zS), i + n = w 7 → xFr [(2, 9), (2, 10), (2, 11), (2, 12)] [24, 30] σ σ2 → gI σ2 2 9 0 = nI (w 1) → gI σ2 2 10 0 = 0 → gI σ2 2 11 0 = 0 → gI σ2 2 12 0 = -1 → agr (w 4) (gA σ2 24 0) (obArm w) → agr i (gA σ2 30 0) (obWh w) → AW 67 [some (zR 2 0), some (zI (nI i))] [] σ2 := by
    intro n
    induction n with
    | zero =>
      intro i σ2 hi hf e1 e2 e3 e4 e5 e6
      obtain rfl : i = w 7 := by omega
      refine sX3_is_67 ha (x_many (hw.fr hf) (zltN (by omega) (by omega) (fun q => absurd q (by omega)) (fun _ => ⟨_, rfl, h σ2 ⟨e1, e2, ⟨0, by decide, e3, fun p hp => ?_⟩, fun i hi t ht => ?_⟩ e5 ⟨e3, e4, e6⟩ hf⟩)))
      · have h1 : ∀ p, p < 7 → (0 / 2 ^ p % 2 = 1 ↔ 127 / 2 ^ p % 2 = 0) := by decide
        exact h1 p (by omega)
      · rw [e4, e6 i hi]
        have := hI.wh (i := i) (by omega)
        rw [nI_eq (by omega) (by omega)]
        exact ⟨fun q => q.1, fun q => ⟨q, pI_ne (by omega)⟩⟩
    | succ n ih =>
      intro i σ2 hi hf e1 e2 e3 e4 e5 e6
      refine sX3_is_67 ha (x_many (hw.fr hf) (zltN (by omega) (by omega) (fun _ => x_walkerOf (hw.fr hf) hI (p := i) rfl (by omega) ⟨Nat.lt_of_lt_of_eq (by omega) (hw.fr hf).C1.symm, zix i rfl (by omega), ?_⟩) (fun q => absurd q (by omega))))
      rw [zcl_n i rfl, c1, nI_add, ((hw.fr hf).2.2.2.2.2.1 i (by omega)).2]
      exact ih (i + 1) _ (by omega) (hf.uA 30 _) e1 e2 e3 e4 e5 (agr_s e6 rfl)
  have loop1 : ∀ n i (σ2 : zS), i + n = w 4 → xFr [(2, 9), (2, 10), (2, 11), (2, 12)] [24, 30] σ σ2 → gI σ2 2 9 0 = nI (w 1) → gI σ2 2 10 0 = 0 → gI σ2 2 11 0 = 0 → gI σ2 2 12 0 = -1 → agr i (gA σ2 24 0) (obArm w) → AW 31 [some (zR 2 0), some (zI (nI i))] [] σ2 := by
    intro n
    induction n with
    | zero =>
      intro i σ2 hi hf e1 e2 e3 e4 e5
      obtain rfl : i = w 4 := by omega
      exact sX3_is_31 ha (x_posts (hw.fr hf) (zltN (by omega) (by omega) (fun q => absurd q (by omega)) (fun _ => loop2 (w 7) 0 σ2 (by omega) hf e1 e2 e3 e4 e5 (fun j hj => absurd hj (by omega)))))
    | succ n ih =>
      intro i σ2 hi hf e1 e2 e3 e4 e5
      refine sX3_is_31 ha (x_posts (hw.fr hf) (zltN (by omega) (by omega) (fun _ => x_postOf (hw.fr hf) hI (p := i) rfl (by omega) ⟨Nat.lt_of_lt_of_eq (by omega) (hw.fr hf).C0.symm, zix i rfl (by omega), ?_⟩) (fun q => absurd q (by omega))))
      rw [zcl_n i rfl, c1, nI_add, ((hw.fr hf).2.2.2.2.1 i (by omega)).2.1]
      exact ih (i + 1) _ (by omega) (hf.uA 24 _) e1 e2 e3 e4 (agr_s e5 rfl)
  exact loop1 (w 4) 0 _ (by omega) ((((xFr.refl.uI 2 9 _).uI 2 10 _).uI 2 11 _).uI 2 12 _) rfl rfl rfl rfl (fun j hj => absurd hj (by omega))
/-- all hours as it is -/
theorem x_is {G : zG} {d : Nat} {w : Nat → Nat} {σ : zS} {K : Nat → zS → Prop} (hw : wX w σ) (hI : obInv w) (h : ∀ σ', xRan w (obAs w) σ' → xPar w (obAs w) σ' → xSc σ σ' → K 0 σ') : zCallR zcl Zx G (d + 8) mX0_is [zR 0 0] σ 2 K := by
  refine zmeth VX0_ok pX0_is rfl (by decide) (Nat.le_of_ble_eq_true rfl) (fun AW ha => ?_)
  refine sX0_is_0 ha (x_hoursIs hw hI (fun σ1 p1 a1 _ f1 => x_goes (hw.fr f1) hI p1 (obAs_ok hI) a1 (fun σ2 r2 f2 => ⟨_, rfl, h σ2 r2 (p1.fr f2) (xFr.trans f1.wk f2.wk)⟩)))
theorem x_hat {G : zG} {d : Nat} {w : Nat → Nat} {P : obP} {σ : zS} {i t : Nat} {x y : Int32} {K : Int32 → zS → Prop} (hI : obInv w) (hr : xRan w P σ) (hx : x = nI i) (hy : y = nI t) (hi : i < w 7) (ht : t ≤ w 0) (h : K (pI (pl w P t i)) σ) : zCallI zcl Zx G d mX3_at [zR 2 0, zI x, zI y] σ K := by
  refine zmeth VX3_ok pX3_at rfl (by decide) (Nat.le_of_ble_eq_true rfl) (fun AW ha => ?_)
  have hb := hI.b
  have e : (8 : Int32) * y + x = nI (8 * t + i) := by rw [hx, hy, c8, pk_mul, nI_add]
  refine sX3_at_0 ha ⟨zix _ e (by omega), _, rfl, ?_⟩
  rw [zcl_n _ e, (hr.1 t (by omega)).1 i hi]; exact h
