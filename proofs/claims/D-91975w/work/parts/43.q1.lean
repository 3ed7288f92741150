/-! QUESTIONS without a loop: the answer, the twin's, the component's -/
def oRoom (w : Nat → Nat) (a : Int32) : Int32 := if 0 ≤ a.toInt ∧ a.toInt < w 3 then nI (obRoom w a.toNatClampNeg) else -2
theorem m_room {G : zG} {d : Nat} {w : Nat → Nat} {σ : zS} {a : Int32} {K : Int32 → zS → Prop} (hw : wM w σ) (hI : obInv w) (h : ∀ σ', mSc σ σ' → K (oRoom w a) σ') : zCallI zcl Zm G (d + 2) mX6_room [zR 0 0, zI a] σ K := by
  refine zmeth VX6_ok pX6_room rfl (by decide) (Nat.le_of_ble_eq_true rfl) (fun AW ha => ?_)
  have hb := hI.b
  have h := h σ mSc.refl
  unfold oRoom at h
  refine sX6_room_0 ha (m_isInn hw hI ?_)
  rw [i64]
  refine zbr (fun c => ⟨_, rfl, by rw [if_neg c] at h; exact h⟩) (fun c => ?_)
  obtain ⟨e, hl⟩ := okN c
  have e2 : (10 : Int32) + a = nI (10 + a.toNatClampNeg) := by rw [← nI_add, ← e]; rfl
  refine ⟨zix _ e2 (by omega), _, rfl, ?_⟩
  rw [zcl_n _ e2, hw _ (by omega)]
  rw [if_pos c] at h; exact h
theorem x_room {G : zG} {d : Nat} {w : Nat → Nat} {σ : zS} {a : Int32} {K : Int32 → zS → Prop} (hw : wX w σ) (hI : obInv w) (h : ∀ σ', xSc σ σ' → K (oRoom w a) σ') : zCallI zcl Zx G (d + 2) mX0_room [zR 0 0, zI a] σ K := by
  refine zmeth VX0_ok pX0_room rfl (by decide) (Nat.le_of_ble_eq_true rfl) (fun AW ha => ?_)
  have hb := hI.b
  have h := h σ xSc.refl
  unfold oRoom at h
  refine sX0_room_0 ha (x_isInn hw hI (zbr (fun c => ⟨_, rfl, by rw [if_neg c] at h; exact h⟩) (fun c => ?_)))
  obtain ⟨e, hl⟩ := okN c
  refine ⟨zix _ e (by omega), _, rfl, ?_⟩
  rw [hw.2.2.2.1 _ (by omega)]
  rw [if_pos c] at h; exact h
def oRoads (w : Nat → Nat) (a : Int32) : Int32 := if 0 ≤ a.toInt ∧ a.toInt < w 4 then nI (obMany w a.toNatClampNeg) else -2
theorem m_roads {G : zG} {d : Nat} {w : Nat → Nat} {σ : zS} {a : Int32} {K : Int32 → zS → Prop} (hw : wM w σ) (hI : obInv w) (h : ∀ σ', mSc σ σ' → K (oRoads w a) σ') : zCallI zcl Zm G (d + 2) mX6_roads [zR 0 0, zI a] σ K := by
  refine zmeth VX6_ok pX6_roads rfl (by decide) (Nat.le_of_ble_eq_true rfl) (fun AW ha => ?_)
  have hb := hI.b
  have h := h σ mSc.refl
  unfold oRoads at h
  refine sX6_roads_0 ha (m_isPost hw hI ?_)
  rw [i64]
  refine zbr (fun c => ⟨_, rfl, by rw [if_neg c] at h; exact h⟩) (fun c => ?_)
  obtain ⟨e, hl⟩ := okN c
  refine m_roadMany hw e (by omega) ⟨_, rfl, ?_⟩
  rw [if_pos c] at h; exact h
theorem x_roads {G : zG} {d : Nat} {w : Nat → Nat} {σ : zS} {a : Int32} {K : Int32 → zS → Prop} (hw : wX w σ) (hI : obInv w) (h : ∀ σ', xSc σ σ' → K (oRoads w a) σ') : zCallI zcl Zx G (d + 4) mX0_roads [zR 0 0, zI a] σ K := by
  refine zmeth VX0_ok pX0_roads rfl (by decide) (Nat.le_of_ble_eq_true rfl) (fun AW ha => ?_)
  have hb := hI.b
  have h := h σ xSc.refl
  unfold oRoads at h
  refine sX0_roads_0 ha (x_isPost hw hI (zbr (fun c => ⟨_, rfl, by rw [if_neg c] at h; exact h⟩) (fun c => ?_)))
  obtain ⟨e, hl⟩ := okN c
  refine x_postOf hw hI e hl ⟨Nat.lt_of_lt_of_eq hl hw.C0.symm, _, rfl, ?_⟩
  rw [hw.many hl]
  rw [if_pos c] at h; exact h
def oGoes (w : Nat → Nat) (a b : Int32) : Int32 := if 0 ≤ a.toInt ∧ a.toInt < w 4 then (if b.toInt < 0 then -2 else if b.toNatClampNeg < obMany w a.toNatClampNeg then nI (obTo w a.toNatClampNeg b.toNatClampNeg) else -1) else -2
theorem zlt_many {b : Int32} {m : Nat} {A B : Prop} (hb : 0 ≤ b.toInt) (hm : m < 2 ^ 31) (h1 : b.toNatClampNeg < m → b = nI b.toNatClampNeg → A) (h2 : ¬ b.toNatClampNeg < m → B) : (b < nI m → A) ∧ (¬ b < nI m → B) := by
  have hlt := Int32.toInt_lt b
  have e : b = nI b.toNatClampNeg := (okN (a := b) (n := 2 ^ 31) ⟨hb, by omega⟩ (Nat.le_refl _)).1
  have hn : b.toNatClampNeg < 2 ^ 31 := (okN (a := b) (n := 2 ^ 31) ⟨hb, by omega⟩ (Nat.le_refl _)).2
  constructor
  · intro q; rw [e] at q; exact h1 ((nI_ltI hn hm).mp q) e
  · intro q; exact h2 (fun z => q (by rw [e]; exact (nI_ltI hn hm).mpr z))
theorem m_goes {G : zG} {d : Nat} {w : Nat → Nat} {σ : zS} {a b : Int32} {K : Int32 → zS → Prop} (hw : wM w σ) (hI : obInv w) (h : ∀ σ', mSc σ σ' → K (oGoes w a b) σ') : zCallI zcl Zm G (d + 2) mX6_goes [zR 0 0, zI a, zI b] σ K := by
  refine zmeth VX6_ok pX6_goes rfl (by decide) (Nat.le_of_ble_eq_true rfl) (fun AW ha => ?_)
  have hb := hI.b
  have h := h σ mSc.refl
  unfold oGoes at h
  refine sX6_goes_0 ha (m_isPost hw hI ?_)
  rw [i64]
  refine zbr (fun c => ⟨_, rfl, by rw [if_neg c] at h; exact h⟩) (fun c => ?_)
  rw [if_pos c] at h
  obtain ⟨e, hl⟩ := okN c
  have h4 := hI.many (show a.toNatClampNeg < 7 by omega)
  refine zneg (fun c2 => ⟨_, rfl, by rw [if_pos c2] at h; exact h⟩) (fun c2 => m_roadMany hw e (by omega) ?_)
  rw [if_neg (by omega)] at h
  refine zlt_many c2 (by omega) (fun c3 e3 => m_roadTo hw e e3 (by omega) (by omega) ⟨_, rfl, by rw [if_pos c3] at h; exact h⟩) (fun c3 => ⟨_, rfl, by rw [if_neg c3] at h; exact h⟩)
theorem x_goesQ {G : zG} {d : Nat} {w : Nat → Nat} {σ : zS} {a b : Int32} {K : Int32 → zS → Prop} (hw : wX w σ) (hI : obInv w) (h : ∀ σ', xSc σ σ' → K (oGoes w a b) σ') : zCallI zcl Zx G (d + 4) mX0_goes [zR 0 0, zI a, zI b] σ K := by
  refine zmeth VX0_ok pX0_goes rfl (by decide) (Nat.le_of_ble_eq_true rfl) (fun AW ha => ?_)
  have hb := hI.b
  have h := h σ xSc.refl
  unfold oGoes at h
  refine sX0_goes_0 ha (x_isPost hw hI (zbr (fun c => ⟨_, rfl, by rw [if_neg c] at h; exact h⟩) (fun c => ?_)))
  rw [if_pos c] at h
  obtain ⟨e, hl⟩ := okN c
  have hC := Nat.lt_of_lt_of_eq hl hw.C0.symm
  have h4 := hI.many (show a.toNatClampNeg < 7 by omega)
  refine zneg (fun c2 => ⟨_, rfl, by rw [if_pos c2] at h; exact h⟩) (fun c2 => x_postOf hw hI e hl ⟨hC, ?_⟩)
  rw [if_neg (by omega)] at h
  rw [hw.many hl]
  refine zlt_many c2 (by omega) (fun c3 e3 => x_postOf hw hI e hl ⟨hC, hC, zix _ e3 (by omega), _, rfl, ?_⟩) (fun c3 => ⟨_, rfl, by rw [if_neg c3] at h; exact h⟩)
  rw [hw.to hl _ (by omega)]
  rw [if_pos c3] at h; exact h
def oTold (w : Nat → Nat) (a : Int32) : Int32 := if 0 ≤ a.toInt ∧ a.toInt < w 4 then (if obMany w a.toNatClampNeg = 0 then -1 else nI (obArm w a.toNatClampNeg)) else -2
theorem m_told {G : zG} {d : Nat} {w : Nat → Nat} {σ : zS} {a : Int32} {K : Int32 → zS → Prop} (hw : wM w σ) (hI : obInv w) (h : ∀ σ', mSc σ σ' → K (oTold w a) σ') : zCallI zcl Zm G (d + 2) mX6_told [zR 0 0, zI a] σ K := by
  refine zmeth VX6_ok pX6_told rfl (by decide) (Nat.le_of_ble_eq_true rfl) (fun AW ha => ?_)
  have hb := hI.b
  have h := h σ mSc.refl
  unfold oTold at h
  refine sX6_told_0 ha (m_isPost hw hI ?_)
  rw [i64]
  refine zbr (fun c => ⟨_, rfl, by rw [if_neg c] at h; exact h⟩) (fun c => ?_)
  rw [if_pos c] at h
  obtain ⟨e, hl⟩ := okN c
  have h4 := hI.many (show a.toNatClampNeg < 7 by omega)
  refine m_roadMany hw e (by omega) ?_
  rw [← nI_0]
  exact zeqN (by omega) (by decide) (fun c2 => ⟨_, rfl, by rw [if_pos c2] at h; exact h⟩) (fun c2 => m_armOf hw e (by omega) ⟨_, rfl, by rw [if_neg c2] at h; exact h⟩)
theorem x_told {G : zG} {d : Nat} {w : Nat → Nat} {σ : zS} {a : Int32} {K : Int32 → zS → Prop} (hw : wX w σ) (hI : obInv w) (h : ∀ σ', xSc σ σ' → K (oTold w a) σ') : zCallI zcl Zx G (d + 4) mX0_told [zR 0 0, zI a] σ K := by
  refine zmeth VX0_ok pX0_told rfl (by decide) (Nat.le_of_ble_eq_true rfl) (fun AW ha => ?_)
  have hb := hI.b
  have h := h σ xSc.refl
  unfold oTold at h
  refine sX0_told_0 ha (x_isPost hw hI (zbr (fun c => ⟨_, rfl, by rw [if_neg c] at h; exact h⟩) (fun c => ?_)))
  rw [if_pos c] at h
  obtain ⟨e, hl⟩ := okN c
  have hC := Nat.lt_of_lt_of_eq hl hw.C0.symm
  have h4 := hI.many (show a.toNatClampNeg < 7 by omega)
  refine x_postOf hw hI e hl ⟨hC, ?_⟩
  rw [hw.many hl, ← nI_0]
  refine zeqN (by omega) (by decide) (fun c2 => ⟨_, rfl, by rw [if_pos c2] at h; exact h⟩) (fun c2 => x_postOf hw hI e hl ⟨hC, _, rfl, ?_⟩)
  rw [(hw.2.2.2.2.1 _ hl).2.1]
  rw [if_neg c2] at h; exact h
def oWalker (w : Nat → Nat) (a b : Int32) : Int32 := if 0 ≤ a.toInt ∧ a.toInt < w 7 then (if 0 ≤ b.toInt ∧ b.toInt ≤ 1 then nI (w (56 + 2 * a.toNatClampNeg + b.toNatClampNeg)) else -2) else -2
theorem m_walker {G : zG} {d : Nat} {w : Nat → Nat} {σ : zS} {a b : Int32} {K : Int32 → zS → Prop} (hw : wM w σ) (hI : obInv w) (h : ∀ σ', mSc σ σ' → K (oWalker w a b) σ') : zCallI zcl Zm G (d + 2) mX6_walker [zR 0 0, zI a, zI b] σ K := by
  refine zmeth VX6_ok pX6_walker rfl (by decide) (Nat.le_of_ble_eq_true rfl) (fun AW ha => ?_)
  have hb := hI.b
  have h := h σ mSc.refl
  unfold oWalker at h
  refine sX6_walker_0 ha (m_isWalker hw hI ?_)
  rw [i64]
  refine zbr (fun c => ⟨_, rfl, by rw [if_neg c] at h; exact h⟩) (fun c => m_in ?_)
  rw [if_pos c] at h
  obtain ⟨e, hl⟩ := okN c
  rw [i64]
  refine zbr (c := 0 ≤ b.toInt ∧ b.toInt ≤ 1) (fun c2 => ⟨_, rfl, by rw [if_neg c2] at h; exact h⟩) (fun c2 => ?_)
  obtain ⟨e2, hl2⟩ := okN' (a := b) (n := 1) c2
  have e3 : (56 : Int32) + (2 : Int32) * a + b = nI (56 + 2 * a.toNatClampNeg + b.toNatClampNeg) := by rw [← nI_add, ← nI_add, ← pk_mul, ← e, ← e2]; rfl
  refine ⟨zix _ e3 (by omega), _, rfl, ?_⟩
  rw [zcl_n _ e3, hw _ (by omega)]
  rw [if_pos c2] at h; exact h
theorem x_walker {G : zG} {d : Nat} {w : Nat → Nat} {σ : zS} {a b : Int32} {K : Int32 → zS → Prop} (hw : wX w σ) (hI : obInv w) (h : ∀ σ', xSc σ σ' → K (oWalker w a b) σ') : zCallI zcl Zx G (d + 4) mX0_walker [zR 0 0, zI a, zI b] σ K := by
  refine zmeth VX0_ok pX0_walker rfl (by decide) (Nat.le_of_ble_eq_true rfl) (fun AW ha => ?_)
  have hb := hI.b
  have h := h σ xSc.refl
  unfold oWalker at h
  refine sX0_walker_0 ha (x_isWalker hw hI ?_)
  rw [i64]
  refine zbr (fun c => ⟨_, rfl, by rw [if_neg c] at h; exact h⟩) (fun c => x_isBit ?_)
  rw [if_pos c] at h
  obtain ⟨e, hl⟩ := okN c
  have hC := Nat.lt_of_lt_of_eq hl hw.C1.symm
  have hx := hw.2.2.2.2.2.1 _ hl
  refine zbr (fun c2 => ⟨_, rfl, by rw [if_neg c2] at h; exact h⟩) (fun c2 => ?_)
  rw [if_pos c2] at h
  obtain ⟨e2, hl2⟩ := okN' (a := b) (n := 1) c2
  rw [e2, ← nI_0]
  refine zeqN (by omega) (by decide) (fun c3 => x_walkerOf hw hI e hl ⟨hC, _, rfl, ?_⟩) (fun c3 => x_walkerOf hw hI e hl ⟨hC, _, rfl, ?_⟩)
  · rw [hx.1]; rw [c3] at h; exact h
  · rw [hx.2]; rw [show b.toNatClampNeg = 1 by omega] at h; unfold obWh; rw [show 57 + 2 * a.toNatClampNeg = 56 + 2 * a.toNatClampNeg + 1 by omega]; exact h
def oAtQ (w : Nat → Nat) (a b : Int32) : Int32 := if (0 ≤ a.toInt ∧ a.toInt < w 7) ∧ 0 < w 9 ∧ 0 ≤ b.toInt ∧ b.toInt ≤ w 0 then pI (pl w (obAs w) b.toNatClampNeg a.toNatClampNeg) else -2
theorem m_at {G : zG} {d : Nat} {w : Nat → Nat} {σ : zS} {a b : Int32} {K : Int32 → zS → Prop} (hw : wM w σ) (hI : obInv w) (h : ∀ σ', mSc σ σ' → K (oAtQ w a b) σ') : zCallI zcl Zm G (d + 8) mX6_at [zR 0 0, zI a, zI b] σ K := by
  refine zmeth VX6_ok pX6_at rfl (by decide) (Nat.le_of_ble_eq_true rfl) (fun AW ha => ?_)
  have hb := hI.b
  refine sX6_at_0 ha (m_asksHour hw hI (fun σ1 r1 p1 f1 => ?_))
  have h := h σ1 f1
  unfold oAtQ at h
  refine zbr (fun c => ⟨_, rfl, by rw [if_neg (fun q => c q.2)] at h; exact h⟩) (fun c => m_isWalker (hw.sc f1) hI ?_)
  rw [i64]
  refine zbr (fun c2 => ⟨_, rfl, by rw [if_neg (fun q => c2 q.1)] at h; exact h⟩) (fun c2 => ?_)
  rw [if_pos ⟨c2, c⟩] at h
  exact m_placeOf hI r1 (okN c2).1 (okN' c.2).1 (okN c2).2 (okN' c.2).2 ⟨_, rfl, h⟩
theorem x_at {G : zG} {d : Nat} {w : Nat → Nat} {σ : zS} {a b : Int32} {K : Int32 → zS → Prop} (hw : wX w σ) (hI : obInv w) (h : ∀ σ', xSc σ σ' → K (oAtQ w a b) σ') : zCallI zcl Zx G (d + 9) mX0_at [zR 0 0, zI a, zI b] σ K := by
  refine zmeth VX0_ok pX0_at rfl (by decide) (Nat.le_of_ble_eq_true rfl) (fun AW ha => ?_)
  have hb := hI.b
  refine sX0_at_0 ha (x_isThen hw hI (zbr (fun c => ⟨_, rfl, ?_⟩) (fun c => x_is hw hI (fun σ1 r1 p1 f1 => ?_))))
  · have h := h σ xSc.refl
    unfold oAtQ at h
    rw [if_neg c] at h; exact h
  · have h := h σ1 f1
    unfold oAtQ at h
    rw [if_pos c] at h
    exact x_hat hI r1 (okN c.1).1 (okN' c.2.2).1 (okN c.1).2 (okN' c.2.2).2 ⟨_, rfl, h⟩
def oArm (w : Nat → Nat) (a b : Int32) : Int32 := if (0 < w 9 ∧ 0 ≤ b.toInt ∧ b.toInt ≤ w 0) ∧ 0 ≤ a.toInt ∧ a.toInt < w 4 then (if obMany w a.toNatClampNeg = 0 then -1 else nI ((obAt w (obAs w) b.toNatClampNeg).1 a.toNatClampNeg)) else -2
theorem m_arm {G : zG} {d : Nat} {w : Nat → Nat} {σ : zS} {a b : Int32} {K : Int32 → zS → Prop} (hw : wM w σ) (hI : obInv w) (h : ∀ σ', mSc σ σ' → K (oArm w a b) σ') : zCallI zcl Zm G (d + 8) mX6_arm [zR 0 0, zI a, zI b] σ K := by
  refine zmeth VX6_ok pX6_arm rfl (by decide) (Nat.le_of_ble_eq_true rfl) (fun AW ha => ?_)
  have hb := hI.b
  refine sX6_arm_0 ha (m_asksHour hw hI (fun σ1 r1 p1 f1 => ?_))
  have h := h σ1 f1
  unfold oArm at h
  refine zbr (fun c => ⟨_, rfl, by rw [if_neg (fun q => c q.1)] at h; exact h⟩) (fun c => m_isPost (hw.sc f1) hI ?_)
  rw [i64]
  refine zbr (fun c2 => ⟨_, rfl, by rw [if_neg (fun q => c2 q.2)] at h; exact h⟩) (fun c2 => ?_)
  rw [if_pos ⟨c, c2⟩] at h
  obtain ⟨e, hl⟩ := okN c2
  obtain ⟨e2, hl2⟩ := okN' c.2
  have h4 := hI.many (show a.toNatClampNeg < 7 by omega)
  refine m_roadMany (hw.sc f1) e (by omega) ?_
  rw [← nI_0]
  refine zeqN (by omega) (by decide) (fun c3 => ⟨_, rfl, by rw [if_pos c3] at h; exact h⟩) (fun c3 => ?_)
  have e3 : (7 : Int32) * b + a = nI (7 * b.toNatClampNeg + a.toNatClampNeg) := by rw [← nI_add, ← pk_mul, ← e, ← e2]; rfl
  refine ⟨zix _ e3 (by omega), _, rfl, ?_⟩
  rw [zcl_n _ e3, (r1.1 _ (by omega)).2 _ (by omega)]
  rw [if_neg c3] at h; exact h
theorem x_arm {G : zG} {d : Nat} {w : Nat → Nat} {σ : zS} {a b : Int32} {K : Int32 → zS → Prop} (hw : wX w σ) (hI : obInv w) (h : ∀ σ', xSc σ σ' → K (oArm w a b) σ') : zCallI zcl Zx G (d + 9) mX0_arm [zR 0 0, zI a, zI b] σ K := by
  refine zmeth VX0_ok pX0_arm rfl (by decide) (Nat.le_of_ble_eq_true rfl) (fun AW ha => ?_)
  have hb := hI.b
  refine sX0_arm_0 ha (x_isPost hw hI (zbr (fun c => ⟨_, rfl, ?_⟩) (fun c => x_isHour hw hI ?_)))
  · have h := h σ xSc.refl
    unfold oArm at h
    rw [if_neg (fun q => c q.2)] at h; exact h
  · rw [i64]
    refine zbr (fun c2 => ⟨_, rfl, ?_⟩) (fun c2 => x_is hw hI (fun σ1 r1 p1 f1 => ?_))
    · have h := h σ xSc.refl
      unfold oArm at h
      rw [if_neg (fun q => c2 q.1)] at h; exact h
    · have h := h σ1 f1
      unfold oArm at h
      rw [if_pos ⟨c2, c⟩] at h
      obtain ⟨e, hl⟩ := okN c
      obtain ⟨e2, hl2⟩ := okN' c2.2
      have e3 : (7 : Int32) * b + a = nI (7 * b.toNatClampNeg + a.toNatClampNeg) := by rw [← nI_add, ← pk_mul, ← e, ← e2]; rfl
      refine ⟨zix _ e3 (by omega), _, rfl, ?_⟩
      rw [zcl_n _ e3, (r1.1 _ (by omega)).2 _ (by omega)]
      exact h
def oSentQ (w : Nat → Nat) (a : Int32) : Int32 := if 0 ≤ a.toInt ∧ a.toInt < w 0 then nI (obSent w (obAs w) a.toNatClampNeg) else -2
theorem m_sent {G : zG} {d : Nat} {w : Nat → Nat} {σ : zS} {a : Int32} {K : Int32 → zS → Prop} (hw : wM w σ) (hI : obInv w) (h : ∀ σ', mSc σ σ' → K (oSentQ w a) σ') : zCallI zcl Zm G (d + 7) mX6_sent [zR 0 0, zI a] σ K := by
  refine zmeth VX6_ok pX6_sent rfl (by decide) (Nat.le_of_ble_eq_true rfl) (fun AW ha => ?_)
  have hb := hI.b
  refine sX6_sent_0 ha (m_asksHeath hw hI (fun σ1 r1 p1 f1 => m_isAhead (hw.fr f1) hI ?_))
  have h := h σ1 f1.wk
  unfold oSentQ at h
  rw [i64]
  refine zbr (fun c => ⟨_, rfl, by rw [if_neg c] at h; exact h⟩) (fun c => ?_)
  obtain ⟨e, hl⟩ := okN c
  refine ⟨zix _ e (by omega), _, rfl, ?_⟩
  rw [r1.2.1 _ hl]
  rw [if_pos c] at h; exact h
theorem x_sent {G : zG} {d : Nat} {w : Nat → Nat} {σ : zS} {a : Int32} {K : Int32 → zS → Prop} (hw : wX w σ) (hI : obInv w) (h : ∀ σ', xSc σ σ' → K (oSentQ w a) σ') : zCallI zcl Zx G (d + 9) mX0_sent [zR 0 0, zI a] σ K := by
  refine zmeth VX0_ok pX0_sent rfl (by decide) (Nat.le_of_ble_eq_true rfl) (fun AW ha => ?_)
  have hb := hI.b
  refine sX0_sent_0 ha (x_isAhead hw hI (zbr (fun c => ⟨_, rfl, ?_⟩) (fun c => x_is hw hI (fun σ1 r1 p1 f1 => ?_))))
  · have h := h σ xSc.refl
    unfold oSentQ at h
    rw [if_neg c] at h; exact h
  · have h := h σ1 f1
    unfold oSentQ at h
    obtain ⟨e, hl⟩ := okN c
    refine ⟨zix _ e (by omega), _, rfl, ?_⟩
    rw [r1.2.1 _ hl]
    rw [if_pos c] at h; exact h
def oUsed (w : Nat → Nat) (a b : Int32) : Int32 := if 0 ≤ a.toInt ∧ a.toInt < w 4 then (if b.toInt < 0 then -2 else if b.toNatClampNeg < obMany w a.toNatClampNeg then nI ((obAt w (obAs w) (w 0)).2.2.1 (4 * a.toNatClampNeg + b.toNatClampNeg)) else -1) else -2
theorem m_used {G : zG} {d : Nat} {w : Nat → Nat} {σ : zS} {a b : Int32} {K : Int32 → zS → Prop} (hw : wM w σ) (hI : obInv w) (h : ∀ σ', mSc σ σ' → K (oUsed w a b) σ') : zCallI zcl Zm G (d + 8) mX6_used [zR 0 0, zI a, zI b] σ K := by
  refine zmeth VX6_ok pX6_used rfl (by decide) (Nat.le_of_ble_eq_true rfl) (fun AW ha => ?_)
  have hb := hI.b
  refine sX6_used_0 ha (m_asksPost hw hI (fun σ1 r1 p1 f1 => ?_))
  have h := h σ1 f1
  unfold oUsed at h
  refine zbr (fun c => ⟨_, rfl, by rw [if_neg c] at h; exact h⟩) (fun c => ?_)
  rw [if_pos c] at h
  obtain ⟨e, hl⟩ := okN c
  have h4 := hI.many (show a.toNatClampNeg < 7 by omega)
  refine zneg (fun c2 => ⟨_, rfl, by rw [if_pos c2] at h; exact h⟩) (fun c2 => m_roadMany (hw.sc f1) e (by omega) ?_)
  rw [if_neg (by omega)] at h
  refine zlt_many c2 (by omega) (fun c3 e3 => ?_) (fun c3 => ⟨_, rfl, by rw [if_neg c3] at h; exact h⟩)
  have e4 : (4 : Int32) * a + b = nI (4 * a.toNatClampNeg + b.toNatClampNeg) := by rw [← nI_add, ← pk_mul, ← e, ← e3]; rfl
  refine ⟨zix _ e4 (by omega), _, rfl, ?_⟩
  rw [zcl_n _ e4, r1.2.2.2.2.1 _ (by omega)]
  rw [if_pos c3] at h; exact h
theorem x_used {G : zG} {d : Nat} {w : Nat → Nat} {σ : zS} {a b : Int32} {K : Int32 → zS → Prop} (hw : wX w σ) (hI : obInv w) (h : ∀ σ', xSc σ σ' → K (oUsed w a b) σ') : zCallI zcl Zx G (d + 9) mX0_used [zR 0 0, zI a, zI b] σ K := by
  refine zmeth VX0_ok pX0_used rfl (by decide) (Nat.le_of_ble_eq_true rfl) (fun AW ha => ?_)
  have hb := hI.b
  have h0 := h σ xSc.refl
  unfold oUsed at h0 h
  refine sX0_used_0 ha (x_isPost hw hI (zbr (fun c => ⟨_, rfl, by rw [if_neg c] at h0; exact h0⟩) (fun c => ?_)))
  obtain ⟨e, hl⟩ := okN c
  have hC := Nat.lt_of_lt_of_eq hl hw.C0.symm
  have h4 := hI.many (show a.toNatClampNeg < 7 by omega)
  rw [if_pos c] at h0
  refine zneg (fun c2 => ⟨_, rfl, by rw [if_pos c2] at h0; exact h0⟩) (fun c2 => x_postOf hw hI e hl ⟨hC, ?_⟩)
  rw [if_neg (by omega)] at h0
  rw [hw.many hl]
  refine zlt_many c2 (by omega) (fun c3 e3 => x_is hw hI (fun σ1 r1 p1 f1 => ?_)) (fun c3 => ⟨_, rfl, by rw [if_neg c3] at h0; exact h0⟩)
  have h := h σ1 f1
  rw [if_pos c, if_neg (by omega), if_pos c3] at h
  have e4 : (4 : Int32) * a + b = nI (4 * a.toNatClampNeg + b.toNatClampNeg) := by rw [← nI_add, ← pk_mul, ← e, ← e3]; rfl
  refine ⟨zix _ e4 (by omega), _, rfl, ?_⟩
  rw [zcl_n _ e4, r1.2.2.2.1 _ (by omega)]
  exact h
def oWalks (w : Nat → Nat) (a : Int32) : Int32 := if 0 ≤ a.toInt ∧ a.toInt < w 7 then nI ((obAt w (obAs w) (w 0)).2.2.2.1 a.toNatClampNeg) else -2
theorem m_walks {G : zG} {d : Nat} {w : Nat → Nat} {σ : zS} {a : Int32} {K : Int32 → zS → Prop} (hw : wM w σ) (hI : obInv w) (h : ∀ σ', mSc σ σ' → K (oWalks w a) σ') : zCallI zcl Zm G (d + 8) mX6_walks [zR 0 0, zI a] σ K := by
  refine zmeth VX6_ok pX6_walks rfl (by decide) (Nat.le_of_ble_eq_true rfl) (fun AW ha => ?_)
  have hb := hI.b
  refine sX6_walks_0 ha (m_asksWalker hw hI (fun σ1 r1 p1 f1 => ?_))
  have h := h σ1 f1
  unfold oWalks at h
  refine zbr (fun c => ⟨_, rfl, by rw [if_neg c] at h; exact h⟩) (fun c => ?_)
  obtain ⟨e, hl⟩ := okN c
  refine ⟨zix _ e (by omega), _, rfl, ?_⟩
  rw [r1.2.2.2.2.2.1 _ (by omega)]
  rw [if_pos c] at h; exact h
theorem x_walks {G : zG} {d : Nat} {w : Nat → Nat} {σ : zS} {a : Int32} {K : Int32 → zS → Prop} (hw : wX w σ) (hI : obInv w) (h : ∀ σ', xSc σ σ' → K (oWalks w a) σ') : zCallI zcl Zx G (d + 9) mX0_walks [zR 0 0, zI a] σ K := by
  refine zmeth VX0_ok pX0_walks rfl (by decide) (Nat.le_of_ble_eq_true rfl) (fun AW ha => ?_)
  have hb := hI.b
  refine sX0_walks_0 ha (x_isWalker hw hI ?_)
  rw [i64]
  refine zbr (fun c => ⟨_, rfl, ?_⟩) (fun c => x_is hw hI (fun σ1 r1 p1 f1 => ?_))
  · have h := h σ xSc.refl
    unfold oWalks at h
    rw [if_neg c] at h; exact h
  · have h := h σ1 f1
    unfold oWalks at h
    obtain ⟨e, hl⟩ := okN c
    refine ⟨zix _ e (by omega), _, rfl, ?_⟩
    rw [r1.2.2.2.2.1 _ (by omega)]
    rw [if_pos c] at h; exact h
def oRefuses (w : Nat → Nat) (a : Int32) : Int32 := if 0 ≤ a.toInt ∧ a.toInt < w 3 then nI ((obAt w (obAs w) (w 0)).2.2.2.2.2.1 a.toNatClampNeg) else -2
theorem m_refuses {G : zG} {d : Nat} {w : Nat → Nat} {σ : zS} {a : Int32} {K : Int32 → zS → Prop} (hw : wM w σ) (hI : obInv w) (h : ∀ σ', mSc σ σ' → K (oRefuses w a) σ') : zCallI zcl Zm G (d + 7) mX6_refuses [zR 0 0, zI a] σ K := by
  refine zmeth VX6_ok pX6_refuses rfl (by decide) (Nat.le_of_ble_eq_true rfl) (fun AW ha => ?_)
  have hb := hI.b
  refine sX6_refuses_0 ha (m_asksHeath hw hI (fun σ1 r1 p1 f1 => m_isInn (hw.fr f1) hI ?_))
  have h := h σ1 f1.wk
  unfold oRefuses at h
  rw [i64]
  refine zbr (fun c => ⟨_, rfl, by rw [if_neg c] at h; exact h⟩) (fun c => ?_)
  obtain ⟨e, hl⟩ := okN c
  refine ⟨zix _ e (by omega), _, rfl, ?_⟩
  rw [r1.2.2.2.2.2.2.2 _ (by omega)]
  rw [if_pos c] at h; exact h
theorem x_refuses {G : zG} {d : Nat} {w : Nat → Nat} {σ : zS} {a : Int32} {K : Int32 → zS → Prop} (hw : wX w σ) (hI : obInv w) (h : ∀ σ', xSc σ σ' → K (oRefuses w a) σ') : zCallI zcl Zx G (d + 9) mX0_refuses [zR 0 0, zI a] σ K := by
  refine zmeth VX0_ok pX0_refuses rfl (by decide) (Nat.le_of_ble_eq_true rfl) (fun AW ha => ?_)
  have hb := hI.b
  refine sX0_refuses_0 ha (x_isInn hw hI (zbr (fun c => ⟨_, rfl, ?_⟩) (fun c => x_is hw hI (fun σ1 r1 p1 f1 => ?_))))
  · have h := h σ xSc.refl
    unfold oRefuses at h
    rw [if_neg c] at h; exact h
  · have h := h σ1 f1
    unfold oRefuses at h
    obtain ⟨e, hl⟩ := okN c
    refine ⟨zix _ e (by omega), _, rfl, ?_⟩
    rw [r1.2.2.2.2.2.2 _ (by omega)]
    rw [if_pos c] at h; exact h
