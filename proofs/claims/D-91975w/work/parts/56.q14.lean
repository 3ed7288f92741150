/-! QUESTIONS: by, law, worth -/
def obBy (w : Nat → Nat) (l : Nat) : obP := (l, 0, 127, obArm w, obWh w)
theorem obBy_ok {w : Nat → Nat} (hI : obInv w) {l : Nat} (hl : l ≤ 3) : obPok w (obBy w l) := by
  have := obAs_ok hI
  exact ⟨hl, this.2.1, this.2.2.1, this.2.2.2.1, this.2.2.2.2⟩
theorem m_insideBy {G : zG} {d : Nat} {w : Nat → Nat} {σ : zS} {l l0 : Nat} {x : Int32} {K : Int32 → zS → Prop} (hw : wM w σ) (hI : obInv w) (hP : mPar (obBy w l0) σ) (hx : x = nI l) (hl : l ≤ 3) (h : ∀ σ', mPar (obBy w l) σ' → mSc σ σ' → K (nI (obIns w (obBy w l) (w 0))) σ') : zCallI zcl Zm G (d + 6) mX6_insideBy [zR 0 0, zI x] σ K := by
  refine zmeth VX6_ok pX6_insideBy rfl (by decide) (Nat.le_of_ble_eq_true rfl) (fun AW ha => ?_)
  have f1 : mSc σ (uI σ 0 17 0 x) := zFr.uI zFr.refl 17 _
  have p1 : mPar (obBy w l) (uI σ 0 17 0 x) := ⟨hx, hP.2.1, hP.2.2.1, hP.2.2.2.1, hP.2.2.2.2⟩
  exact sX6_insideBy_0 ha (m_goAll (hw.sc f1) hI p1 (obBy_ok hI hl) (fun σ2 r2 f2 => m_insideLast (hw.sc (zFr.trans f1 f2.wk)) hI (obBy_ok hI hl) r2 ⟨_, rfl, h σ2 (p1.fr f2) (zFr.trans f1 f2.wk)⟩))
theorem x_byLaw {G : zG} {d : Nat} {w : Nat → Nat} {σ : zS} {l : Nat} {x : Int32} {K : Int32 → zS → Prop} (hw : wX w σ) (hI : obInv w) (hx : x = nI l) (hl : l ≤ 3) (h : ∀ σ', xSc σ σ' → K (nI (obIns w (obBy w l) (w 0))) σ') : zCallI zcl Zx G (d + 8) mX0_byLaw [zR 0 0, zI x] σ K := by
  refine zmeth VX0_ok pX0_byLaw rfl (by decide) (Nat.le_of_ble_eq_true rfl) (fun AW ha => ?_)
  refine sX0_byLaw_0 ha (x_hoursIs hw hI (fun σ1 p1 a1 _ f1 => ?_))
  have f2 : xSc σ (uI σ1 2 9 0 x) := xFr.uI (xFr.trans (xFr.refl (I := xScr) (A := xArr)) f1.wk) 2 9 _
  have p2 : xPar w (obBy w l) (uI σ1 2 9 0 x) := ⟨hx, p1.2.1, p1.2.2.1, p1.2.2.2⟩
  exact x_goes (hw.sc f2) hI p2 (obBy_ok hI hl) a1 (fun σ3 r3 f3 => x_last (hw.sc (xFr.trans f2 f3.wk)) hI (obBy_ok hI hl) r3 ⟨_, rfl, h σ3 (xFr.trans f2 f3.wk)⟩)
abbrev upTo3 (b : Int32) : Prop := 0 ≤ b.toInt ∧ b.toInt ≤ 3
def oBy (w : Nat → Nat) (a : Int32) : Int32 := if 0 < w 9 ∧ upTo3 a then nI (obIns w (obBy w a.toNatClampNeg) (w 0)) else -2
theorem m_by {G : zG} {d : Nat} {w : Nat → Nat} {σ : zS} {a : Int32} {K : Int32 → zS → Prop} (hw : wM w σ) (hI : obInv w) (h : ∀ σ', mSc σ σ' → K (oBy w a) σ') : zCallI zcl Zm G (d + 8) mX6_by [zR 0 0, zI a] σ K := by
  refine zmeth VX6_ok pX6_by rfl (by decide) (Nat.le_of_ble_eq_true rfl) (fun AW ha => ?_)
  unfold oBy at h
  refine sX6_by_0 ha (m_asksHeath hw hI (fun σ1 r1 p1 f1 => zbr (fun c => ⟨_, rfl, by have h := h σ1 f1.wk; rw [if_neg (fun q => c q.1)] at h; exact h⟩) (fun c => m_in ?_)))
  rw [i64]
  refine zbr (c := upTo3 a) (fun c2 => ⟨_, rfl, by have h := h σ1 f1.wk; rw [if_neg (fun q => c2 q.2)] at h; exact h⟩) (fun c2 => ?_)
  rw [if_pos ⟨c, c2⟩] at h
  obtain ⟨e, hl⟩ := okN' (a := a) (n := 3) c2
  exact m_insideBy (l0 := w 1) (hw.fr f1) hI p1 e hl (fun σ2 _ f2 => ⟨_, rfl, h σ2 (zFr.trans f1.wk f2)⟩)
theorem x_by {G : zG} {d : Nat} {w : Nat → Nat} {σ : zS} {a : Int32} {K : Int32 → zS → Prop} (hw : wX w σ) (hI : obInv w) (h : ∀ σ', xSc σ σ' → K (oBy w a) σ') : zCallI zcl Zx G (d + 9) mX0_by [zR 0 0, zI a] σ K := by
  refine zmeth VX0_ok pX0_by rfl (by decide) (Nat.le_of_ble_eq_true rfl) (fun AW ha => ?_)
  unfold oBy at h
  refine sX0_by_0 ha (x_isHeath hw hI (zbr (fun c => ⟨_, rfl, by have h := h σ xSc.refl; rw [if_neg (fun q => c q.1)] at h; exact h⟩) (fun c => ?_)))
  have hl : zCallI zcl Zx G (d + 8) mX0_isLaw [zI a] σ (fun x2 σ2 => x2 = bI (upTo3 a) ∧ σ2 = σ) := by
    refine zmeth VX0_ok pX0_isLaw rfl (by decide) (Nat.le_of_ble_eq_true rfl) (fun AW ha => ?_)
    refine sX0_isLaw_0 ha (x_in ?_)
    rw [i64]
    exact ⟨bI_01 _, _, rfl, rfl, rfl⟩
  refine zmono hl ?_
  rintro r σ2 ⟨x2, rfl, rfl, rfl⟩
  refine ⟨_, rfl, zbr (fun c2 => ⟨_, rfl, by have h := h σ2 xSc.refl; rw [if_neg (fun q => c2 q.2)] at h; exact h⟩) (fun c2 => ?_)⟩
  rw [if_pos ⟨c, c2⟩] at h
  obtain ⟨e, hl⟩ := okN' (a := a) (n := 3) c2
  exact x_byLaw hw hI e hl (fun σ3 f3 => ⟨_, rfl, h σ3 f3⟩)
abbrev obB (w : Nat → Nat) (l : Nat) : Nat := obLast w (obBy w l)
def obLaw (w : Nat → Nat) : Nat → Nat
  | 0 => 0
  | n + 1 => if obB w (obLaw w n) < obB w (n + 1) then n + 1 else obLaw w n
theorem obLaw_le {w : Nat → Nat} (n : Nat) : obLaw w n ≤ n := by
  induction n with
  | zero => exact Nat.le_refl _
  | succ n ih => simp only [obLaw]; split <;> omega
def oLaw (w : Nat → Nat) : Int32 := if 0 < w 9 then nI (obLaw w 3) else -2
theorem m_law {G : zG} {d : Nat} {w : Nat → Nat} {σ : zS} {K : Int32 → zS → Prop} (hw : wM w σ) (hI : obInv w) (h : ∀ σ', mSc σ σ' → K (oLaw w) σ') : zCallI zcl Zm G (d + 8) mX6_law [zR 0 0] σ K := by
  refine zmeth VX6_ok pX6_law rfl (by decide) (Nat.le_of_ble_eq_true rfl) (fun AW ha => ?_)
  unfold oLaw at h
  refine sX6_law_0 ha (m_asksHeath hw hI (fun σ1 r1 p1 f1 => zbr (fun c => ⟨_, rfl, by have h := h σ1 f1.wk; rw [if_neg c] at h; exact h⟩) (fun c => ?_)))
  rw [if_pos c] at h
  refine loopN (N := 3) (I := fun k => ∀ σ2 l0, mPar (obBy w l0) σ2 → mSc σ σ2 → AW 14 [some (zR 0 0), some (zI (nI (obLaw w k))), some (zI (nI (k + 1)))] [] σ2) (fun σ2 l0 p2 f2 => ?_) (fun k hk ih σ2 l0 p2 f2 => ?_) 0 (Nat.zero_le _) σ1 (w 1) p1 f1.wk
  · exact sX6_law_14 ha ⟨fun c => absurd c (by decide), fun _ => ⟨_, rfl, h σ2 f2⟩⟩
  · have hle := obLaw_le (w := w) k
    have hB : ∀ l, obB w l ≤ 16 := fun l => obCnt_le _ _
    have hB1 := hB (obLaw w k)
    have hB2 := hB (k + 1)
    refine sX6_law_14 ha ?_
    rw [c4]
    refine zltN (by omega) (by omega) (fun _ => m_insideBy (hw.sc f2) hI p2 rfl (by omega) (fun σ3 p3 f3 => m_bits rfl (Nat.lt_trans (obIns_lt hI) (by decide)) (m_insideBy (hw.sc (zFr.trans f2 f3)) hI p3 rfl (by omega) (fun σ4 p4 f4 => m_bits rfl (Nat.lt_trans (obIns_lt hI) (by decide)) (zltN (Nat.lt_of_le_of_lt hB1 (by decide)) (Nat.lt_of_le_of_lt hB2 (by decide)) (fun c2 => ?_) (fun c2 => ?_)))))) (fun c => absurd c (by omega))
    · have := ih σ4 _ p4 (zFr.trans f2 (zFr.trans f3 f4))
      simp only [obLaw] at this
      rw [if_pos c2] at this
      rw [c1, nI_add]; exact this
    · have := ih σ4 _ p4 (zFr.trans f2 (zFr.trans f3 f4))
      simp only [obLaw] at this
      rw [if_neg (Nat.not_lt.mpr c2)] at this
      rw [c1, nI_add]; exact this
theorem x_law {G : zG} {d : Nat} {w : Nat → Nat} {σ : zS} {K : Int32 → zS → Prop} (hw : wX w σ) (hI : obInv w) (h : ∀ σ', xSc σ σ' → K (oLaw w) σ') : zCallI zcl Zx G (d + 9) mX0_law [zR 0 0] σ K := by
  refine zmeth VX0_ok pX0_law rfl (by decide) (Nat.le_of_ble_eq_true rfl) (fun AW ha => ?_)
  unfold oLaw at h
  refine sX0_law_0 ha (x_isHeath hw hI (zbr (fun c => ⟨_, rfl, by have h := h σ xSc.refl; rw [if_neg c] at h; exact h⟩) (fun c => ?_)))
  rw [if_pos c] at h
  refine loopN (N := 3) (I := fun k => ∀ σ2, xSc σ σ2 → AW 17 [some (zR 0 0), some (zI (nI (obLaw w k))), some (zI (nI (k + 1)))] [] σ2) (fun σ2 f2 => ?_) (fun k hk ih σ2 f2 => ?_) 0 (Nat.zero_le _) σ xSc.refl
  · exact sX0_law_17 ha ⟨fun c => absurd c (by decide), fun _ => ⟨_, rfl, h σ2 f2⟩⟩
  · have hle := obLaw_le (w := w) k
    have hB : ∀ l, obB w l ≤ 16 := fun l => obCnt_le _ _
    have hB1 := hB (obLaw w k)
    have hB2 := hB (k + 1)
    refine sX0_law_17 ha ?_
    rw [c4]
    refine zltN (by omega) (by omega) (fun _ => x_byLaw (hw.sc f2) hI rfl (by omega) (fun σ3 f3 => x_size rfl (obIns_lt hI) (x_byLaw (hw.sc (xFr.trans f2 f3)) hI rfl (by omega) (fun σ4 f4 => x_size rfl (obIns_lt hI) (zltN (Nat.lt_of_le_of_lt hB1 (by decide)) (Nat.lt_of_le_of_lt hB2 (by decide)) (fun c2 => ?_) (fun c2 => ?_)))))) (fun c => absurd c (by omega))
    · have := ih σ4 (xFr.trans f2 (xFr.trans f3 f4))
      simp only [obLaw] at this
      rw [if_pos c2] at this
      rw [c1, nI_add]; exact this
    · have := ih σ4 (xFr.trans f2 (xFr.trans f3 f4))
      simp only [obLaw] at this
      rw [if_neg (Nat.not_lt.mpr c2)] at this
      rw [c1, nI_add]; exact this
