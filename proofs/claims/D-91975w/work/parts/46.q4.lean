/-! QUESTIONS: crowd, meet, busy, idle, settings, setting, same -/
def obMax (f : Nat → Nat) : Nat → Nat
  | 0 => 0
  | n + 1 => max (obMax f n) (f n)
theorem obMax_le {f : Nat → Nat} {B : Nat} (h : ∀ k, f k ≤ B) (n : Nat) : obMax f n ≤ B := by
  induction n with
  | zero => exact Nat.zero_le _
  | succ n ih => exact Nat.max_le.mpr ⟨ih, h n⟩
def obCrowd (w : Nat → Nat) (P : obP) (t p : Nat) : Nat := obCnt (obHere w P t (nI p)) 16
def oCrowd (w : Nat → Nat) (t : Int32) : Int32 := if hrOk w t then nI (obMax (obCrowd w (obAs w) t.toNatClampNeg) (w 4)) else -2
theorem m_crowd {G : zG} {d : Nat} {w : Nat → Nat} {σ : zS} {t : Int32} {K : Int32 → zS → Prop} (hw : wM w σ) (hI : obInv w) (h : ∀ σ', mSc σ σ' → K (oCrowd w t) σ') : zCallI zcl Zm G (d + 8) mX6_crowd [zR 0 0, zI t] σ K := by
  refine zmeth VX6_ok pX6_crowd rfl (by decide) (Nat.le_of_ble_eq_true rfl) (fun AW ha => ?_)
  have hb := hI.b
  refine sX6_crowd_0 ha (m_asksHour hw hI (fun σ1 r1 p1 f1 => ?_))
  have h := h σ1 f1
  have hw1 := hw.sc f1
  unfold oCrowd at h
  refine zbr (fun c => ⟨_, rfl, by rw [if_neg c] at h; exact h⟩) (fun c => ?_)
  rw [if_pos c] at h
  obtain ⟨e, hl⟩ := okH hI c
  refine loopN (N := w 4) (I := fun k => AW 15 [some (zR 0 0), some (zI t), some (zI (nI (obMax (obCrowd w (obAs w) t.toNatClampNeg) k))), some (zI (nI k))] [] σ1) ?_ (fun k hk ih => ?_) 0 (Nat.zero_le _)
  · exact sX6_crowd_15 ha (m_posts hw1 (zltN (by omega) (by omega) (fun c => absurd c (by omega)) (fun _ => ⟨_, rfl, h⟩)))
  · refine sX6_crowd_15 ha (m_posts hw1 (zltN (by omega) (by omega) (fun _ => m_hereOf hw1 hI r1 e hl (m_bits rfl (Nat.lt_trans (obHere_lt hI) (by decide)) (z_max rfl rfl (Nat.lt_of_le_of_lt (obMax_le (fun k => obCnt_le _ _) _) (by decide)) (Nat.lt_of_le_of_lt (obCnt_le _ _) (by decide)) ?_))) (fun c => absurd hk (Nat.not_lt.mpr c))))
    rw [c1, nI_add]; exact ih
theorem x_crowd {G : zG} {d : Nat} {w : Nat → Nat} {σ : zS} {t : Int32} {K : Int32 → zS → Prop} (hw : wX w σ) (hI : obInv w) (h : ∀ σ', xSc σ σ' → K (oCrowd w t) σ') : zCallI zcl Zx G (d + 9) mX0_crowd [zR 0 0, zI t] σ K := by
  refine zmeth VX0_ok pX0_crowd rfl (by decide) (Nat.le_of_ble_eq_true rfl) (fun AW ha => ?_)
  have hb := hI.b
  unfold oCrowd at h
  refine sX0_crowd_0 ha (x_isHour hw hI ?_)
  rw [i64]
  refine zbr (fun c => ⟨_, rfl, by have h := h σ xSc.refl; rw [if_neg c] at h; exact h⟩) (fun c => x_is hw hI (fun σ1 r1 p1 f1 => ?_))
  have h := h σ1 f1
  have hw1 := hw.sc f1
  rw [if_pos c] at h
  obtain ⟨e, hl⟩ := okH hI c
  refine loopN (N := w 4) (I := fun k => AW 21 [some (zR 0 0), some (zI t), some (zI (nI (obMax (obCrowd w (obAs w) t.toNatClampNeg) k))), some (zI (nI k))] [] σ1) ?_ (fun k hk ih => ?_) 0 (Nat.zero_le _)
  · exact sX0_crowd_21 ha (x_posts hw1 (zltN (by omega) (by omega) (fun c => absurd c (by omega)) (fun _ => ⟨_, rfl, h⟩)))
  · refine sX0_crowd_21 ha (x_posts hw1 (zltN (by omega) (by omega) (fun _ => x_hereIn hw1 hI r1 e hl (x_size rfl (obHere_lt hI) (z_max rfl rfl (Nat.lt_of_le_of_lt (obMax_le (fun k => obCnt_le _ _) _) (by decide)) (Nat.lt_of_le_of_lt (obCnt_le _ _) (by decide)) ?_))) (fun c => absurd hk (Nat.not_lt.mpr c))))
    rw [c1, nI_add]; exact ih
/-- two walkers -/
abbrev twOk (w : Nat → Nat) (a b : Int32) : Prop := wkOk w a ∧ wkOk w b ∧ ¬ a = b
theorem m_areTwo {G : zG} {d : Nat} {w : Nat → Nat} {σ : zS} {a b : Int32} {K : Int32 → zS → Prop} (hw : wM w σ) (hI : obInv w) (h : K (bI (twOk w a b)) σ) : zCallI zcl Zm G (d + 2) mX6_areTwo [zR 0 0, zI a, zI b] σ K := by
  refine zmeth VX6_ok pX6_areTwo rfl (by decide) (Nat.le_of_ble_eq_true rfl) (fun AW ha => ?_)
  refine sX6_areTwo_0 ha (m_isWalker hw hI ?_)
  rw [i64]
  refine zbr (fun c => ⟨Or.inl rfl, _, rfl, by rw [bI_f (fun q => c q.1)] at h; exact h⟩) (fun c => m_isWalker hw hI ?_)
  rw [i64]
  refine zbr (fun c2 => ⟨Or.inl rfl, _, rfl, by rw [bI_f (fun q => c2 q.2.1)] at h; exact h⟩) (fun c2 => ⟨fun c3 => ⟨Or.inl rfl, _, rfl, by rw [bI_f (fun q => q.2.2 c3)] at h; exact h⟩, fun c3 => ⟨Or.inr rfl, _, rfl, by rw [bI_t ⟨c, c2, c3⟩] at h; exact h⟩⟩)
theorem x_areTwo {G : zG} {d : Nat} {w : Nat → Nat} {σ : zS} {a b : Int32} {K : Int32 → zS → Prop} (hw : wX w σ) (hI : obInv w) (h : K (bI (twOk w a b)) σ) : zCallI zcl Zx G (d + 3) mX0_areTwo [zR 0 0, zI a, zI b] σ K := by
  refine zmeth VX0_ok pX0_areTwo rfl (by decide) (Nat.le_of_ble_eq_true rfl) (fun AW ha => ?_)
  refine sX0_areTwo_0 ha (x_isWalker hw hI ?_)
  rw [i64]
  refine zbr (fun c => ⟨Or.inl rfl, _, rfl, by rw [bI_f (fun q => c q.1)] at h; exact h⟩) (fun c => x_isWalker hw hI ?_)
  rw [i64]
  refine zbr (fun c2 => ⟨Or.inl rfl, _, rfl, by rw [bI_f (fun q => c2 q.2.1)] at h; exact h⟩) (fun c2 => ⟨fun c3 => ⟨Or.inl rfl, _, rfl, by rw [bI_f (fun q => q.2.2 c3)] at h; exact h⟩, fun c3 => ⟨Or.inr rfl, _, rfl, by rw [bI_t ⟨c, c2, c3⟩] at h; exact h⟩⟩)
def obMeet (w : Nat → Nat) (P : obP) (i j : Nat) : Option Nat := obFst (fun t => !decide (pI (pl w P t i) = -1) && decide (pI (pl w P t i) = pI (pl w P t j))) (w 0 + 1) 0
def oMeet (w : Nat → Nat) (a b : Int32) : Int32 := if twOk w a b then pI (obMeet w (obAs w) a.toNatClampNeg b.toNatClampNeg) else -2
theorem m_meet {G : zG} {d : Nat} {w : Nat → Nat} {σ : zS} {a b : Int32} {K : Int32 → zS → Prop} (hw : wM w σ) (hI : obInv w) (h : ∀ σ', mSc σ σ' → K (oMeet w a b) σ') : zCallI zcl Zm G (d + 8) mX6_meet [zR 0 0, zI a, zI b] σ K := by
  refine zmeth VX6_ok pX6_meet rfl (by decide) (Nat.le_of_ble_eq_true rfl) (fun AW ha => ?_)
  have hb := hI.b
  refine sX6_meet_0 ha (m_asksHeath hw hI (fun σ1 r1 p1 f1 => m_areTwo (hw.fr f1) hI ?_))
  have h := h σ1 f1.wk
  have hw1 : wM w σ1 := hw.fr f1
  unfold oMeet at h
  refine zbr (fun c => ⟨_, rfl, by rw [if_neg c] at h; exact h⟩) (fun c => ?_)
  rw [if_pos c] at h
  obtain ⟨e, hl⟩ := okN c.1
  obtain ⟨e2, hl2⟩ := okN c.2.1
  refine loopF (N := w 0 + 1) (K := fun q => K (pI q) σ1) (I := fun k => AW 19 [some (zR 0 0), some (zI a), some (zI b), some (zI (nI k))] [] σ1) h (fun h1 => ?_) (fun k hk h1 h2 => ?_)
  · exact sX6_meet_19 ha (m_hours hw1 (zltN (by omega) (by omega) (fun _ => ⟨_, rfl, h1⟩) (fun c => absurd c (by omega))))
  · refine sX6_meet_19 ha (m_hours hw1 (zltN (by omega) (by omega) (fun c => absurd c (by omega)) (fun _ => m_placeOf hI r1 e rfl hl (by omega) ⟨fun c2 => ?_, fun c2 => m_placeOf hI r1 e rfl hl (by omega) (m_placeOf hI r1 e2 rfl hl2 (by omega) ⟨fun c3 => ⟨_, rfl, h1 (by rw [decide_eq_false c2, decide_eq_true c3]; rfl)⟩, fun c3 => ?_⟩)⟩)))
    · rw [c1, nI_add]; exact h2 (by simp [c2])
    · rw [c1, nI_add]; exact h2 (by simp [c3])
theorem x_meet {G : zG} {d : Nat} {w : Nat → Nat} {σ : zS} {a b : Int32} {K : Int32 → zS → Prop} (hw : wX w σ) (hI : obInv w) (h : ∀ σ', xSc σ σ' → K (oMeet w a b) σ') : zCallI zcl Zx G (d + 9) mX0_meet [zR 0 0, zI a, zI b] σ K := by
  refine zmeth VX0_ok pX0_meet rfl (by decide) (Nat.le_of_ble_eq_true rfl) (fun AW ha => ?_)
  have hb := hI.b
  unfold oMeet at h
  refine sX0_meet_0 ha (x_areTwo hw hI (zbr (fun c => ⟨_, rfl, by have h := h σ xSc.refl; rw [if_neg c] at h; exact h⟩) (fun c => x_is hw hI (fun σ1 r1 p1 f1 => ?_))))
  have h := h σ1 f1
  have hw1 := hw.sc f1
  rw [if_pos c] at h
  obtain ⟨e, hl⟩ := okN c.1
  obtain ⟨e2, hl2⟩ := okN c.2.1
  refine loopF (N := w 0 + 1) (K := fun q => K (pI q) σ1) (I := fun k => AW 19 [some (zR 0 0), some (zI a), some (zI b), some (zI (nI k))] [] σ1) h (fun h1 => ?_) (fun k hk h1 h2 => ?_)
  · refine sX0_meet_19 ha ?_
    rw [hw1.2.1.1]
    exact zltN (by omega) (by omega) (fun _ => ⟨_, rfl, h1⟩) (fun c => absurd c (by omega))
  · refine sX0_meet_19 ha ?_
    rw [hw1.2.1.1]
    refine zltN (by omega) (by omega) (fun c => absurd c (by omega)) (fun _ => x_hat hI r1 e rfl hl (by omega) ⟨fun c2 => ?_, fun c2 => x_hat hI r1 e rfl hl (by omega) (x_hat hI r1 e2 rfl hl2 (by omega) ⟨fun c3 => ⟨_, rfl, h1 (by rw [decide_eq_false c2, decide_eq_true c3]; rfl)⟩, fun c3 => ?_⟩)⟩)
    · rw [c1, nI_add]; exact h2 (by simp [c2])
    · rw [c1, nI_add]; exact h2 (by simp [c3])
/-- the busiest post -/
def obBusy (f : Nat → Int32) : Nat → Option Nat
  | 0 => none
  | n + 1 => match obBusy f n with
    | none => some n
    | some b => if f b < f n then some n else some b
theorem obBusy_lt {f : Nat → Int32} {n b : Nat} (h : obBusy f n = some b) : b < n := by
  induction n generalizing b with
  | zero => cases h
  | succ n ih =>
    simp only [obBusy] at h
    cases e : obBusy f n with
    | none => rw [e] at h; simp at h; omega
    | some c =>
      rw [e] at h
      have := ih e
      simp only at h
      split at h <;> simp at h <;> omega
def oBusy (w : Nat → Nat) : Int32 := if 0 < w 9 then pI (obBusy (fun p => nI (obSends w (obAs w) p)) (w 4)) else -2
theorem m_busy {G : zG} {d : Nat} {w : Nat → Nat} {σ : zS} {K : Int32 → zS → Prop} (hw : wM w σ) (hI : obInv w) (h : ∀ σ', mSc σ σ' → K (oBusy w) σ') : zCallI zcl Zm G (d + 8) mX6_busy [zR 0 0] σ K := by
  refine zmeth VX6_ok pX6_busy rfl (by decide) (Nat.le_of_ble_eq_true rfl) (fun AW ha => ?_)
  have hb := hI.b
  refine sX6_busy_0 ha (m_asksHeath hw hI (fun σ1 r1 p1 f1 => ?_))
  have h := h σ1 f1.wk
  have hw1 : wM w σ1 := hw.fr f1
  unfold oBusy at h
  refine zbr (fun c => ⟨_, rfl, by rw [if_neg c] at h; exact h⟩) (fun c => ?_)
  rw [if_pos c] at h
  refine loopN (N := w 4) (I := fun k => AW 14 [some (zR 0 0), some (zI (pI (obBusy (fun p => nI (obSends w (obAs w) p)) k))), some (zI (nI k))] [] σ1) ?_ (fun k hk ih => ?_) 0 (Nat.zero_le _)
  · exact sX6_busy_14 ha (m_posts hw1 (zltN (by omega) (by omega) (fun c => absurd c (by omega)) (fun _ => ⟨_, rfl, h⟩)))
  · refine sX6_busy_14 ha (m_posts hw1 (zltN (by omega) (by omega) (fun _ => ?_) (fun c => absurd hk (Nat.not_lt.mpr c))))
    rw [c1, nI_add]
    simp only [obBusy] at ih
    cases e : obBusy (fun p => nI (obSends w (obAs w) p)) k with
    | none => rw [e] at ih; exact ⟨fun _ => ih, fun c => absurd rfl c⟩
    | some b =>
      have hbk := obBusy_lt e
      rw [e] at ih
      refine ⟨fun q => absurd q (pI_ne (by omega)), fun _ => m_sendsOf r1 rfl (by omega) (m_sendsOf r1 rfl (by omega) ⟨fun c2 => ?_, fun c2 => ?_⟩)⟩
      · simp only [if_pos c2] at ih; exact ih
      · simp only [if_neg c2] at ih; exact ih
theorem x_busy {G : zG} {d : Nat} {w : Nat → Nat} {σ : zS} {K : Int32 → zS → Prop} (hw : wX w σ) (hI : obInv w) (h : ∀ σ', xSc σ σ' → K (oBusy w) σ') : zCallI zcl Zx G (d + 9) mX0_busy [zR 0 0] σ K := by
  refine zmeth VX0_ok pX0_busy rfl (by decide) (Nat.le_of_ble_eq_true rfl) (fun AW ha => ?_)
  have hb := hI.b
  unfold oBusy at h
  refine sX0_busy_0 ha (x_isHeath hw hI (zbr (fun c => ⟨_, rfl, by have h := h σ xSc.refl; rw [if_neg c] at h; exact h⟩) (fun c => x_is hw hI (fun σ1 r1 p1 f1 => ?_))))
  have h := h σ1 f1
  have hw1 := hw.sc f1
  rw [if_pos c] at h
  refine loopN (N := w 4) (I := fun k => AW 22 [some (zR 0 0), some (zI (pI (obBusy (fun p => nI (obSends w (obAs w) p)) k))), some (zI (nI k))] [] σ1) ?_ (fun k hk ih => ?_) 0 (Nat.zero_le _)
  · exact sX0_busy_22 ha (x_posts hw1 (zltN (by omega) (by omega) (fun c => absurd c (by omega)) (fun _ => ⟨_, rfl, h⟩)))
  · refine sX0_busy_22 ha (x_posts hw1 (zltN (by omega) (by omega) (fun _ => ?_) (fun c => absurd hk (Nat.not_lt.mpr c))))
    rw [c1, nI_add]
    simp only [obBusy] at ih
    cases e : obBusy (fun p => nI (obSends w (obAs w) p)) k with
    | none => rw [e] at ih; exact ⟨fun _ => ih, fun c => absurd rfl c⟩
    | some b =>
      have hbk := obBusy_lt e
      rw [e] at ih
      refine ⟨fun q => absurd q (pI_ne (by omega)), fun _ => x_sendsOf r1 rfl (by omega) (x_sendsOf r1 rfl (by omega) ⟨fun c2 => ?_, fun c2 => ?_⟩)⟩
      · simp only [if_pos c2] at ih; exact ih
      · simp only [if_neg c2] at ih; exact ih
/-- the posts that sent nobody -/
def oIdle (w : Nat → Nat) : Int32 := if 0 < w 9 then nI (obSet (fun p => decide (nI (obSends w (obAs w) p) = 0)) (w 4)) else -2
theorem m_idle {G : zG} {d : Nat} {w : Nat → Nat} {σ : zS} {K : Int32 → zS → Prop} (hw : wM w σ) (hI : obInv w) (h : ∀ σ', mSc σ σ' → K (oIdle w) σ') : zCallI zcl Zm G (d + 8) mX6_idle [zR 0 0] σ K := by
  refine zmeth VX6_ok pX6_idle rfl (by decide) (Nat.le_of_ble_eq_true rfl) (fun AW ha => ?_)
  have hb := hI.b
  refine sX6_idle_0 ha (m_asksHeath hw hI (fun σ1 r1 p1 f1 => ?_))
  have h := h σ1 f1.wk
  have hw1 : wM w σ1 := hw.fr f1
  unfold oIdle at h
  refine zbr (fun c => ⟨_, rfl, by rw [if_neg c] at h; exact h⟩) (fun c => ?_)
  rw [if_pos c] at h
  refine loopN (N := w 4) (I := fun k => AW 14 [some (zR 0 0), some (zI (nI (obSet (fun p => decide (nI (obSends w (obAs w) p) = 0)) k))), some (zI (nI k))] [] σ1) ?_ (fun k hk ih => ?_) 0 (Nat.zero_le _)
  · exact sX6_idle_14 ha (m_posts hw1 (zltN (by omega) (by omega) (fun c => absurd c (by omega)) (fun _ => ⟨_, rfl, h⟩)))
  · refine sX6_idle_14 ha (m_posts hw1 (zltN (by omega) (by omega) (fun _ => m_sendsOf r1 rfl (by omega) ⟨fun c2 => ?_, fun c2 => ?_⟩) (fun c => absurd hk (Nat.not_lt.mpr c))))
    · rw [obSet_t (c := fun p => decide (nI (obSends w (obAs w) p) = 0)) (decide_eq_true c2) (by omega), c1, nI_add]; exact ih
    · rw [obSet_f (c := fun p => decide (nI (obSends w (obAs w) p) = 0)) (decide_eq_false c2), c1, nI_add]; exact ih
theorem x_idle {G : zG} {d : Nat} {w : Nat → Nat} {σ : zS} {K : Int32 → zS → Prop} (hw : wX w σ) (hI : obInv w) (h : ∀ σ', xSc σ σ' → K (oIdle w) σ') : zCallI zcl Zx G (d + 9) mX0_idle [zR 0 0] σ K := by
  refine zmeth VX0_ok pX0_idle rfl (by decide) (Nat.le_of_ble_eq_true rfl) (fun AW ha => ?_)
  have hb := hI.b
  unfold oIdle at h
  refine sX0_idle_0 ha (x_isHeath hw hI (zbr (fun c => ⟨_, rfl, by have h := h σ xSc.refl; rw [if_neg c] at h; exact h⟩) (fun c => x_is hw hI (fun σ1 r1 p1 f1 => ?_))))
  have h := h σ1 f1
  have hw1 := hw.sc f1
  rw [if_pos c] at h
  refine loopN (N := w 4) (I := fun k => AW 22 [some (zR 0 0), some (zI (nI (obSet (fun p => decide (nI (obSends w (obAs w) p) = 0)) k))), some (zI (nI k))] [] σ1) ?_ (fun k hk ih => ?_) 0 (Nat.zero_le _)
  · exact sX0_idle_22 ha (x_posts hw1 (zltN (by omega) (by omega) (fun c => absurd c (by omega)) (fun _ => ⟨_, rfl, h⟩)))
  · refine sX0_idle_22 ha (x_posts hw1 (zltN (by omega) (by omega) (fun _ => x_sendsOf r1 rfl (by omega) ⟨fun c2 => ?_, fun c2 => ?_⟩) (fun c => absurd hk (Nat.not_lt.mpr c))))
    · rw [obSet_t (c := fun p => decide (nI (obSends w (obAs w) p) = 0)) (decide_eq_true c2) (by omega), c1, nI_add]; exact ih
    · rw [obSet_f (c := fun p => decide (nI (obSends w (obAs w) p) = 0)) (decide_eq_false c2), c1, nI_add]; exact ih
/-- how many settings there are -/
def obProd (w : Nat → Nat) : Nat → Nat
  | 0 => 1
  | n + 1 => obProd w n * max 1 (obMany w n)
theorem m_settingMany {G : zG} {d : Nat} {w : Nat → Nat} {σ : zS} {K : Int32 → zS → Prop} (hw : wM w σ) (hI : obInv w) (h : K (nI (obProd w (w 4))) σ) : zCallI zcl Zm G (d + 1) mX6_settingMany [zR 0 0] σ K := by
  refine zmeth VX6_ok pX6_settingMany rfl (by decide) (Nat.le_of_ble_eq_true rfl) (fun AW ha => ?_)
  have hb := hI.b
  refine sX6_settingMany_0 ha (loopN (N := w 4) (I := fun k => AW 4 [some (zR 0 0), some (zI (nI (obProd w k))), some (zI (nI k))] [] σ) ?_ (fun k hk ih => ?_) 0 (Nat.zero_le _))
  · exact sX6_settingMany_4 ha (m_posts hw (zltN (by omega) (by omega) (fun c => absurd c (by omega)) (fun _ => ⟨_, rfl, h⟩)))
  · have h4 := hI.many (show k < 7 by omega)
    refine sX6_settingMany_4 ha (m_posts hw (zltN (by omega) (by omega) (fun _ => m_roadMany hw rfl (by omega) (z_max c1 rfl (by omega) (by omega) ?_)) (fun c => absurd hk (Nat.not_lt.mpr c))))
    rw [pk_mul, c1, nI_add]; exact ih
theorem x_settingsOf {G : zG} {d : Nat} {w : Nat → Nat} {σ : zS} {K : Int32 → zS → Prop} (hw : wX w σ) (hI : obInv w) (h : K (nI (obProd w (w 4))) σ) : zCallI zcl Zx G (d + 4) mX0_settingsOf [zR 0 0] σ K := by
  refine zmeth VX0_ok pX0_settingsOf rfl (by decide) (Nat.le_of_ble_eq_true rfl) (fun AW ha => ?_)
  have hb := hI.b
  refine sX0_settingsOf_0 ha (loopN (N := w 4) (I := fun k => AW 4 [some (zR 0 0), some (zI (nI (obProd w k))), some (zI (nI k))] [] σ) ?_ (fun k hk ih => ?_) 0 (Nat.zero_le _))
  · exact sX0_settingsOf_4 ha (x_posts hw (zltN (by omega) (by omega) (fun c => absurd c (by omega)) (fun _ => ⟨_, rfl, h⟩)))
  · have h4 := hI.many (show k < 7 by omega)
    refine sX0_settingsOf_4 ha (x_posts hw (zltN (by omega) (by omega) (fun _ => x_postOf hw hI rfl hk ⟨Nat.lt_of_lt_of_eq hk hw.C0.symm, ?_⟩) (fun c => absurd hk (Nat.not_lt.mpr c))))
    rw [hw.many hk]
    refine z_max c1 rfl (by omega) (by omega) ?_
    rw [pk_mul, c1, nI_add]; exact ih
def oSettings (w : Nat → Nat) : Int32 := if 0 < w 9 then nI (obProd w (w 4)) else -2
theorem m_settings {G : zG} {d : Nat} {w : Nat → Nat} {σ : zS} {K : Int32 → zS → Prop} (hw : wM w σ) (hI : obInv w) (h : ∀ σ', mSc σ σ' → K (oSettings w) σ') : zCallI zcl Zm G (d + 2) mX6_settings [zR 0 0] σ K := by
  refine zmeth VX6_ok pX6_settings rfl (by decide) (Nat.le_of_ble_eq_true rfl) (fun AW ha => ?_)
  have h := h σ mSc.refl
  unfold oSettings at h
  refine sX6_settings_0 ha (m_isHeath hw hI (zbr (fun c => ⟨_, rfl, by rw [if_neg c] at h; exact h⟩) (fun c => ?_)))
  rw [if_pos c] at h
  exact m_settingMany hw hI ⟨_, rfl, h⟩
theorem x_settings {G : zG} {d : Nat} {w : Nat → Nat} {σ : zS} {K : Int32 → zS → Prop} (hw : wX w σ) (hI : obInv w) (h : ∀ σ', xSc σ σ' → K (oSettings w) σ') : zCallI zcl Zx G (d + 5) mX0_settings [zR 0 0] σ K := by
  refine zmeth VX0_ok pX0_settings rfl (by decide) (Nat.le_of_ble_eq_true rfl) (fun AW ha => ?_)
  have h := h σ xSc.refl
  unfold oSettings at h
  refine sX0_settings_0 ha (x_isHeath hw hI (zbr (fun c => ⟨_, rfl, by rw [if_neg c] at h; exact h⟩) (fun c => ?_)))
  rw [if_pos c] at h
  exact x_settingsOf hw hI ⟨_, rfl, h⟩
/-- a setting's number -/
def obNumb (w a : Nat → Nat) : Nat → Nat × Nat
  | 0 => (0, 1)
  | n + 1 => if obMany w n = 0 then obNumb w a n else ((obNumb w a n).1 + (obNumb w a n).2 * a n, (obNumb w a n).2 * obMany w n)
theorem m_numberOf {G : zG} {d : Nat} {w a : Nat → Nat} {σ : zS} {K : Int32 → zS → Prop} (hw : wM w σ) (hI : obInv w) (hA : agr (w 4) (gA σ 29 0) a) (h : K (nI (obNumb w a (w 4)).1) σ) : zCallI zcl Zm G (d + 1) mX6_numberOf [zR 0 0] σ K := by
  refine zmeth VX6_ok pX6_numberOf rfl (by decide) (Nat.le_of_ble_eq_true rfl) (fun AW ha => ?_)
  have hb := hI.b
  refine sX6_numberOf_0 ha (loopN (N := w 4) (I := fun k => AW 6 [some (zR 0 0), some (zI (nI (obNumb w a k).1)), some (zI (nI (obNumb w a k).2)), some (zI (nI k))] [] σ) ?_ (fun k hk ih => ?_) 0 (Nat.zero_le _))
  · exact sX6_numberOf_6 ha (m_posts hw (zltN (by omega) (by omega) (fun c => absurd c (by omega)) (fun _ => ⟨_, rfl, h⟩)))
  · have h4 := hI.many (show k < 7 by omega)
    refine sX6_numberOf_6 ha (m_posts hw (zltN (by omega) (by omega) (fun _ => m_roadMany hw rfl (by omega) ?_) (fun c => absurd hk (Nat.not_lt.mpr c))))
    simp only [obNumb] at ih
    rw [← nI_0]
    refine zeqN (by omega) (by omega) (fun c2 => ?_) (fun c2 => ⟨zix _ rfl (by omega), m_roadMany hw rfl (by omega) ?_⟩)
    · rw [c1, nI_add]; simp only [if_pos c2] at ih; exact ih
    · rw [zcl_n k rfl, hA k hk, pk_mul, nI_add, pk_mul, c1, nI_add]
      simp only [if_neg c2] at ih; exact ih
theorem m_someAt {G : zG} {d : Nat} {w : Nat → Nat} {P : obP} {t : Nat} {y : Int32} {σ : zS} {K : zS → Prop} (hI : obInv w) (hr : mRan w P σ) (hy : y = nI t) (ht : t ≤ w 0) (h : ∀ σ', agr 7 (gA σ' 29 0) (obAt w P t).1 → zFr [] [] [29] [] σ σ' → K σ') : zCallV zcl Zm G d mX6_someAt [zR 0 0, zI y] σ K := by
  refine zmeth VX6_ok pX6_someAt rfl (by decide) (Nat.le_of_ble_eq_true rfl) (fun AW ha => ?_)
  have hb := hI.b
  refine sX6_someAt_0 ha (loopN (N := 7) (I := fun k => ∀ σ', agr k (gA σ' 29 0) (obAt w P t).1 → zFr [] [] [29] [] σ σ' → AW 2 [some (zR 0 0), some (zI y), some (zI (nI k))] [] σ') (fun σ' h1 f1 => ?_) (fun k hk ih σ' h1 f1 => ?_) 0 (Nat.zero_le _) σ (fun j hj => absurd hj (by omega)) zFr.refl)
  · exact sX6_someAt_2 ha ⟨fun c => absurd c (by decide), fun _ => ⟨rfl, h σ' h1 f1⟩⟩
  · refine sX6_someAt_2 ha ?_
    rw [c7]
    refine zltN (by omega) (by omega) (fun _ => ?_) (fun c => absurd hk (Nat.not_lt.mpr c))
    have e : nI 7 * y + nI k = nI (7 * t + k) := by rw [hy, pk_mul, nI_add]
    refine ⟨zix _ e (by omega), zix _ rfl (by omega), ?_⟩
    rw [zcl_n _ e, zcl_n k rfl, c1, nI_add]
    have hv : gA σ' 23 0 (7 * t + k) = nI ((obAt w P t).1 k) := by rw [f1.A 23]; exact (hr.1 t (by omega)).2 k hk
    exact ih _ (agr_s h1 hv) (zFr.uA f1 29 _)
theorem m_settingAt {G : zG} {d : Nat} {w : Nat → Nat} {P : obP} {t : Nat} {y : Int32} {σ : zS} {K : Int32 → zS → Prop} (hw : wM w σ) (hI : obInv w) (hr : mRan w P σ) (hy : y = nI t) (ht : t ≤ w 0) (h : ∀ σ', zFr [] [] [29] [] σ σ' → K (nI (obNumb w (obAt w P t).1 (w 4)).1) σ') : zCallI zcl Zm G (d + 2) mX6_settingAt [zR 0 0, zI y] σ K := by
  refine zmeth VX6_ok pX6_settingAt rfl (by decide) (Nat.le_of_ble_eq_true rfl) (fun AW ha => ?_)
  have hb := hI.b
  exact sX6_settingAt_0 ha (m_someAt hI hr hy ht (fun σ' h1 f1 => m_numberOf (hw.fr f1) hI (fun j hj => h1 j (by omega)) ⟨_, rfl, h σ' f1⟩))
theorem x_setting {G : zG} {d : Nat} {w a : Nat → Nat} {t : Nat} {y : Int32} {σ : zS} {K : Int32 → zS → Prop} (hw : wX w σ) (hI : obInv w) (hA : ∀ p, p < w 4 → obMany w p ≠ 0 → gA σ 26 0 (7 * t + p) = nI (a p)) (hy : y = nI t) (ht : t ≤ w 0) (h : K (nI (obNumb w a (w 4)).1) σ) : zCallI zcl Zx G (d + 4) mX3_setting [zR 2 0, zI y] σ K := by
  refine zmeth VX3_ok pX3_setting rfl (by decide) (Nat.le_of_ble_eq_true rfl) (fun AW ha => ?_)
  have hb := hI.b
  refine sX3_setting_0 ha (loopN (N := w 4) (I := fun k => AW 7 [some (zR 2 0), some (zI y), some (zI (nI (obNumb w a k).1)), some (zI (nI (obNumb w a k).2)), some (zI (nI k))] [] σ) ?_ (fun k hk ih => ?_) 0 (Nat.zero_le _))
  · exact sX3_setting_7 ha (x_posts hw (zltN (by omega) (by omega) (fun c => absurd c (by omega)) (fun _ => ⟨_, rfl, h⟩)))
  · have h4 := hI.many (show k < 7 by omega)
    have hC := Nat.lt_of_lt_of_eq hk hw.C0.symm
    refine sX3_setting_7 ha (x_posts hw (zltN (by omega) (by omega) (fun _ => x_postOf hw hI rfl hk ⟨hC, ?_⟩) (fun c => absurd hk (Nat.not_lt.mpr c))))
    simp only [obNumb] at ih
    rw [hw.many hk, ← nI_0]
    have e : (7 : Int32) * y + nI k = nI (7 * t + k) := by rw [hy, c7, pk_mul, nI_add]
    refine zeqN (by omega) (by omega) (fun c2 => ?_) (fun c2 => ⟨zix _ e (by omega), x_postOf hw hI rfl hk ⟨hC, ?_⟩⟩)
    · rw [c1, nI_add]; simp only [if_pos c2] at ih; exact ih
    · rw [zcl_n _ e, hA k hk c2, hw.many hk, pk_mul, nI_add, pk_mul, c1, nI_add]
      simp only [if_neg c2] at ih; exact ih
