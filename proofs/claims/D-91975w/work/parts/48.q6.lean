/-! QUESTIONS: a wanderer alone -/
theorem anyAgr (N : Nat) (f : Nat → Int32) : ∃ u, agr N f u := ⟨fun j => (f j).toBitVec.toNat, fun j _ => by
  apply Int32.toBitVec_inj.mp
  show (f j).toBitVec = BitVec.ofNat 32 (f j).toBitVec.toNat
  exact (BitVec.ofNat_toNat _ _).symm.trans rfl |>.symm ▸ (by simp)⟩
theorem x_isIn {G : zG} {d q : Nat} {σ : zS} {K : Int32 → zS → Prop} (hq : gI σ 3 0 0 = nI q) (hl : q < 2 ^ 31) (h : K (bI (10 ≤ q)) σ) : zCallI zcl Zx G d mX4_isIn [zR 3 0] σ K := by
  refine zmeth VX4_ok pX4_isIn rfl (by decide) (Nat.le_of_ble_eq_true rfl) (fun AW ha => ?_)
  refine sX4_isIn_0 ha ?_
  rw [hq, c10]
  refine zltN hl (by omega) (fun c => ⟨Or.inl rfl, _, rfl, by rw [bI_f (by omega)] at h; exact h⟩) (fun c => ⟨Or.inr rfl, _, rfl, by rw [bI_t c] at h; exact h⟩)
theorem x_solo {G : zG} {d : Nat} {w a : Nat → Nat} {P : obP} {σ : zS} {p : Nat} {x : Int32} {K : Nat → zS → Prop} (hw : wX w σ) (hI : obInv w) (hP : xPar w P σ) (hPo : obPok w P) (hx : x = nI p) (hp : p < w 4) (hA : agr (w 4) (gA σ 24 0) a) (ha0 : obArmOk w a) (h : ∀ σ', agr (w 4) (gA σ' 24 0) (obSolo w P 600 a p 0).2.2 → gI σ' 3 0 0 = nI (obSolo w P 600 a p 0).1 → gI σ' 3 1 0 = nI (obSolo w P 600 a p 0).2.1 → xFr [(3, 0), (3, 1)] [24, 27] σ σ' → K 0 σ') : zCallR zcl Zx G (d + 6) mX4_goes [zR 3 0, zI x] σ 3 K := by
  refine zmeth VX4_ok pX4_goes rfl (by decide) (Nat.le_of_ble_eq_true rfl) (fun AW hA0 => ?_)
  have hb := hI.b
  have loop : ∀ (n s q : Nat) (b : Nat → Nat) (σ2 : zS), s + n = 600 → (q < w 4 ∨ (10 ≤ q ∧ q < 10 + w 3)) → obArmOk w b → agr (w 4) (gA σ2 24 0) b → gI σ2 3 0 0 = nI q → gI σ2 3 1 0 = nI s → xFr [(3, 0), (3, 1)] [24, 27] σ σ2 → obSolo w P n b q s = obSolo w P 600 a p 0 → AW 10 [some (zR 3 0), some (zI x)] [] σ2 := by
    intro n
    induction n with
    | zero =>
      intro s q b σ2 hs hq hbo hA2 hq2 hs2 f2 he
      refine sX4_goes_10 hA0 ?_
      have e : (q, s, b) = obSolo w P 600 a p 0 := he
      have h := h σ2 (by rw [← e]; exact hA2) (by rw [← e]; exact hq2) (by rw [← e]; exact hs2) f2
      rw [hs2, show (600 : Int32) = nI 600 from rfl]
      exact zltN (by omega) (by omega) (fun c => absurd c (by omega)) (fun _ => ⟨_, rfl, h⟩)
    | succ n ih =>
      intro s q b σ2 hs hq hbo hA2 hq2 hs2 f2 he
      refine sX4_goes_10 hA0 ?_
      have hw2 : wX w σ2 := hw.fr f2
      have fin : obSolo w P (n + 1) b q s = (q, s, b) → K 0 σ2 := fun e => by
        rw [e] at he
        exact h σ2 (by rw [← he]; exact hA2) (by rw [← he]; exact hq2) (by rw [← he]; exact hs2) f2
      rw [hs2, hq2, show (600 : Int32) = nI 600 from rfl]
      refine zltN (by omega) (by omega) (fun _ => ?_) (fun c => absurd c (by omega))
      rw [c10]
      refine zltN (by omega) (by omega) (fun c1' => ?_) (fun c1' => ⟨_, rfl, fin (obSolo_in c1')⟩)
      have hq4 : q < w 4 := by omega
      have h4 := hI.many (show q < 7 by omega)
      refine x_postOf hw2 hI rfl hq4 ⟨Nat.lt_of_lt_of_eq hq4 hw2.C0.symm, ?_⟩
      rw [hw2.many hq4, ← nI_0]
      refine zltN (by omega) (by omega) (fun c => ?_) (fun c => ⟨_, rfl, fin (obSolo_0 (by omega))⟩)
      have hr := obSendR_lt (P := P) hbo (show q < 7 by omega) c
      have ht := hI.to (show q < 7 by omega) hr
      rw [obSolo_s (by omega) (by omega)] at he
      obtain ⟨u, hu⟩ := anyAgr 28 (gA σ2 27 0)
      rw [hq2]
      refine x_postOf hw2 hI rfl hq4 ⟨Nat.lt_of_lt_of_eq hq4 hw2.C0.symm, ?_⟩
      rw [hq2]
      refine x_sends hw2 hI (hP.fr f2) hPo rfl hq4 c hA2 hbo hu (fun σ3 hA3 _ f3 => ?_)
      have hw3 : wX w σ3 := hw2.fr f3
      refine ⟨Nat.lt_of_lt_of_eq hq4 hw3.C0.symm, zix _ rfl (by omega), ?_⟩
      have e0 : gA σ3 13 q (nI (obSendR w P b q)).toNatClampNeg = nI (obTo w q (obSendR w P b q)) := by rw [zcl_n _ rfl]; exact hw3.to hq4 _ (by omega)
      have hs3 : gI σ3 3 1 0 = nI s := (f3.I 3 1 0).trans hs2
      have f4 : xFr [(3, 0), (3, 1)] [24, 27] σ (uI (uI σ3 3 0 0 (gA σ3 13 q (nI (obSendR w P b q)).toNatClampNeg)) 3 1 0 (gI σ3 3 1 0 + 1)) := xFr.uI (xFr.uI (xFr.trans f2 f3.wk) 3 0 _) 3 1 _
      have hs4 : gI (uI (uI σ3 3 0 0 (gA σ3 13 q (nI (obSendR w P b q)).toNatClampNeg)) 3 1 0 (gI σ3 3 1 0 + 1)) 3 1 0 = nI (s + 1) := by
        show gI σ3 3 1 0 + 1 = _
        rw [hs3, c1, nI_add]
      have hq5 : gI (uI (uI σ3 3 0 0 (gA σ3 13 q (nI (obSendR w P b q)).toNatClampNeg)) 3 1 0 (gI σ3 3 1 0 + 1)) 3 0 0 = nI (obTo w q (obSendR w P b q)) := e0
      exact ih (s + 1) _ _ _ (by omega) ht (obSendA_ok hbo c) hA3 hq5 hs4 f4 he
  rw [hx] at loop ⊢
  exact sX4_goes_0 hA0 (loop 600 0 p a _ (by omega) (Or.inl hp) ha0 hA rfl (by rw [← nI_0]; rfl) (xFr.uI (xFr.uI xFr.refl 3 0 _) 3 1 _) rfl)
theorem m_soloBegin {G : zG} {d : Nat} {w : Nat → Nat} {σ : zS} {K : zS → Prop} (hw : wM w σ) (hI : obInv w) (h : ∀ σ', mPar (obAs w) σ' → agr 7 (gA σ' 20 0) (obArm w) → mSc σ σ' → K σ') : zCallV zcl Zm G (d + 2) mX6_soloBegin [zR 0 0] σ K := by
  refine zmeth VX6_ok pX6_soloBegin rfl (by decide) (Nat.le_of_ble_eq_true rfl) (fun AW ha => ?_)
  refine sX6_soloBegin_0 ha (m_asItIs hw (fun σ1 p1 f1 => ?_))
  refine loopN (N := 7) (I := fun k => ∀ σ2, agr k (gA σ2 20 0) (obArm w) → zFr [] [] [20] [] σ1 σ2 → AW 6 [some (zR 0 0), some (zI (nI k))] [] σ2) (fun σ2 h2 f2 => ?_) (fun k hk ih σ2 h2 f2 => ?_) 0 (Nat.zero_le _) σ1 (fun j hj => absurd hj (by omega)) zFr.refl
  · exact sX6_soloBegin_6 ha ⟨fun c => absurd c (by decide), fun _ => ⟨rfl, h σ2 (p1.fr f2) h2 (zFr.trans f1.wk f2.wk)⟩⟩
  · refine sX6_soloBegin_6 ha ?_
    rw [c7]
    refine zltN (by omega) (by omega) (fun _ => m_armOf (hw.sc (zFr.trans f1.wk f2.wk)) rfl hk ⟨zix _ rfl hk, ?_⟩) (fun c => absurd hk (Nat.not_lt.mpr c))
    rw [zcl_n k rfl, c1, nI_add]
    exact ih _ (agr_s h2 rfl) (zFr.uA f2 20 _)
theorem m_soloSetting {G : zG} {d : Nat} {w a : Nat → Nat} {σ : zS} {K : Int32 → zS → Prop} (hw : wM w σ) (hI : obInv w) (hA : agr 7 (gA σ 20 0) a) (h : ∀ σ', zFr [] [] [29] [] σ σ' → K (nI (obNumb w a (w 4)).1) σ') : zCallI zcl Zm G (d + 2) mX6_soloSetting [zR 0 0] σ K := by
  refine zmeth VX6_ok pX6_soloSetting rfl (by decide) (Nat.le_of_ble_eq_true rfl) (fun AW ha => ?_)
  have hb := hI.b
  refine sX6_soloSetting_0 ha (loopN (N := 7) (I := fun k => ∀ σ2, agr k (gA σ2 29 0) a → zFr [] [] [29] [] σ σ2 → AW 2 [some (zR 0 0), some (zI (nI k))] [] σ2) (fun σ2 h2 f2 => ?_) (fun k hk ih σ2 h2 f2 => ?_) 0 (Nat.zero_le _) σ (fun j hj => absurd hj (by omega)) zFr.refl)
  · exact sX6_soloSetting_2 ha ⟨fun c => absurd c (by decide), fun _ => m_numberOf (hw.fr f2) hI (fun j hj => h2 j (by omega)) ⟨_, rfl, h σ2 f2⟩⟩
  · refine sX6_soloSetting_2 ha ?_
    rw [c7]
    refine zltN (by omega) (by omega) (fun _ => ⟨zix _ rfl hk, zix _ rfl hk, ?_⟩) (fun c => absurd hk (Nat.not_lt.mpr c))
    rw [zcl_n k rfl, c1, nI_add]
    have hv : gA σ2 20 0 k = nI (a k) := by rw [f2.A 20]; exact hA k hk
    exact ih _ (agr_s h2 hv) (zFr.uA f2 29 _)
theorem x_settingNow {G : zG} {d : Nat} {w a : Nat → Nat} {σ : zS} {K : Int32 → zS → Prop} (hw : wX w σ) (hI : obInv w) (hA : agr (w 4) (gA σ 24 0) a) (h : ∀ σ', xFr [] [26] σ σ' → K (nI (obNumb w a (w 4)).1) σ') : zCallI zcl Zx G (d + 5) mX3_settingNow [zR 2 0] σ K := by
  refine zmeth VX3_ok pX3_settingNow rfl (by decide) (Nat.le_of_ble_eq_true rfl) (fun AW ha => ?_)
  have hb := hI.b
  refine sX3_settingNow_0 ha (loopN (N := w 4) (I := fun k => ∀ σ2, agr k (gA σ2 26 0) a → xFr [] [26] σ σ2 → AW 2 [some (zR 2 0), some (zI (nI k))] [] σ2) (fun σ2 h2 f2 => ?_) (fun k hk ih σ2 h2 f2 => ?_) 0 (Nat.zero_le _) σ (fun j hj => absurd hj (by omega)) xFr.refl)
  · exact sX3_settingNow_2 ha (x_posts (hw.fr f2) (zltN (by omega) (by omega) (fun c => absurd c (by omega)) (fun _ => x_setting (hw.fr f2) hI (fun p hp _ => by rw [show 7 * 0 + p = p by omega]; exact h2 p hp) nI_0.symm (Nat.zero_le _) ⟨_, rfl, h σ2 f2⟩)))
  · refine sX3_settingNow_2 ha (x_posts (hw.fr f2) (zltN (by omega) (by omega) (fun _ => ⟨zix _ rfl (by omega), zix _ rfl (by omega), ?_⟩) (fun c => absurd hk (Nat.not_lt.mpr c))))
    rw [zcl_n k rfl, c1, nI_add]
    have hv : gA σ2 24 0 k = nI (a k) := by rw [f2.A 24 0]; exact hA k hk
    exact ih _ (agr_s h2 hv) (xFr.uA f2 26 _)
theorem armOk0 {w : Nat → Nat} (hI : obInv w) : obArmOk w (obArm w) := (obAs_ok hI).2.2.2.1
abbrev obS (w : Nat → Nat) (a : Nat → Nat) (p : Nat) : Nat × Nat × (Nat → Nat) := obSolo w (obAs w) 600 a p 0
theorem obS_lt {w a : Nat → Nat} {p : Nat} (hI : obInv w) (ha : obArmOk w a) (hp : p < w 4) : (obS w a p).1 < 14 ∧ obArmOk w (obS w a p).2.2 := by
  have hb := hI.b
  have := obSolo_ok (P := obAs w) hI 600 a p 0 ha (Or.inl hp)
  exact ⟨show (obSolo w (obAs w) 600 a p 0).1 < 14 by have := this.2; omega, this.1⟩
theorem inn_m {R : Nat} {A B : Prop} (hR : R < 14) (h1 : R < 10 → A) (h2 : 10 ≤ R → B) : ((if R < 10 then (-1 : Int32) else nI (R - 10)) = -1 → A) ∧ (¬ (if R < 10 then (-1 : Int32) else nI (R - 10)) = -1 → B) := by
  by_cases c : R < 10
  · rw [if_pos c]; exact ⟨fun _ => h1 c, fun q => absurd rfl q⟩
  · rw [if_neg c]; exact ⟨fun q => absurd q (pI_ne (by omega)), fun _ => h2 (by omega)⟩
theorem x_first {G : zG} {d : Nat} {w : Nat → Nat} {σ : zS} {p : Nat} {x : Int32} {K : Nat → zS → Prop} (hw : wX w σ) (hI : obInv w) (hx : x = nI p) (hp : p < w 4) (h : ∀ σ', agr (w 4) (gA σ' 24 0) (obS w (obArm w) p).2.2 → gI σ' 3 0 0 = nI (obS w (obArm w) p).1 → gI σ' 3 1 0 = nI (obS w (obArm w) p).2.1 → xSc σ σ' → K 0 σ') : zCallR zcl Zx G (d + 7) mX0_first [zR 0 0, zI x] σ 3 K := by
  refine zmeth VX0_ok pX0_first rfl (by decide) (Nat.le_of_ble_eq_true rfl) (fun AW ha => ?_)
  refine sX0_first_0 ha (x_hoursIs hw hI (fun σ1 p1 a1 _ f1 => x_solo (hw.fr f1) hI p1 (obAs_ok hI) hx hp a1 (armOk0 hI) (fun σ2 h1 h2 h3 f2 => ⟨_, rfl, h σ2 h1 h2 h3 (xFr.trans f1.wk f2.wk)⟩)))
def oAlone (w : Nat → Nat) (a : Int32) : Int32 := if poOk w a then (if (obS w (obArm w) a.toNatClampNeg).1 < 10 then -1 else nI ((obS w (obArm w) a.toNatClampNeg).1 - 10)) else -2
theorem m_alone {G : zG} {d : Nat} {w : Nat → Nat} {σ : zS} {a : Int32} {K : Int32 → zS → Prop} (hw : wM w σ) (hI : obInv w) (h : ∀ σ', mSc σ σ' → K (oAlone w a) σ') : zCallI zcl Zm G (d + 4) mX6_alone [zR 0 0, zI a] σ K := by
  refine zmeth VX6_ok pX6_alone rfl (by decide) (Nat.le_of_ble_eq_true rfl) (fun AW ha => ?_)
  unfold oAlone at h
  refine sX6_alone_0 ha (m_isPost hw hI ?_)
  rw [i64]
  refine zbr (fun c => ⟨_, rfl, by have h := h σ mSc.refl; rw [if_neg c] at h; exact h⟩) (fun c => ?_)
  rw [if_pos c] at h
  obtain ⟨e, hl⟩ := okN c (by have := hI.b; omega)
  exact m_soloBegin hw hI (fun σ1 p1 a1 f1 => m_solo (hw.sc f1) hI p1 (obAs_ok hI) e hl a1 (armOk0 hI) (fun σ2 _ _ f2 => ⟨_, rfl, h σ2 (zFr.trans f1 f2.wk)⟩))
theorem sub10 {R : Nat} (h : 10 ≤ R) : nI R - 10 = nI (R - 10) := by
  rw [show nI R = nI (R - 10) + nI 10 by rw [nI_add]; congr 1; omega]
  exact Int32.add_sub_cancel _ _
theorem x_alone {G : zG} {d : Nat} {w : Nat → Nat} {σ : zS} {a : Int32} {K : Int32 → zS → Prop} (hw : wX w σ) (hI : obInv w) (h : ∀ σ', xSc σ σ' → K (oAlone w a) σ') : zCallI zcl Zx G (d + 8) mX0_alone [zR 0 0, zI a] σ K := by
  refine zmeth VX0_ok pX0_alone rfl (by decide) (Nat.le_of_ble_eq_true rfl) (fun AW ha => ?_)
  unfold oAlone at h
  refine sX0_alone_0 ha (x_isPost hw hI (zbr (fun c => ⟨_, rfl, by have h := h σ xSc.refl; rw [if_neg c] at h; exact h⟩) (fun c => ?_)))
  rw [if_pos c] at h
  obtain ⟨e, hl⟩ := okN c (by have := hI.b; omega)
  have h14 := obS_lt hI (armOk0 hI) hl
  refine x_first hw hI e hl (fun σ1 _ h2 h3 f1 => x_isIn h2 (by omega) ?_)
  have h := h σ1 f1
  refine zbr (fun c2 => ⟨_, rfl, by rw [if_pos (by omega)] at h; exact h⟩) (fun c2 => ⟨_, rfl, ?_⟩)
  rw [if_neg (by omega)] at h
  rw [h2, sub10 c2]; exact h
def oSteps (w : Nat → Nat) (a : Int32) : Int32 := if poOk w a then (if (obS w (obArm w) a.toNatClampNeg).1 < 10 then -1 else nI (obS w (obArm w) a.toNatClampNeg).2.1) else -2
theorem m_steps {G : zG} {d : Nat} {w : Nat → Nat} {σ : zS} {a : Int32} {K : Int32 → zS → Prop} (hw : wM w σ) (hI : obInv w) (h : ∀ σ', mSc σ σ' → K (oSteps w a) σ') : zCallI zcl Zm G (d + 4) mX6_steps [zR 0 0, zI a] σ K := by
  refine zmeth VX6_ok pX6_steps rfl (by decide) (Nat.le_of_ble_eq_true rfl) (fun AW ha => ?_)
  unfold oSteps at h
  refine sX6_steps_0 ha (m_isPost hw hI ?_)
  rw [i64]
  refine zbr (fun c => ⟨_, rfl, by have h := h σ mSc.refl; rw [if_neg c] at h; exact h⟩) (fun c => ?_)
  rw [if_pos c] at h
  obtain ⟨e, hl⟩ := okN c (by have := hI.b; omega)
  have h14 := obS_lt hI (armOk0 hI) hl
  refine m_soloBegin hw hI (fun σ1 p1 a1 f1 => m_solo (hw.sc f1) hI p1 (obAs_ok hI) e hl a1 (armOk0 hI) (fun σ2 _ h3 f2 => ?_))
  have h := h σ2 (zFr.trans f1 f2.wk)
  refine inn_m h14.1 (fun c2 => ⟨_, rfl, by rw [if_pos c2] at h; exact h⟩) (fun c2 => ⟨_, rfl, ?_⟩)
  rw [if_neg (Nat.not_lt.mpr c2)] at h
  rw [h3]; exact h
theorem x_steps {G : zG} {d : Nat} {w : Nat → Nat} {σ : zS} {a : Int32} {K : Int32 → zS → Prop} (hw : wX w σ) (hI : obInv w) (h : ∀ σ', xSc σ σ' → K (oSteps w a) σ') : zCallI zcl Zx G (d + 8) mX0_steps [zR 0 0, zI a] σ K := by
  refine zmeth VX0_ok pX0_steps rfl (by decide) (Nat.le_of_ble_eq_true rfl) (fun AW ha => ?_)
  unfold oSteps at h
  refine sX0_steps_0 ha (x_isPost hw hI (zbr (fun c => ⟨_, rfl, by have h := h σ xSc.refl; rw [if_neg c] at h; exact h⟩) (fun c => ?_)))
  rw [if_pos c] at h
  obtain ⟨e, hl⟩ := okN c (by have := hI.b; omega)
  have h14 := obS_lt hI (armOk0 hI) hl
  refine x_first hw hI e hl (fun σ1 _ h2 h3 f1 => x_isIn h2 (by omega) ?_)
  have h := h σ1 f1
  refine zbr (fun c2 => ⟨_, rfl, by rw [if_pos (by omega)] at h; exact h⟩) (fun c2 => ⟨_, rfl, ?_⟩)
  rw [if_neg (by omega)] at h
  rw [h3]; exact h
def oBehind (w : Nat → Nat) (a : Int32) : Int32 := if poOk w a then (if (obS w (obArm w) a.toNatClampNeg).1 < 10 then -1 else nI (obNumb w (obS w (obArm w) a.toNatClampNeg).2.2 (w 4)).1) else -2
theorem m_behind {G : zG} {d : Nat} {w : Nat → Nat} {σ : zS} {a : Int32} {K : Int32 → zS → Prop} (hw : wM w σ) (hI : obInv w) (h : ∀ σ', mSc σ σ' → K (oBehind w a) σ') : zCallI zcl Zm G (d + 4) mX6_behind [zR 0 0, zI a] σ K := by
  refine zmeth VX6_ok pX6_behind rfl (by decide) (Nat.le_of_ble_eq_true rfl) (fun AW ha => ?_)
  unfold oBehind at h
  refine sX6_behind_0 ha (m_isPost hw hI ?_)
  rw [i64]
  refine zbr (fun c => ⟨_, rfl, by have h := h σ mSc.refl; rw [if_neg c] at h; exact h⟩) (fun c => ?_)
  rw [if_pos c] at h
  obtain ⟨e, hl⟩ := okN c (by have := hI.b; omega)
  have h14 := obS_lt hI (armOk0 hI) hl
  refine m_soloBegin hw hI (fun σ1 p1 a1 f1 => m_solo (hw.sc f1) hI p1 (obAs_ok hI) e hl a1 (armOk0 hI) (fun σ2 h2 h3 f2 => ?_))
  refine inn_m h14.1 (fun c2 => ⟨_, rfl, ?_⟩) (fun c2 => m_soloSetting (hw.sc (zFr.trans f1 f2.wk)) hI h2 (fun σ3 f3 => ⟨_, rfl, ?_⟩))
  · have h := h σ2 (zFr.trans f1 f2.wk)
    rw [if_pos c2] at h; exact h
  · have h := h σ3 (zFr.trans f1 (zFr.trans f2.wk f3.wk))
    rw [if_neg (Nat.not_lt.mpr c2)] at h; exact h
theorem x_behind {G : zG} {d : Nat} {w : Nat → Nat} {σ : zS} {a : Int32} {K : Int32 → zS → Prop} (hw : wX w σ) (hI : obInv w) (h : ∀ σ', xSc σ σ' → K (oBehind w a) σ') : zCallI zcl Zx G (d + 8) mX0_behind [zR 0 0, zI a] σ K := by
  refine zmeth VX0_ok pX0_behind rfl (by decide) (Nat.le_of_ble_eq_true rfl) (fun AW ha => ?_)
  unfold oBehind at h
  refine sX0_behind_0 ha (x_isPost hw hI (zbr (fun c => ⟨_, rfl, by have h := h σ xSc.refl; rw [if_neg c] at h; exact h⟩) (fun c => ?_)))
  rw [if_pos c] at h
  obtain ⟨e, hl⟩ := okN c (by have := hI.b; omega)
  have h14 := obS_lt hI (armOk0 hI) hl
  refine x_first hw hI e hl (fun σ1 h1 h2 h3 f1 => x_isIn h2 (by omega) ?_)
  refine zbr (fun c2 => ⟨_, rfl, by have h := h σ1 f1; rw [if_pos (by omega)] at h; exact h⟩) (fun c2 => x_settingNow (hw.sc f1) hI h1 (fun σ2 f2 => ⟨_, rfl, ?_⟩))
  have h := h σ2 (xFr.trans f1 f2.wk)
  rw [if_neg (by omega)] at h; exact h
