/-! QUESTIONS: setting, same; a wanderer alone -/
theorem xRan.set {w : Nat → Nat} {P : obP} {σ : zS} (h : xRan w P σ) {t : Nat} (ht : t ≤ w 0) : ∀ p, p < w 4 → obMany w p ≠ 0 → gA σ 26 0 (7 * t + p) = nI ((obAt w P t).1 p) := by
  intro p hp hm
  rw [(h.1 t (by omega)).2 p hp, if_neg hm]
abbrev obSet0 (w : Nat → Nat) (P : obP) (t : Nat) : Nat := (obNumb w (obAt w P t).1 (w 4)).1
def oSetting (w : Nat → Nat) (t : Int32) : Int32 := if hrOk w t then nI (obSet0 w (obAs w) t.toNatClampNeg) else -2
theorem m_setting {G : zG} {d : Nat} {w : Nat → Nat} {σ : zS} {t : Int32} {K : Int32 → zS → Prop} (hw : wM w σ) (hI : obInv w) (h : ∀ σ', mSc σ σ' → K (oSetting w t) σ') : zCallI zcl Zm G (d + 8) mX6_setting [zR 0 0, zI t] σ K := by
  refine zmeth VX6_ok pX6_setting rfl (by decide) (Nat.le_of_ble_eq_true rfl) (fun AW ha => ?_)
  unfold oSetting at h
  refine sX6_setting_0 ha (m_asksHour hw hI (fun σ1 r1 p1 f1 => zbr (fun c => ⟨_, rfl, by have h := h σ1 f1; rw [if_neg c] at h; exact h⟩) (fun c => ?_)))
  obtain ⟨e, hl⟩ := okH hI c
  refine m_settingAt (hw.sc f1) hI r1 e hl (fun σ2 f2 => ⟨_, rfl, ?_⟩)
  have h := h σ2 (zFr.trans f1 f2.wk)
  rw [if_pos c] at h; exact h
theorem x_settingQ {G : zG} {d : Nat} {w : Nat → Nat} {σ : zS} {t : Int32} {K : Int32 → zS → Prop} (hw : wX w σ) (hI : obInv w) (h : ∀ σ', xSc σ σ' → K (oSetting w t) σ') : zCallI zcl Zx G (d + 9) mX0_setting [zR 0 0, zI t] σ K := by
  refine zmeth VX0_ok pX0_setting rfl (by decide) (Nat.le_of_ble_eq_true rfl) (fun AW ha => ?_)
  unfold oSetting at h
  refine sX0_setting_0 ha (x_isHour hw hI ?_)
  rw [i64]
  refine zbr (fun c => ⟨_, rfl, by have h := h σ xSc.refl; rw [if_neg c] at h; exact h⟩) (fun c => x_is hw hI (fun σ1 r1 p1 f1 => ?_))
  have h := h σ1 f1
  rw [if_pos c] at h
  obtain ⟨e, hl⟩ := okH hI c
  exact x_setting (hw.sc f1) hI (r1.set hl) e hl ⟨_, rfl, h⟩
def oSame (w : Nat → Nat) : Int32 := if 0 < w 9 then pI ((obFst (fun t => decide (nI (obSet0 w (obAs w) (t + 1)) = nI (obSet0 w (obAs w) 0))) (w 0) 0).map (· + 1)) else -2
theorem m_same {G : zG} {d : Nat} {w : Nat → Nat} {σ : zS} {K : Int32 → zS → Prop} (hw : wM w σ) (hI : obInv w) (h : ∀ σ', mSc σ σ' → K (oSame w) σ') : zCallI zcl Zm G (d + 8) mX6_same [zR 0 0] σ K := by
  refine zmeth VX6_ok pX6_same rfl (by decide) (Nat.le_of_ble_eq_true rfl) (fun AW ha => ?_)
  have hb := hI.b
  unfold oSame at h
  refine sX6_same_0 ha (m_asksHeath hw hI (fun σ1 r1 p1 f1 => zbr (fun c => ⟨_, rfl, by have h := h σ1 f1.wk; rw [if_neg c] at h; exact h⟩) (fun c => ?_)))
  rw [if_pos c] at h
  refine loopF (N := w 0) (c := fun t => decide (nI (obSet0 w (obAs w) (t + 1)) = nI (obSet0 w (obAs w) 0))) (K := fun q => ∀ σ2, zFr [] [] [29] [] σ1 σ2 → K (pI (q.map (· + 1))) σ2) (I := fun k => ∀ σ2, zFr [] [] [29] [] σ1 σ2 → AW 12 [some (zR 0 0), some (zI (nI (k + 1)))] [] σ2) (fun σ2 f2 => h σ2 (zFr.trans f1.wk f2.wk)) (fun h1 σ2 f2 => ?_) (fun k hk h1 h2 σ2 f2 => ?_) σ1 zFr.refl
  · exact sX6_same_12 ha (m_hours (hw.sc (zFr.trans f1.wk f2.wk)) (zltN (by omega) (by omega) (fun _ => ⟨_, rfl, h1 σ2 f2⟩) (fun c => absurd c (by omega))))
  · have hw2 : wM w σ2 := hw.sc (zFr.trans f1.wk f2.wk)
    have r2 := r1.fr f2
    refine sX6_same_12 ha (m_hours hw2 (zltN (by omega) (by omega) (fun c => absurd c (by omega)) (fun _ => m_settingAt hw2 hI r2 rfl (by omega) (fun σ3 f3 => m_settingAt (hw2.fr f3) hI (r2.fr f3) nI_0.symm (Nat.zero_le _) (fun σ4 f4 => ⟨fun c2 => ⟨_, rfl, h1 (decide_eq_true c2) σ4 (zFr.trans f2 (zFr.trans f3 f4))⟩, fun c2 => ?_⟩)))))
    rw [c1, nI_add]; exact h2 (decide_eq_false c2) σ4 (zFr.trans f2 (zFr.trans f3 f4))
theorem x_same {G : zG} {d : Nat} {w : Nat → Nat} {σ : zS} {K : Int32 → zS → Prop} (hw : wX w σ) (hI : obInv w) (h : ∀ σ', xSc σ σ' → K (oSame w) σ') : zCallI zcl Zx G (d + 9) mX0_same [zR 0 0] σ K := by
  refine zmeth VX0_ok pX0_same rfl (by decide) (Nat.le_of_ble_eq_true rfl) (fun AW ha => ?_)
  have hb := hI.b
  unfold oSame at h
  refine sX0_same_0 ha (x_isHeath hw hI (zbr (fun c => ⟨_, rfl, by have h := h σ xSc.refl; rw [if_neg c] at h; exact h⟩) (fun c => x_is hw hI (fun σ1 r1 p1 f1 => ?_))))
  have h := h σ1 f1
  have hw1 := hw.sc f1
  rw [if_pos c] at h
  refine loopF (N := w 0) (c := fun t => decide (nI (obSet0 w (obAs w) (t + 1)) = nI (obSet0 w (obAs w) 0))) (K := fun q => K (pI (q.map (· + 1))) σ1) (I := fun k => AW 20 [some (zR 0 0), some (zI (nI (k + 1)))] [] σ1) h (fun h1 => ?_) (fun k hk h1 h2 => ?_)
  · refine sX0_same_20 ha ?_
    rw [hw1.2.1.1]
    exact zltN (by omega) (by omega) (fun _ => ⟨_, rfl, h1⟩) (fun c => absurd c (by omega))
  · refine sX0_same_20 ha ?_
    rw [hw1.2.1.1]
    refine zltN (by omega) (by omega) (fun c => absurd c (by omega)) (fun _ => x_setting hw1 hI (r1.set (t := k + 1) (by omega)) rfl (by omega) (x_setting hw1 hI (r1.set (t := 0) (Nat.zero_le _)) nI_0.symm (Nat.zero_le _) ⟨fun c2 => ⟨_, rfl, h1 (decide_eq_true c2)⟩, fun c2 => ?_⟩))
    rw [c1, nI_add]; exact h2 (decide_eq_false c2)
/-- ALONE: place, steps, arms -/
def obSolo (w : Nat → Nat) (P : obP) : Nat → (Nat → Nat) → Nat → Nat → Nat × Nat × (Nat → Nat)
  | 0, a, p, s => (p, s, a)
  | n + 1, a, p, s => if 10 ≤ p ∨ obMany w p = 0 then (p, s, a) else obSolo w P n (obSendA w P a p) (obTo w p (obSendR w P a p)) (s + 1)
theorem obSolo_in {w : Nat → Nat} {P : obP} {n : Nat} {a : Nat → Nat} {p s : Nat} (h : 10 ≤ p) : obSolo w P n a p s = (p, s, a) := by
  cases n with
  | zero => rfl
  | succ n => simp only [obSolo, if_pos (Or.inl h)]
theorem obSolo_0 {w : Nat → Nat} {P : obP} {n : Nat} {a : Nat → Nat} {p s : Nat} (h : obMany w p = 0) : obSolo w P n a p s = (p, s, a) := by
  cases n with
  | zero => rfl
  | succ n => simp only [obSolo, if_pos (Or.inr h)]
theorem obSolo_s {w : Nat → Nat} {P : obP} {n : Nat} {a : Nat → Nat} {p s : Nat} (h : p < 10) (hm : obMany w p ≠ 0) : obSolo w P (n + 1) a p s = obSolo w P n (obSendA w P a p) (obTo w p (obSendR w P a p)) (s + 1) := by
  simp only [obSolo]; rw [if_neg (by rintro (q | q); omega; exact hm q)]
theorem obSolo_ok {w : Nat → Nat} {P : obP} (hI : obInv w) : ∀ (n : Nat) (a : Nat → Nat) (p s : Nat), obArmOk w a → (p < w 4 ∨ (10 ≤ p ∧ p < 10 + w 3)) → obArmOk w (obSolo w P n a p s).2.2 ∧ ((obSolo w P n a p s).1 < w 4 ∨ (10 ≤ (obSolo w P n a p s).1 ∧ (obSolo w P n a p s).1 < 10 + w 3)) := by
  have hb := hI.b
  intro n
  induction n with
  | zero => intro a p s h1 h2; exact ⟨h1, h2⟩
  | succ n ih =>
    intro a p s h1 h2
    by_cases c : 10 ≤ p
    · rw [obSolo_in c]; exact ⟨h1, h2⟩
    · by_cases c2 : obMany w p = 0
      · rw [obSolo_0 c2]; exact ⟨h1, h2⟩
      · rw [obSolo_s (by omega) c2]
        have hm : 0 < obMany w p := by omega
        have hp : p < 7 := by omega
        exact ih _ _ _ (obSendA_ok h1 hm) (hI.to hp (obSendR_lt h1 hp hm))
theorem m_solo {G : zG} {d : Nat} {w a : Nat → Nat} {P : obP} {σ : zS} {p : Nat} {x : Int32} {K : Int32 → zS → Prop} (hw : wM w σ) (hI : obInv w) (hP : mPar P σ) (hPo : obPok w P) (hx : x = nI p) (hp : p < w 4) (hA : agr 7 (gA σ 20 0) a) (ha0 : obArmOk w a) (h : ∀ σ', agr 7 (gA σ' 20 0) (obSolo w P 600 a p 0).2.2 → gI σ' 0 30 0 = nI (obSolo w P 600 a p 0).2.1 → zFr [30] [] [20] [] σ σ' → K (if (obSolo w P 600 a p 0).1 < 10 then -1 else nI ((obSolo w P 600 a p 0).1 - 10)) σ') : zCallI zcl Zm G (d + 3) mX6_solo [zR 0 0, zI x] σ K := by
  refine zmeth VX6_ok pX6_solo rfl (by decide) (Nat.le_of_ble_eq_true rfl) (fun AW hA0 => ?_)
  have hb := hI.b
  have loop : ∀ (n s q : Nat) (b : Nat → Nat) (o : Option zV) (σ2 : zS), s + n = 600 → q < w 4 → obArmOk w b → agr 7 (gA σ2 20 0) b → gI σ2 0 30 0 = nI s → zFr [30] [] [20] [] σ σ2 → obSolo w P n b q s = obSolo w P 600 a p 0 → AW 7 [some (zR 0 0), some (zI x), some (zI (nI q)), o] [] σ2 := by
    intro n
    induction n with
    | zero =>
      intro s q b o σ2 hs hq hbo hA2 hs2 f2 he
      refine sX6_solo_7 hA0 ?_
      rw [hs2]
      have e : (q, s, b) = obSolo w P 600 a p 0 := he
      have h := h σ2 (by rw [← e]; exact hA2) (by rw [← e]; exact hs2) f2
      rw [← e, if_pos (show q < 10 by omega)] at h
      rw [show (600 : Int32) = nI 600 from rfl]
      exact zltN (by omega) (by omega) (fun c => absurd c (by omega)) (fun _ => ⟨_, rfl, h⟩)
    | succ n ih =>
      intro s q b o σ2 hs hq hbo hA2 hs2 f2 he
      refine sX6_solo_7 hA0 ?_
      rw [hs2, show (600 : Int32) = nI 600 from rfl]
      have hw2 : wM w σ2 := hw.fr f2
      have h4 := hI.many (show q < 7 by omega)
      refine zltN (by omega) (by omega) (fun _ => m_roadMany hw2 rfl (by omega) ?_) (fun c => absurd c (by omega))
      rw [← nI_0]
      refine zeqN (by omega) (by omega) (fun c => ?_) (fun c => ?_)
      · rw [obSolo_0 c] at he
        have h := h σ2 (by rw [← he]; exact hA2) (by rw [← he]; exact hs2) f2
        rw [← he, if_pos (show q < 10 by omega)] at h
        exact ⟨_, rfl, h⟩
      · have hm : 0 < obMany w q := by omega
        have hr := obSendR_lt (P := P) hbo (show q < 7 by omega) hm
        have ht := hI.to (show q < 7 by omega) hr
        rw [obSolo_s (by omega) c] at he
        refine m_sendBy hw2 hI (hP.fr f2) hPo rfl (by omega) hm hA2 hbo (fun σ3 hA3 f3 => m_roadTo (hw2.fr f3) rfl rfl (by omega) (by omega) ?_)
        have hs3 : gI σ3 0 30 0 = nI s := (f3.I 30).trans hs2
        have f4 : zFr [30] [] [20] [] σ (uI σ3 0 30 0 (gI σ3 0 30 0 + 1)) := zFr.uI (zFr.trans f2 f3.wk) 30 _
        have hs4 : gI (uI σ3 0 30 0 (gI σ3 0 30 0 + 1)) 0 30 0 = nI (s + 1) := by
          show gI σ3 0 30 0 + 1 = _
          rw [hs3, c1, nI_add]
        rw [c10]
        refine zltN (by omega) (by omega) (fun c2 => ?_) (fun c2 => ?_)
        · exact ih (s + 1) _ _ _ _ (by omega) (by omega) (obSendA_ok hbo hm) hA3 hs4 f4 he
        · rw [obSolo_in c2] at he
          have h := h _ (by rw [← he]; exact hA3) (by rw [← he]; exact hs4) f4
          rw [← he, if_neg (by show ¬ obTo w q (obSendR w P b q) < 10; omega)] at h
          refine ⟨_, rfl, ?_⟩
          have e : nI (obTo w q (obSendR w P b q)) - nI 10 = nI (obTo w q (obSendR w P b q) - 10) := by
            rw [show nI (obTo w q (obSendR w P b q)) = nI (obTo w q (obSendR w P b q) - 10) + nI 10 by rw [nI_add]; congr 1; omega]
            exact Int32.add_sub_cancel _ _
          rw [e]; exact h
  rw [hx] at loop ⊢
  exact sX6_solo_0 hA0 (loop 600 0 p a _ _ (by omega) hp ha0 hA (by rw [← nI_0]; rfl) (zFr.uI zFr.refl 30 _) rfl)
