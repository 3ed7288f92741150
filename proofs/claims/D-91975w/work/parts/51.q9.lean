/-! QUESTIONS: best, crowds, point -/
theorem m_insideLast {G : zG} {d : Nat} {w : Nat → Nat} {P : obP} {σ : zS} {K : Int32 → zS → Prop} (hw : wM w σ) (hI : obInv w) (hPo : obPok w P) (hr : mRan w P σ) (h : K (nI (obIns w P (w 0))) σ) : zCallI zcl Zm G (d + 3) mX6_insideLast [zR 0 0] σ K := by
  refine zmeth VX6_ok pX6_insideLast rfl (by decide) (Nat.le_of_ble_eq_true rfl) (fun AW ha => ?_)
  exact sX6_insideLast_0 ha (m_hours hw (m_insideAt hw hI hPo hr rfl (Nat.le_refl _) ⟨_, rfl, h⟩))
theorem x_last {G : zG} {d : Nat} {w : Nat → Nat} {P : obP} {σ : zS} {K : Int32 → zS → Prop} (hw : wX w σ) (hI : obInv w) (hPo : obPok w P) (hr : xRan w P σ) (h : K (nI (obIns w P (w 0))) σ) : zCallI zcl Zx G (d + 3) mX3_last [zR 2 0] σ K := by
  refine zmeth VX3_ok pX3_last rfl (by decide) (Nat.le_of_ble_eq_true rfl) (fun AW ha => ?_)
  exact sX3_last_0 ha (x_inside hw hI hPo hr hw.2.1.1 (Nat.le_refl _) ⟨_, rfl, h⟩)
/-- as it is, but for one post's first arm -/
def obWith (w : Nat → Nat) (p k : Nat) : obP := (w 1, 0, 127, fU (obArm w) p k, obWh w)
theorem obWith_ok {w : Nat → Nat} (hI : obInv w) {p k : Nat} (hk : k < obMany w p) : obPok w (obWith w p k) := by
  have := obAs_ok hI
  refine ⟨this.1, this.2.1, this.2.2.1, fun q hq hm => ?_, this.2.2.2.2⟩
  show fU (obArm w) p k q < obMany w q
  by_cases c : q = p
  · rw [c, fU_s]; exact hk
  · rw [fU_n c]; exact this.2.2.2.1 q hq hm
abbrev obLast (w : Nat → Nat) (P : obP) : Nat := obCnt (obIns w P (w 0)) 16
def obBestR (w : Nat → Nat) (p : Nat) (r : Nat × Option Nat) : Nat → Nat × Option Nat
  | 0 => r
  | n + 1 => if (obBestR w p r n).1 < obLast w (obWith w p n) then (obLast w (obWith w p n), some (10 * p + n)) else obBestR w p r n
def obBest (w : Nat → Nat) : Nat → Nat × Option Nat
  | 0 => (obLast w (obAs w), none)
  | n + 1 => obBestR w n (obBest w n) (obMany w n)
theorem obBestR_le {w : Nat → Nat} {p : Nat} {r : Nat × Option Nat} (h : r.1 ≤ 16) (n : Nat) : (obBestR w p r n).1 ≤ 16 := by
  induction n with
  | zero => exact h
  | succ n ih => simp only [obBestR]; split; exact obCnt_le _ _; exact ih
theorem obBest_le {w : Nat → Nat} (n : Nat) : (obBest w n).1 ≤ 16 := by
  induction n with
  | zero => exact obCnt_le _ _
  | succ n ih => exact obBestR_le ih _
def oBest (w : Nat → Nat) : Int32 := if 0 < w 9 then pI (obBest w (w 4)).2 else -2
theorem m_best {G : zG} {d : Nat} {w : Nat → Nat} {σ : zS} {K : Int32 → zS → Prop} (hw : wM w σ) (hI : obInv w) (h : ∀ σ', mSc σ σ' → K (oBest w) σ') : zCallI zcl Zm G (d + 8) mX6_best [zR 0 0] σ K := by
  refine zmeth VX6_ok pX6_best rfl (by decide) (Nat.le_of_ble_eq_true rfl) (fun AW ha => ?_)
  have hb := hI.b
  unfold oBest at h
  refine sX6_best_0 ha (m_asksHeath hw hI (fun σ1 r1 p1 f1 => zbr (fun c => ⟨_, rfl, by have h := h σ1 f1.wk; rw [if_neg c] at h; exact h⟩) (fun c => ?_)))
  rw [if_pos c] at h
  have hw1 : wM w σ1 := hw.fr f1
  refine m_insideLast hw1 hI (obAs_ok hI) r1 (m_bits rfl (Nat.lt_trans (obIns_lt hI) (by decide)) ?_)
  have hm : mSc σ σ1 := f1.wk
  -- what stands at a head: the parameters but for post p's arm
  have hP : ∀ (p k : Nat) (σ2 : zS), p < 7 → (∃ v, agr 7 (gA σ2 15 0) (fU (obArm w) p v)) → zFr [] [] mAsk [] σ1 σ2 → agr 8 (gA σ2 16 0) (obWh w) → mPar (obWith w p k) (uA σ2 15 0 (upd (gA σ2 15 0) p (nI k))) := by
    intro p k σ2 hp ⟨v, hv⟩ f2 h16
    refine ⟨(f2.I 17).trans p1.1, (f2.I 18).trans p1.2.1, (f2.I 19).trans p1.2.2.1, ?_, h16⟩
    have := agr.upd (k := p) hv (x := nI k) rfl
    intro j hj
    have e := this j hj
    show upd (gA σ2 15 0) p (nI k) j = nI (fU (obArm w) p k j)
    rw [e]
    by_cases cj : j = p
    · rw [cj, fU_s, fU_s]
    · rw [fU_n cj, fU_n cj, fU_n cj]
  refine loopN (N := w 4) (I := fun p => ∀ o σ2, agr 7 (gA σ2 15 0) (obArm w) → agr 8 (gA σ2 16 0) (obWh w) → zFr [] [] mAsk [] σ1 σ2 → AW 22 [some (zR 0 0), some (zI (nI (obBest w p).1)), some (zI (pI (obBest w p).2)), some (zI (nI p)), o] [] σ2) (fun o σ2 h15 h16 f2 => ?_) (fun p hp ih o σ2 h15 h16 f2 => ?_) 0 (Nat.zero_le _) none σ1 p1.2.2.2.1 p1.2.2.2.2 zFr.refl
  · exact sX6_best_22 ha (m_posts (hw1.fr f2) (zltN (by omega) (by omega) (fun c => absurd c (by omega)) (fun _ => ⟨_, rfl, h σ2 (zFr.trans hm f2.wk)⟩)))
  · refine sX6_best_22 ha (m_posts (hw1.fr f2) (zltN (by omega) (by omega) (fun _ => ?_) (fun c => absurd hp (Nat.not_lt.mpr c))))
    have h4 := hI.many (show p < 7 by omega)
    refine loopN (N := obMany w p) (I := fun k => ∀ σ3, (∃ v, agr 7 (gA σ3 15 0) (fU (obArm w) p v)) → agr 8 (gA σ3 16 0) (obWh w) → zFr [] [] mAsk [] σ1 σ3 → AW 33 [some (zR 0 0), some (zI (nI (obBestR w p (obBest w p) k).1)), some (zI (pI (obBestR w p (obBest w p) k).2)), some (zI (nI p)), some (zI (nI k))] [] σ3) (fun σ3 h15 h16 f3 => ?_) (fun k hk ih2 σ3 h15 h16 f3 => ?_) 0 (Nat.zero_le _) σ2 ⟨obArm w p, fun j hj => by
      by_cases cj : j = p
      · rw [cj, fU_s]; exact h15 p (by omega)
      · rw [fU_n cj]; exact h15 j hj⟩ h16 f2
    · have hw3 := hw1.fr f3
      refine sX6_best_33 ha (m_roadMany hw3 rfl (by omega) (zltN (by omega) (by omega) (fun c => absurd c (by omega)) (fun _ => m_armOf hw3 rfl (by omega) ⟨zix p rfl (by omega), ?_⟩)))
      rw [zcl_n p rfl, c1, nI_add]
      obtain ⟨v, hv⟩ := h15
      refine ih _ _ (fun j hj => ?_) h16 (zFr.uA f3 15 _)
      have e := (agr.upd (k := p) hv (x := nI (obArm w p)) rfl) j hj
      show upd (gA σ3 15 0) p (nI (obArm w p)) j = _
      rw [e]
      by_cases cj : j = p
      · rw [cj, fU_s]
      · rw [fU_n cj, fU_n cj]
    · have hw3 := hw1.fr f3
      have hPo := obWith_ok hI hk
      have hp3 := hP p k σ3 (by omega) h15 f3 h16
      have f4 : zFr [] [] mAsk [] σ1 (uA σ3 15 0 (upd (gA σ3 15 0) p (nI k))) := zFr.uA f3 15 _
      refine sX6_best_33 ha (m_roadMany hw3 rfl (by omega) (zltN (by omega) (by omega) (fun _ => ⟨zix p rfl (by omega), ?_⟩) (fun c => absurd hk (Nat.not_lt.mpr c))))
      rw [zcl_n p rfl]
      refine m_goAll (hw1.fr f4) hI hp3 hPo (fun σ5 r5 f5 => ?_)
      have f6 : zFr [] [] mAsk [] σ1 σ5 := zFr.trans f4 f5.wk
      have hw5 := hw1.fr f6
      have p5 := hp3.fr f5
      have hv5 : ∃ v, agr 7 (gA σ5 15 0) (fU (obArm w) p v) := ⟨k, p5.2.2.2.1⟩
      have hil := Nat.lt_trans (obIns_lt (P := obWith w p k) (t := w 0) hI) (show 256 < 2 ^ 31 by decide)
      have hbl := obBestR_le (w := w) (p := p) (obBest_le (w := w) p) k
      have hll : obLast w (obWith w p k) ≤ 16 := obCnt_le _ _
      refine m_insideLast hw5 hI hPo r5 (m_bits rfl hil (zltN (by omega) (Nat.lt_of_le_of_lt hll (by decide)) (fun c2 => m_insideLast hw5 hI hPo r5 (m_bits rfl hil ?_)) (fun c2 => ?_)))
      · have := ih2 σ5 hv5 p5.2.2.2.2 f6
        simp only [obBestR, if_pos c2] at this
        rw [c10, pk_mul, nI_add, c1, nI_add]; exact this
      · have := ih2 σ5 hv5 p5.2.2.2.2 f6
        simp only [obBestR, if_neg (Nat.not_lt.mpr c2)] at this
        rw [c1, nI_add]; exact this
theorem x_best {G : zG} {d : Nat} {w : Nat → Nat} {σ : zS} {K : Int32 → zS → Prop} (hw : wX w σ) (hI : obInv w) (h : ∀ σ', xSc σ σ' → K (oBest w) σ') : zCallI zcl Zx G (d + 9) mX0_best [zR 0 0] σ K := by
  refine zmeth VX0_ok pX0_best rfl (by decide) (Nat.le_of_ble_eq_true rfl) (fun AW ha => ?_)
  have hb := hI.b
  unfold oBest at h
  refine sX0_best_0 ha (x_isHeath hw hI (zbr (fun c => ⟨_, rfl, by have h := h σ xSc.refl; rw [if_neg c] at h; exact h⟩) (fun c => x_is hw hI (fun σ1 r1 p1 f1 => ?_))))
  rw [if_pos c] at h
  have hw1 := hw.sc f1
  refine x_last hw1 hI (obAs_ok hI) r1 (x_size rfl (obIns_lt hI) ?_)
  refine loopN (N := w 4) (I := fun p => ∀ o1 o2 σ2, xSc σ1 σ2 → AW 28 [some (zR 0 0), some (zI (nI (obBest w p).1)), some (zI (pI (obBest w p).2)), some (zI (nI p)), o1, o2] [] σ2) (fun o1 o2 σ2 f2 => ?_) (fun p hp ih o1 o2 σ2 f2 => ?_) 0 (Nat.zero_le _) none none σ1 xSc.refl
  · exact sX0_best_28 ha (x_posts (hw1.sc f2) (zltN (by omega) (by omega) (fun c => absurd c (by omega)) (fun _ => ⟨_, rfl, h σ2 (xFr.trans f1 f2)⟩)))
  · refine sX0_best_28 ha (x_posts (hw1.sc f2) (zltN (by omega) (by omega) (fun _ => ?_) (fun c => absurd hp (Nat.not_lt.mpr c))))
    have h4 := hI.many (show p < 7 by omega)
    refine loopN (N := obMany w p) (I := fun k => ∀ o σ3, xSc σ1 σ3 → AW 39 [some (zR 0 0), some (zI (nI (obBestR w p (obBest w p) k).1)), some (zI (pI (obBestR w p (obBest w p) k).2)), some (zI (nI p)), some (zI (nI k)), o] [] σ3) (fun o σ3 f3 => ?_) (fun k hk ih2 o σ3 f3 => ?_) 0 (Nat.zero_le _) _ σ2 f2
    · have hw3 := hw1.sc f3
      refine sX0_best_39 ha (x_postOf hw3 hI rfl hp ⟨Nat.lt_of_lt_of_eq hp hw3.C0.symm, ?_⟩)
      rw [hw3.many hp]
      refine zltN (by omega) (by omega) (fun c => absurd c (by omega)) (fun _ => ?_)
      rw [c1, nI_add]
      exact ih _ _ _ f3
    · have hw3 := hw1.sc f3
      have hPo := obWith_ok hI hk
      have hil := obIns_lt (P := obWith w p k) (t := w 0) hI
      have hbl := obBestR_le (w := w) (p := p) (obBest_le (w := w) p) k
      have hll : obLast w (obWith w p k) ≤ 16 := obCnt_le _ _
      refine sX0_best_39 ha (x_postOf hw3 hI rfl hp ⟨Nat.lt_of_lt_of_eq hp hw3.C0.symm, ?_⟩)
      rw [hw3.many hp]
      refine zltN (by omega) (by omega) (fun _ => x_hoursIs hw3 hI (fun σ4 p4 a4 _ f4 => ⟨zix p rfl (by omega), ?_⟩)) (fun c => absurd hk (Nat.not_lt.mpr c))
      rw [zcl_n p rfl]
      have f5 : xSc σ1 (uA σ4 24 0 (upd (gA σ4 24 0) p (nI k))) := xFr.uA (xFr.trans f3 f4.wk) 24 _
      have p5 : xPar w (obWith w p k) (uA σ4 24 0 (upd (gA σ4 24 0) p (nI k))) := p4.fr (xFr.uA (I := []) (A := [24]) xFr.refl 24 _)
      refine x_goes (hw1.sc f5) hI p5 hPo (agr.upd a4 rfl) (fun σ6 r6 f6 => ?_)
      have f7 : xSc σ1 σ6 := xFr.trans f5 f6.wk
      refine x_last (hw1.sc f7) hI hPo r6 (x_size rfl hil (zltN (by omega) (Nat.lt_of_le_of_lt hll (by decide)) (fun c2 => ?_) (fun c2 => ?_)))
      · have := ih2 (some (zI (nI (obLast w (obWith w p k))))) σ6 f7
        simp only [obBestR, if_pos c2] at this
        rw [c10, pk_mul, nI_add, c1, nI_add]; exact this
      · have := ih2 (some (zI (nI (obLast w (obWith w p k))))) σ6 f7
        simp only [obBestR, if_neg (Nat.not_lt.mpr c2)] at this
        rw [c1, nI_add]; exact this
