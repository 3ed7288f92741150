/-! QUESTIONS: point -/
theorem mWith {w : Nat → Nat} {σ1 σ2 : zS} {p k : Nat} (p1 : mPar (obAs w) σ1) (hp : p < 7) (h15 : ∃ v, agr 7 (gA σ2 15 0) (fU (obArm w) p v)) (f2 : zFr [] [] mAsk [] σ1 σ2) (h16 : agr 8 (gA σ2 16 0) (obWh w)) : mPar (obWith w p k) (uA σ2 15 0 (upd (gA σ2 15 0) p (nI k))) := by
  obtain ⟨v, hv⟩ := h15
  refine ⟨(f2.I 17).trans p1.1, (f2.I 18).trans p1.2.1, (f2.I 19).trans p1.2.2.1, ?_, h16⟩
  have := agr.upd (k := p) hv (x := nI k) rfl
  intro j hj
  have e := this j hj
  show upd (gA σ2 15 0) p (nI k) j = nI (fU (obArm w) p k j)
  rw [e]
  by_cases cj : j = p
  · rw [cj, fU_s, fU_s]
  · rw [fU_n cj, fU_n cj, fU_n cj]
theorem obFst_lt {c : Nat → Bool} : ∀ (n k t : Nat), obFst c n k = some t → t < k + n := by
  intro n
  induction n with
  | zero => intro k t h; cases h
  | succ n ih =>
    intro k t h
    simp only [obFst] at h
    split at h
    · simp at h; omega
    · have := ih (k + 1) t h; omega
def obCome (w : Nat → Nat) (P : obP) (i j : Nat) : Option Nat := obFst (fun t => decide (pI (pl w P t i) = nI (10 + j))) (w 0 + 1) 0
theorem obCome_le {w : Nat → Nat} (hI : obInv w) {P : obP} {i j t : Nat} (h : obCome w P i j = some t) : t ≤ 16 := by
  have := obFst_lt _ _ _ h
  have hb := hI.b
  omega
theorem m_cameTo {G : zG} {d : Nat} {w : Nat → Nat} {P : obP} {σ : zS} {i j : Nat} {x v : Int32} {K : Int32 → zS → Prop} (hw : wM w σ) (hI : obInv w) (hr : mRan w P σ) (hx : x = nI i) (hi : i < w 7) (hv : v = nI j) (h : K (nI ((obCome w P i j).getD 1000000000)) σ) : zCallI zcl Zm G (d + 1) mX6_cameTo [zR 0 0, zI x, zI v] σ K := by
  refine zmeth VX6_ok pX6_cameTo rfl (by decide) (Nat.le_of_ble_eq_true rfl) (fun AW ha => ?_)
  have hb := hI.b
  have e : (10 : Int32) + v = nI (10 + j) := by rw [hv, c10, nI_add]
  refine sX6_cameTo_0 ha (loopF (N := w 0 + 1) (K := fun q => K (nI (q.getD 1000000000)) σ) (I := fun k => AW 2 [some (zR 0 0), some (zI x), some (zI v), some (zI (nI k))] [] σ) h (fun h1 => ?_) (fun k hk h1 h2 => ?_))
  · exact sX6_cameTo_2 ha (m_hours hw (zltN (by omega) (by omega) (fun _ => ⟨_, rfl, h1⟩) (fun c => absurd c (by omega))))
  · refine sX6_cameTo_2 ha (m_hours hw (zltN (by omega) (by omega) (fun c => absurd c (by omega)) (fun _ => m_placeOf hI hr hx rfl hi (by omega) ?_)))
    rw [e]
    refine ⟨fun c => ⟨_, rfl, h1 (decide_eq_true c)⟩, fun c => ?_⟩
    rw [c1, nI_add]; exact h2 (decide_eq_false c)
theorem x_come {G : zG} {d : Nat} {w : Nat → Nat} {P : obP} {σ : zS} {i j : Nat} {x v : Int32} {K : Int32 → zS → Prop} (hw : wX w σ) (hI : obInv w) (hPo : obPok w P) (hr : xRan w P σ) (hx : x = nI i) (hi : i < w 7) (hv : v = nI j) (hj : j < 4) (h : K (pI (obCome w P i j)) σ) : zCallI zcl Zx G (d + 1) mX3_home [zR 2 0, zI x, zI v] σ K := by
  refine x_homeAt hw hI hPo hr hx hi ?_
  have e : (fun t => plIn (pl w P t i) && (decide (v = -1) || decide (pI (pl w P t i) = 10 + v))) = (fun t => decide (pI (pl w P t i) = nI (10 + j))) := by
    funext t
    have e10 : (10 : Int32) + v = nI (10 + j) := by rw [hv, c10, nI_add]
    have en : decide (v = -1) = false := decide_eq_false (by rw [hv]; exact pI_ne (by omega))
    rw [e10, en, Bool.false_or]
    cases eq : pl w P t i with
    | none => rw [decide_eq_false (show ¬ pI none = nI (10 + j) from fun q => pI_ne (by omega) q.symm)]; rfl
    | some q =>
      by_cases c : pI (some q) = nI (10 + j)
      · have hq := pl31 hI hPo q eq
        have := (nI_eq hq (show 10 + j < 2 ^ 31 by omega)).mp c
        rw [decide_eq_true c]; simp [plIn]; omega
      · rw [decide_eq_false c, Bool.and_false]
  rw [e]; exact h
def obLess : Option Nat → Option Nat → Bool
  | none, _ => false
  | some _, none => true
  | some t, some b => decide (t < b)
theorem less_m {c r : Option Nat} {A B : Prop} (hc : ∀ t, c = some t → t ≤ 16) (hr : ∀ t, r = some t → t ≤ 16) (h1 : obLess c r = true → A) (h2 : obLess c r = false → B) : (nI (c.getD 1000000000) < nI (r.getD 1000000000) → A) ∧ (¬ nI (c.getD 1000000000) < nI (r.getD 1000000000) → B) := by
  have hb : ∀ q : Option Nat, (∀ t, q = some t → t ≤ 16) → q.getD 1000000000 < 2 ^ 31 := by
    intro q hq
    cases q with
    | none => decide
    | some t => have := hq t rfl; simp; omega
  refine zltN (hb c hc) (hb r hr) (fun q => h1 ?_) (fun q => h2 ?_)
  · cases c with
    | none =>
      cases r with
      | none => exact absurd q (Nat.lt_irrefl _)
      | some b => have := hr b rfl; simp at q; omega
    | some t =>
      cases r with
      | none => rfl
      | some b => exact decide_eq_true q
  · cases c with
    | none => rfl
    | some t =>
      have := hc t rfl
      cases r with
      | none => simp at q; omega
      | some b => exact decide_eq_false (Nat.not_lt.mpr q)
theorem less_x {t : Nat} {r : Option Nat} {A B : Prop} (hc : t ≤ 16) (hr : ∀ t, r = some t → t ≤ 16) (h1 : obLess (some t) r = true → A) (h2 : obLess (some t) r = false → B) : (nI t < nI (r.getD 100000) → A) ∧ (¬ nI t < nI (r.getD 100000) → B) := by
  cases r with
  | none => exact zltN (by omega) (by decide) (fun _ => h1 rfl) (fun q => by simp at q; omega)
  | some b => have := hr b rfl; exact zltN (by omega) (by simp; omega) (fun q => h1 (decide_eq_true q)) (fun q => h2 (decide_eq_false (Nat.not_lt.mpr q)))
def obPtR (w : Nat → Nat) (i j p : Nat) (r : Option Nat × Option Nat) : Nat → Option Nat × Option Nat
  | 0 => r
  | n + 1 => if obLess (obCome w (obWith w p n) i j) (obPtR w i j p r n).1 = true then (obCome w (obWith w p n) i j, some (10 * p + n)) else obPtR w i j p r n
def obPt (w : Nat → Nat) (i j : Nat) : Nat → Option Nat × Option Nat
  | 0 => (obCome w (obAs w) i j, none)
  | n + 1 => obPtR w i j n (obPt w i j n) (obMany w n)
theorem obPtR_le {w : Nat → Nat} (hI : obInv w) {i j p : Nat} {r : Option Nat × Option Nat} (h : ∀ t, r.1 = some t → t ≤ 16) (n : Nat) : ∀ t, (obPtR w i j p r n).1 = some t → t ≤ 16 := by
  induction n with
  | zero => exact h
  | succ n ih =>
    simp only [obPtR]
    split
    · intro t q; exact obCome_le hI q
    · exact ih
theorem obPt_le {w : Nat → Nat} (hI : obInv w) {i j : Nat} (n : Nat) : ∀ t, (obPt w i j n).1 = some t → t ≤ 16 := by
  induction n with
  | zero => intro t q; exact obCome_le hI q
  | succ n ih => exact obPtR_le hI ih _
def oPoint (w : Nat → Nat) (a b : Int32) : Int32 := if wkOk w a ∧ inOk w b then pI (obPt w a.toNatClampNeg b.toNatClampNeg (w 4)).2 else -2
theorem m_point {G : zG} {d : Nat} {w : Nat → Nat} {σ : zS} {a b : Int32} {K : Int32 → zS → Prop} (hw : wM w σ) (hI : obInv w) (h : ∀ σ', mSc σ σ' → K (oPoint w a b) σ') : zCallI zcl Zm G (d + 8) mX6_point [zR 0 0, zI a, zI b] σ K := by
  refine zmeth VX6_ok pX6_point rfl (by decide) (Nat.le_of_ble_eq_true rfl) (fun AW ha => ?_)
  have hb := hI.b
  unfold oPoint at h
  refine sX6_point_0 ha (m_asksWalker hw hI (fun σ1 r1 p1 f1 => zbr (fun c => ⟨_, rfl, by have h := h σ1 f1; rw [if_neg (fun q => c q.1)] at h; exact h⟩) (fun c => m_isInn (hw.sc f1) hI ?_)))
  rw [i64]
  refine zbr (fun c2 => ⟨_, rfl, by have h := h σ1 f1; rw [if_neg (fun q => c2 q.2)] at h; exact h⟩) (fun c2 => ?_)
  rw [if_pos ⟨c, c2⟩] at h
  have hw1 : wM w σ1 := hw.sc f1
  obtain ⟨e, hl⟩ := okN c
  obtain ⟨e2, hl2⟩ := okN c2
  refine m_cameTo hw1 hI r1 e hl e2 ?_
  refine loopN (N := w 4) (I := fun p => ∀ o σ2, agr 7 (gA σ2 15 0) (obArm w) → agr 8 (gA σ2 16 0) (obWh w) → zFr [] [] mAsk [] σ1 σ2 → AW 33 [some (zR 0 0), some (zI a), some (zI b), some (zI (nI ((obPt w a.toNatClampNeg b.toNatClampNeg p).1.getD 1000000000))), some (zI (pI (obPt w a.toNatClampNeg b.toNatClampNeg p).2)), some (zI (nI p)), o] [] σ2) (fun o σ2 h15 h16 f2 => ?_) (fun p hp ih o σ2 h15 h16 f2 => ?_) 0 (Nat.zero_le _) none σ1 p1.2.2.2.1 p1.2.2.2.2 zFr.refl
  · exact sX6_point_33 ha (m_posts (hw1.fr f2) (zltN (by omega) (by omega) (fun c => absurd c (by omega)) (fun _ => ⟨_, rfl, h σ2 (zFr.trans f1 f2.wk)⟩)))
  · refine sX6_point_33 ha (m_posts (hw1.fr f2) (zltN (by omega) (by omega) (fun _ => ?_) (fun c => absurd hp (Nat.not_lt.mpr c))))
    have h4 := hI.many (show p < 7 by omega)
    refine loopN (N := obMany w p) (I := fun k => ∀ σ3, (∃ v, agr 7 (gA σ3 15 0) (fU (obArm w) p v)) → agr 8 (gA σ3 16 0) (obWh w) → zFr [] [] mAsk [] σ1 σ3 → AW 45 [some (zR 0 0), some (zI a), some (zI b), some (zI (nI ((obPtR w a.toNatClampNeg b.toNatClampNeg p (obPt w a.toNatClampNeg b.toNatClampNeg p) k).1.getD 1000000000))), some (zI (pI (obPtR w a.toNatClampNeg b.toNatClampNeg p (obPt w a.toNatClampNeg b.toNatClampNeg p) k).2)), some (zI (nI p)), some (zI (nI k))] [] σ3) (fun σ3 h15 h16 f3 => ?_) (fun k hk ih2 σ3 h15 h16 f3 => ?_) 0 (Nat.zero_le _) σ2 ⟨obArm w p, fun j hj => by
      by_cases cj : j = p
      · rw [cj, fU_s]; exact h15 p (by omega)
      · rw [fU_n cj]; exact h15 j hj⟩ h16 f2
    · have hw3 := hw1.fr f3
      refine sX6_point_45 ha (m_roadMany hw3 rfl (by omega) (zltN (by omega) (by omega) (fun c => absurd c (by omega)) (fun _ => m_armOf hw3 rfl (by omega) ⟨zix p rfl (by omega), ?_⟩)))
      rw [zcl_n p rfl, c1, nI_add]
      obtain ⟨v, hv⟩ := h15
      refine ih _ _ (fun j hj => ?_) h16 (zFr.uA f3 15 _)
      have e := (agr.upd (k := p) hv (x := nI (obArm w p)) rfl) j hj
      show upd (gA σ3 15 0) p (nI (obArm w p)) j = _
      rw [e]
      by_cases cj : j = p
      · rw [cj, fU_s]
      · rw [fU_n cj, fU_n cj]
    · have hw3 := hw1.fr f3
      have hPo := obWith_ok hI hk
      have hp3 := mWith (k := k) p1 (show p < 7 by omega) h15 f3 h16
      have f4 : zFr [] [] mAsk [] σ1 (uA σ3 15 0 (upd (gA σ3 15 0) p (nI k))) := zFr.uA f3 15 _
      refine sX6_point_45 ha (m_roadMany hw3 rfl (by omega) (zltN (by omega) (by omega) (fun _ => ⟨zix p rfl (by omega), ?_⟩) (fun c => absurd hk (Nat.not_lt.mpr c))))
      rw [zcl_n p rfl]
      refine m_goAll (hw1.fr f4) hI hp3 hPo (fun σ5 r5 f5 => ?_)
      have f6 : zFr [] [] mAsk [] σ1 σ5 := zFr.trans f4 f5.wk
      have hw5 := hw1.fr f6
      have p5 := hp3.fr f5
      have hv5 : ∃ v, agr 7 (gA σ5 15 0) (fU (obArm w) p v) := ⟨k, p5.2.2.2.1⟩
      have ih2 := ih2 σ5 hv5 p5.2.2.2.2 f6
      simp only [obPtR] at ih2
      refine m_cameTo hw5 hI r5 e hl e2 (less_m (fun t q => obCome_le hI q) (obPtR_le hI (obPt_le hI p) k) (fun c3 => m_cameTo hw5 hI r5 e hl e2 ?_) (fun c3 => ?_))
      · rw [if_pos c3] at ih2
        rw [c10, pk_mul, nI_add, c1, nI_add]; exact ih2
      · rw [if_neg (by rw [c3]; decide)] at ih2
        rw [c1, nI_add]; exact ih2
theorem x_point {G : zG} {d : Nat} {w : Nat → Nat} {σ : zS} {a b : Int32} {K : Int32 → zS → Prop} (hw : wX w σ) (hI : obInv w) (h : ∀ σ', xSc σ σ' → K (oPoint w a b) σ') : zCallI zcl Zx G (d + 9) mX0_point [zR 0 0, zI a, zI b] σ K := by
  refine zmeth VX0_ok pX0_point rfl (by decide) (Nat.le_of_ble_eq_true rfl) (fun AW ha => ?_)
  have hb := hI.b
  unfold oPoint at h
  refine sX0_point_0 ha (x_isWalker hw hI ?_)
  rw [i64]
  refine zbr (fun c => ⟨_, rfl, by have h := h σ xSc.refl; rw [if_neg (fun q => c q.1)] at h; exact h⟩) (fun c => x_isInn hw hI (zbr (fun c2 => ⟨_, rfl, by have h := h σ xSc.refl; rw [if_neg (fun q => c2 q.2)] at h; exact h⟩) (fun c2 => x_is hw hI (fun σ1 r1 p1 f1 => ?_))))
  rw [if_pos ⟨c, c2⟩] at h
  have hw1 := hw.sc f1
  obtain ⟨e, hl⟩ := okN c
  obtain ⟨e2, hl2⟩ := okN c2
  have loop : ∀ (y : Int32), AW 50 [some (zR 0 0), some (zI a), some (zI b), some (zI y), some (zI (nI ((obPt w a.toNatClampNeg b.toNatClampNeg 0).1.getD 100000))), some (zI (pI (obPt w a.toNatClampNeg b.toNatClampNeg 0).2)), some (zI (nI 0)), none, none] [] σ1 := by
    intro y
    refine loopN (N := w 4) (I := fun p => ∀ o1 o2 σ2, xSc σ1 σ2 → AW 50 [some (zR 0 0), some (zI a), some (zI b), some (zI y), some (zI (nI ((obPt w a.toNatClampNeg b.toNatClampNeg p).1.getD 100000))), some (zI (pI (obPt w a.toNatClampNeg b.toNatClampNeg p).2)), some (zI (nI p)), o1, o2] [] σ2) (fun o1 o2 σ2 f2 => ?_) (fun p hp ih o1 o2 σ2 f2 => ?_) 0 (Nat.zero_le _) none none σ1 xSc.refl
    · exact sX0_point_50 ha (x_posts (hw1.sc f2) (zltN (by omega) (by omega) (fun c => absurd c (by omega)) (fun _ => ⟨_, rfl, h σ2 (xFr.trans f1 f2)⟩)))
    · refine sX0_point_50 ha (x_posts (hw1.sc f2) (zltN (by omega) (by omega) (fun _ => ?_) (fun c => absurd hp (Nat.not_lt.mpr c))))
      have h4 := hI.many (show p < 7 by omega)
      refine loopN (N := obMany w p) (I := fun k => ∀ o σ3, xSc σ1 σ3 → AW 62 [some (zR 0 0), some (zI a), some (zI b), some (zI y), some (zI (nI ((obPtR w a.toNatClampNeg b.toNatClampNeg p (obPt w a.toNatClampNeg b.toNatClampNeg p) k).1.getD 100000))), some (zI (pI (obPtR w a.toNatClampNeg b.toNatClampNeg p (obPt w a.toNatClampNeg b.toNatClampNeg p) k).2)), some (zI (nI p)), some (zI (nI k)), o] [] σ3) (fun o σ3 f3 => ?_) (fun k hk ih2 o σ3 f3 => ?_) 0 (Nat.zero_le _) _ σ2 f2
      · have hw3 := hw1.sc f3
        refine sX0_point_62 ha (x_postOf hw3 hI rfl hp ⟨Nat.lt_of_lt_of_eq hp hw3.C0.symm, ?_⟩)
        rw [hw3.many hp]
        refine zltN (by omega) (by omega) (fun c => absurd c (by omega)) (fun _ => ?_)
        rw [c1, nI_add]
        exact ih _ _ _ f3
      · have hw3 := hw1.sc f3
        have hPo := obWith_ok hI hk
        refine sX0_point_62 ha (x_postOf hw3 hI rfl hp ⟨Nat.lt_of_lt_of_eq hp hw3.C0.symm, ?_⟩)
        rw [hw3.many hp]
        refine zltN (by omega) (by omega) (fun _ => x_hoursIs hw3 hI (fun σ4 p4 a4 _ f4 => ⟨zix p rfl (by omega), ?_⟩)) (fun c => absurd hk (Nat.not_lt.mpr c))
        rw [zcl_n p rfl]
        have f5 : xSc σ1 (uA σ4 24 0 (upd (gA σ4 24 0) p (nI k))) := xFr.uA (xFr.trans f3 f4.wk) 24 _
        have p5 : xPar w (obWith w p k) (uA σ4 24 0 (upd (gA σ4 24 0) p (nI k))) := p4.fr (xFr.uA (I := []) (A := [24]) xFr.refl 24 _)
        refine x_goes (hw1.sc f5) hI p5 hPo (agr.upd a4 rfl) (fun σ6 r6 f6 => ?_)
        have f7 : xSc σ1 σ6 := xFr.trans f5 f6.wk
        refine x_come (hw1.sc f7) hI hPo r6 e hl e2 (by omega) ?_
        have ih2 := fun o => ih2 o σ6 f7
        simp only [obPtR] at ih2
        cases eq : obCome w (obWith w p k) a.toNatClampNeg b.toNatClampNeg with
        | none =>
          rw [eq] at ih2
          refine ⟨fun _ => ?_, fun q => absurd rfl q⟩
          rw [c1, nI_add]
          exact ih2 _
        | some t =>
          rw [eq] at ih2
          have ht := obCome_le hI eq
          refine ⟨fun q => absurd q (pI_ne (by omega)), fun _ => less_x ht (obPtR_le hI (obPt_le hI p) k) (fun c3 => ?_) (fun c3 => ?_)⟩
          · rw [if_pos c3] at ih2
            rw [c10, pk_mul, nI_add, c1, nI_add]; exact ih2 _
          · rw [if_neg (by rw [c3]; decide)] at ih2
            rw [c1, nI_add]; exact ih2 _
  refine x_come hw1 hI (obAs_ok hI) r1 e hl e2 (by omega) ?_
  have e0 : (obPt w a.toNatClampNeg b.toNatClampNeg 0).1 = obCome w (obAs w) a.toNatClampNeg b.toNatClampNeg := rfl
  rw [e0] at loop
  cases eq : obCome w (obAs w) a.toNatClampNeg b.toNatClampNeg with
  | none => rw [eq] at loop; exact ⟨fun _ => loop _, fun q => absurd rfl q⟩
  | some t =>
    have ht := obCome_le hI eq
    rw [eq] at loop
    exact ⟨fun q => absurd q (pI_ne (by omega)), fun _ => loop _⟩
