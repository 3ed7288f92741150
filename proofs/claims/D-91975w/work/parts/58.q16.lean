/-! QUESTIONS: gets -/
def obCm (w : Nat → Nat) (i j e1 e2 : Nat) : Nat → Nat := fU (fU (obWh w) i (obWh w i + e1)) j (obWh w j + e2)
def obG (w : Nat → Nat) (i j e1 e2 : Nat) : obP := (w 1, 0, 127, obArm w, obCm w i j e1 e2)
theorem obCm_le {w : Nat → Nat} (hI : obInv w) {i j e1 e2 q : Nat} (h1 : e1 ≤ 1) (h2 : e2 ≤ 1) (hq : q < 8) (hi : i < 8) (hj : j < 8) : obCm w i j e1 e2 q ≤ 16 := by
  have := hI.wh hq
  have := hI.wh hi
  have := hI.wh hj
  unfold obCm
  by_cases c : q = j
  · rw [c, fU_s]; omega
  · rw [fU_n c]
    by_cases c2 : q = i
    · rw [c2, fU_s]; omega
    · rw [fU_n c2]; omega
theorem obG_ok {w : Nat → Nat} (hI : obInv w) {i j e1 e2 : Nat} (h1 : e1 ≤ 1) (h2 : e2 ≤ 1) (hi : i < 8) (hj : j < 8) : obPok w (obG w i j e1 e2) := by
  have := obAs_ok hI
  refine ⟨this.1, this.2.1, this.2.2.1, this.2.2.2.1, fun q hq => ?_⟩
  have := obCm_le hI h1 h2 hq hi hj
  show obCm w i j e1 e2 q < _
  omega
theorem obCm_up {w : Nat → Nat} {N i j e1 e2 : Nat} {f : Nat → Int32} {x y : Int32} (h : agr N f (obWh w)) (hi : i < N) (hj : j < N) (hij : i ≠ j) (hx : x = nI e1) (hy : y = nI e2) : agr N (upd (upd f i (f i + x)) j (upd f i (f i + x) j + y)) (obCm w i j e1 e2) := by
  refine agr.upd (agr.upd h ?_) ?_
  · rw [h i hi, hx, nI_add]
  · rw [pk_un (fun q => hij q.symm), h j hj, hy, nI_add]
def obPay (q : Option Nat) (e : Int32) : Int32 := match q with | none => 0 - e | some t => 20 - nI t - e
theorem pay {w : Nat → Nat} (hI : obInv w) {P : obP} {q : Nat} {e : Int32} {A : Int32 → Prop} (h : A (obPay (obHome w P q) e)) : (pI (obHome w P q) = -1 → A (0 - e)) ∧ (¬ pI (obHome w P q) = -1 → A (20 - pI (obHome w P q) - e)) := by
  cases eq : obHome w P q with
  | none => rw [eq] at h; exact ⟨fun _ => h, fun q => absurd rfl q⟩
  | some t =>
    rw [eq] at h
    have := obFst_lt _ _ _ eq
    have hb := hI.b
    exact ⟨fun q => absurd q (pI_ne (by omega)), fun _ => h⟩
theorem m_getsBy {G : zG} {d : Nat} {w : Nat → Nat} {σ : zS} {i j e1 e2 : Nat} {x y a b c : Int32} {K : Int32 → zS → Prop} (hw : wM w σ) (hI : obInv w) (hx : x = nI i) (hy : y = nI j) (ha : a = nI e1) (hb2 : b = nI e2) (hi : i < w 7) (hj : j < w 7) (hij : i ≠ j) (h1 : e1 ≤ 1) (h2 : e2 ≤ 1) (h : ∀ σ', mSc σ σ' → K (if c = 0 then obPay (obHome w (obG w i j e1 e2) i) a else obPay (obHome w (obG w i j e1 e2) j) b) σ') : zCallI zcl Zm G (d + 6) mX6_getsBy [zR 0 0, zI x, zI y, zI a, zI b, zI c] σ K := by
  refine zmeth VX6_ok pX6_getsBy rfl (by decide) (Nat.le_of_ble_eq_true rfl) (fun AW hA => ?_)
  have hb := hI.b
  refine sX6_getsBy_0 hA (m_asItIs hw (fun σ1 p1 f1 => ⟨zix i hx (by omega), zix i hx (by omega), zix j hy (by omega), zix j hy (by omega), ?_⟩))
  rw [zcl_n i hx, zcl_n j hy]
  have hPo := obG_ok hI h1 h2 (show i < 8 by omega) (show j < 8 by omega)
  have f2 : mSc σ (uA (uA σ1 16 0 (upd (gA σ1 16 0) i (gA σ1 16 0 i + a))) 16 0 (upd (upd (gA σ1 16 0) i (gA σ1 16 0 i + a)) j (upd (gA σ1 16 0) i (gA σ1 16 0 i + a) j + b))) := zFr.uA (zFr.uA f1.wk 16 _) 16 _
  have p2 : mPar (obG w i j e1 e2) (uA (uA σ1 16 0 (upd (gA σ1 16 0) i (gA σ1 16 0 i + a))) 16 0 (upd (upd (gA σ1 16 0) i (gA σ1 16 0 i + a)) j (upd (gA σ1 16 0) i (gA σ1 16 0 i + a) j + b))) := ⟨p1.1, p1.2.1, p1.2.2.1, p1.2.2.2.1, obCm_up p1.2.2.2.2 (by omega) (by omega) hij ha hb2⟩
  refine m_goAll (hw.sc f2) hI p2 hPo (fun σ3 r3 f3 => ?_)
  have h := h σ3 (zFr.trans f2 f3.wk)
  have hw3 := hw.sc (zFr.trans f2 f3.wk)
  refine ⟨fun c0 => m_homeOf hw3 hI hPo r3 hx hi ?_, fun c0 => m_homeOf hw3 hI hPo r3 hy hj ?_⟩
  · rw [if_pos c0] at h
    have hp := pay hI (A := fun v => ∃ u, some (zI v) = some (zI u) ∧ K u σ3) ⟨_, rfl, h⟩
    exact ⟨fun q => ⟨fun _ => hp.1 q, fun n => absurd c0 n⟩, fun q => ⟨fun _ => hp.2 q, fun n => absurd c0 n⟩⟩
  · rw [if_neg c0] at h
    have hp := pay hI (A := fun v => ∃ u, some (zI v) = some (zI u) ∧ K u σ3) ⟨_, rfl, h⟩
    exact ⟨fun q => ⟨fun n => absurd n c0, fun _ => hp.1 q⟩, fun q => ⟨fun n => absurd n c0, fun _ => hp.2 q⟩⟩
theorem x_home1 {G : zG} {d : Nat} {w : Nat → Nat} {P : obP} {σ : zS} {i : Nat} {x : Int32} {K : Int32 → zS → Prop} (hw : wX w σ) (hI : obInv w) (hPo : obPok w P) (hr : xRan w P σ) (hx : x = nI i) (hi : i < w 7) (h : K (pI (obHome w P i)) σ) : zCallI zcl Zx G (d + 1) mX3_home [zR 2 0, zI x, zI (-1)] σ K := by
  refine x_homeAt hw hI hPo hr hx hi ?_
  have : (fun t => plIn (pl w P t i) && (decide ((-1 : Int32) = -1) || decide (pI (pl w P t i) = 10 + (-1 : Int32)))) = (fun t => plIn (pl w P t i)) := by funext t; simp
  rw [this]; exact h
theorem x_getsOf {G : zG} {d : Nat} {w : Nat → Nat} {σ : zS} {i j e1 e2 q : Nat} {z x y a b : Int32} {K : Int32 → zS → Prop} (hw : wX w σ) (hI : obInv w) (hz : z = nI q) (hx : x = nI i) (hy : y = nI j) (ha : a = nI e1) (hb2 : b = nI e2) (hi : i < w 7) (hj : j < w 7) (hij : i ≠ j) (h1 : e1 ≤ 1) (h2 : e2 ≤ 1) (hq : q < w 7) (h : ∀ σ', xSc σ σ' → K (obPay (obHome w (obG w i j e1 e2) q) (if z = x then a else b)) σ') : zCallI zcl Zx G (d + 8) mX0_getsOf [zR 0 0, zI z, zI x, zI y, zI a, zI b] σ K := by
  refine zmeth VX0_ok pX0_getsOf rfl (by decide) (Nat.le_of_ble_eq_true rfl) (fun AW hA => ?_)
  have hb := hI.b
  refine sX0_getsOf_0 hA (x_hoursIs hw hI (fun σ1 p1 a1 q1 f1 => ⟨zix i hx (by omega), zix i hx (by omega), zix j hy (by omega), zix j hy (by omega), ?_⟩))
  rw [zcl_n i hx, zcl_n j hy]
  have hPo := obG_ok hI h1 h2 (show i < 8 by omega) (show j < 8 by omega)
  have f2 : xSc σ (uA (uA σ1 30 0 (upd (gA σ1 30 0) i (gA σ1 30 0 i + a))) 30 0 (upd (upd (gA σ1 30 0) i (gA σ1 30 0 i + a)) j (upd (gA σ1 30 0) i (gA σ1 30 0 i + a) j + b))) := xFr.uA (xFr.uA (xFr.trans (xFr.refl (I := xScr) (A := xArr)) f1.wk) 30 _) 30 _
  have hcm := obCm_up q1.2.2 hi hj hij ha hb2
  have p2 : xPar w (obG w i j e1 e2) (uA (uA σ1 30 0 (upd (gA σ1 30 0) i (gA σ1 30 0 i + a))) 30 0 (upd (upd (gA σ1 30 0) i (gA σ1 30 0 i + a)) j (upd (gA σ1 30 0) i (gA σ1 30 0 i + a) j + b))) := by
    refine ⟨p1.1, p1.2.1, p1.2.2.1, fun k hk t ht => ?_⟩
    show (upd (upd (gA σ1 30 0) i (gA σ1 30 0 i + a)) j (upd (gA σ1 30 0) i (gA σ1 30 0 i + a) j + b) k = nI t ∧ ¬ nI k = gI σ1 2 12 0) ↔ obCm w i j e1 e2 k = t
    have hle := obCm_le hI h1 h2 (show k < 8 by omega) (show i < 8 by omega) (show j < 8 by omega)
    rw [hcm k hk, q1.2.1, nI_eq (by omega) (by omega)]
    exact ⟨fun q => q.1, fun q => ⟨q, fun q2 => pI_ne (show k < 2 ^ 31 by omega) q2⟩⟩
  refine x_goes (hw.sc f2) hI p2 hPo a1 (fun σ3 r3 f3 => ?_)
  have h := h σ3 (xFr.trans f2 f3.wk)
  refine x_home1 (hw.sc (xFr.trans f2 f3.wk)) hI hPo r3 hz hq ?_
  have hp := pay hI (A := fun v => ∃ u, some (zI v) = some (zI u) ∧ K u σ3) ⟨_, rfl, h⟩
  refine ⟨fun n => ⟨fun m => ?_, fun m => ?_⟩, fun n => ⟨fun m => ?_, fun m => ?_⟩⟩
  · have := hp.1 n; rw [if_pos m] at this; exact this
  · have := hp.1 n; rw [if_neg m] at this; exact this
  · have := hp.2 n; rw [if_pos m] at this; exact this
  · have := hp.2 n; rw [if_neg m] at this; exact this
abbrev btOk (a : Int32) : Prop := 0 ≤ a.toInt ∧ a.toInt ≤ 1
def oGets (w : Nat → Nat) (a b x y : Int32) : Int32 := if twOk w a b ∧ btOk x ∧ btOk y then obPay (obHome w (obG w a.toNatClampNeg b.toNatClampNeg x.toNatClampNeg y.toNatClampNeg) a.toNatClampNeg) x else -1000
theorem m_gets {G : zG} {d : Nat} {w : Nat → Nat} {σ : zS} {a b x y : Int32} {K : Int32 → zS → Prop} (hw : wM w σ) (hI : obInv w) (h : ∀ σ', mSc σ σ' → K (oGets w a b x y) σ') : zCallI zcl Zm G (d + 8) mX6_gets [zR 0 0, zI a, zI b, zI x, zI y] σ K := by
  refine zmeth VX6_ok pX6_gets rfl (by decide) (Nat.le_of_ble_eq_true rfl) (fun AW ha => ?_)
  have hb := hI.b
  unfold oGets at h
  refine sX6_gets_0 ha (m_areTwo hw hI (zbr (fun c => ⟨_, rfl, by have h := h σ mSc.refl; rw [if_neg (fun q => c q.1)] at h; exact h⟩) (fun c => m_in ?_)))
  rw [i64]
  refine zbr (c := btOk x) (fun c2 => ⟨_, rfl, by have h := h σ mSc.refl; rw [if_neg (fun q => c2 q.2.1)] at h; exact h⟩) (fun c2 => m_in ?_)
  rw [i64]
  refine zbr (c := btOk y) (fun c3 => ⟨_, rfl, by have h := h σ mSc.refl; rw [if_neg (fun q => c3 q.2.2)] at h; exact h⟩) (fun c3 => ?_)
  rw [if_pos ⟨c, c2, c3⟩] at h
  obtain ⟨e, hl⟩ := okN c.1
  obtain ⟨e2, hl2⟩ := okN c.2.1
  obtain ⟨e3, hl3⟩ := okN' (a := x) (n := 1) c2
  obtain ⟨e4, hl4⟩ := okN' (a := y) (n := 1) c3
  exact m_getsBy hw hI e e2 e3 e4 hl hl2 (fun q => c.2.2 (by rw [e, e2, q])) hl3 hl4 (fun σ2 f2 => ⟨_, rfl, h σ2 f2⟩)
theorem x_gets {G : zG} {d : Nat} {w : Nat → Nat} {σ : zS} {a b x y : Int32} {K : Int32 → zS → Prop} (hw : wX w σ) (hI : obInv w) (h : ∀ σ', xSc σ σ' → K (oGets w a b x y) σ') : zCallI zcl Zx G (d + 9) mX0_gets [zR 0 0, zI a, zI b, zI x, zI y] σ K := by
  refine zmeth VX0_ok pX0_gets rfl (by decide) (Nat.le_of_ble_eq_true rfl) (fun AW ha => ?_)
  have hb := hI.b
  unfold oGets at h
  refine sX0_gets_0 ha (x_areTwo hw hI (zbr (fun c => ⟨_, rfl, by have h := h σ xSc.refl; rw [if_neg (fun q => c q.1)] at h; exact h⟩) (fun c => x_isBit (zbr (fun c2 => ⟨_, rfl, by have h := h σ xSc.refl; rw [if_neg (fun q => c2 q.2.1)] at h; exact h⟩) (fun c2 => x_isBit (zbr (fun c3 => ⟨_, rfl, by have h := h σ xSc.refl; rw [if_neg (fun q => c3 q.2.2)] at h; exact h⟩) (fun c3 => ?_)))))))
  rw [if_pos ⟨c, c2, c3⟩] at h
  obtain ⟨e, hl⟩ := okN c.1
  obtain ⟨e2, hl2⟩ := okN c.2.1
  obtain ⟨e3, hl3⟩ := okN' (a := x) (n := 1) c2
  obtain ⟨e4, hl4⟩ := okN' (a := y) (n := 1) c3
  refine x_getsOf hw hI e e e2 e3 e4 hl hl2 (fun q => c.2.2 (by rw [e, e2, q])) hl3 hl4 hl (fun σ2 f2 => ⟨_, rfl, ?_⟩)
  rw [if_pos rfl]; exact h σ2 f2
