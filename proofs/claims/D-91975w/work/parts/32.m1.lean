/-! THE MODEL: small questions -/
/-- the row of all is w -/
def wM (w : Nat → Nat) (σ : zS) : Prop := agr 102 (gA σ 1 0) w
theorem m_in {G : zG} {d : Nat} {v lo hi : Int64} {σ : zS} {K : Int32 → zS → Prop} (h : K (bI (lo.toInt ≤ v.toInt ∧ v.toInt ≤ hi.toInt)) σ) : zCallI zcl Zm G d mX6_in [zL v, zL lo, zL hi] σ K := by
  refine zmeth VX6_ok pX6_in rfl (by decide) (Nat.le_of_ble_eq_true rfl) (fun AW ha => ?_)
  refine sX6_in_0 ha ?_
  rw [lc_lt, lc_gt]
  refine ⟨fun c => ⟨Or.inl rfl, _, rfl, ?_⟩, fun c => ⟨fun c2 => ⟨Or.inl rfl, _, rfl, ?_⟩, fun c2 => ⟨Or.inr rfl, _, rfl, ?_⟩⟩⟩
  · rw [bI_f (by omega)] at h; exact h
  · rw [bI_f (by omega)] at h; exact h
  · rw [bI_t (by omega)] at h; exact h
theorem m_isHeath {G : zG} {d : Nat} {w : Nat → Nat} {σ : zS} {K : Int32 → zS → Prop} (hw : wM w σ) (hI : obInv w) (h : K (bI (0 < w 9)) σ) : zCallI zcl Zm G d mX6_isHeath [zR 0 0] σ K := by
  refine zmeth VX6_ok pX6_isHeath rfl (by decide) (Nat.le_of_ble_eq_true rfl) (fun AW ha => ?_)
  refine sX6_isHeath_0 ha ⟨zin_lit rfl, ?_⟩
  have := hI.b
  rw [hw 9 (by decide), ← nI_0]
  refine zltN (by decide) (by omega) (fun c => ⟨Or.inr rfl, _, rfl, ?_⟩) (fun c => ⟨Or.inl rfl, _, rfl, ?_⟩)
  · rw [bI_t (by omega)] at h; exact h
  · rw [bI_f (by omega)] at h; exact h
theorem m_hours {G : zG} {d : Nat} {w : Nat → Nat} {σ : zS} {K : Int32 → zS → Prop} (hw : wM w σ) (h : K (nI (w 0)) σ) : zCallI zcl Zm G d mX6_hours [zR 0 0] σ K := by
  refine zmeth VX6_ok pX6_hours rfl (by decide) (Nat.le_of_ble_eq_true rfl) (fun AW ha => ?_)
  refine sX6_hours_0 ha ⟨zin_lit rfl, _, rfl, ?_⟩
  rw [hw 0 (by decide)]; exact h
theorem m_posts {G : zG} {d : Nat} {w : Nat → Nat} {σ : zS} {K : Int32 → zS → Prop} (hw : wM w σ) (h : K (nI (w 4)) σ) : zCallI zcl Zm G d mX6_posts [zR 0 0] σ K := by
  refine zmeth VX6_ok pX6_posts rfl (by decide) (Nat.le_of_ble_eq_true rfl) (fun AW ha => ?_)
  refine sX6_posts_0 ha ⟨zin_lit rfl, _, rfl, ?_⟩
  rw [hw 4 (by decide)]; exact h
theorem m_walkers {G : zG} {d : Nat} {w : Nat → Nat} {σ : zS} {K : Int32 → zS → Prop} (hw : wM w σ) (h : K (nI (w 7)) σ) : zCallI zcl Zm G d mX6_walkers [zR 0 0] σ K := by
  refine zmeth VX6_ok pX6_walkers rfl (by decide) (Nat.le_of_ble_eq_true rfl) (fun AW ha => ?_)
  refine sX6_walkers_0 ha ⟨zin_lit rfl, _, rfl, ?_⟩
  rw [hw 7 (by decide)]; exact h
theorem m_isHour {G : zG} {d : Nat} {w : Nat → Nat} {σ : zS} {t : Int64} {K : Int32 → zS → Prop} (hw : wM w σ) (hI : obInv w) (h : K (bI (0 < w 9 ∧ 0 ≤ t.toInt ∧ t.toInt ≤ w 0)) σ) : zCallI zcl Zm G (d + 1) mX6_isHour [zR 0 0, zL t] σ K := by
  refine zmeth VX6_ok pX6_isHour rfl (by decide) (Nat.le_of_ble_eq_true rfl) (fun AW ha => ?_)
  refine sX6_isHour_0 ha (m_isHeath hw hI (zbr (fun c => ⟨Or.inl rfl, _, rfl, ?_⟩) (fun c => m_hours hw (m_in ?_))))
  · rw [bI_f (fun q => c q.1)] at h; exact h
  · have := hI.b
    rw [i64, nI_toInt (by omega)]
    refine zbr (fun c2 => ⟨Or.inl rfl, _, rfl, ?_⟩) (fun c2 => ⟨Or.inr rfl, _, rfl, ?_⟩)
    · rw [bI_f (fun q => c2 q.2)] at h; exact h
    · rw [bI_t ⟨c, c2⟩] at h; exact h
theorem m_isAhead {G : zG} {d : Nat} {w : Nat → Nat} {σ : zS} {t : Int64} {K : Int32 → zS → Prop} (hw : wM w σ) (hI : obInv w) (h : K (bI (0 ≤ t.toInt ∧ t.toInt < w 0)) σ) : zCallI zcl Zm G (d + 1) mX6_isAhead [zR 0 0, zL t] σ K := by
  refine zmeth VX6_ok pX6_isAhead rfl (by decide) (Nat.le_of_ble_eq_true rfl) (fun AW ha => ?_)
  refine sX6_isAhead_0 ha (m_isHeath hw hI (zbr (fun c => ⟨Or.inl rfl, _, rfl, ?_⟩) (fun c => m_hours hw (m_in ?_))))
  · have h0 := hI.zero (by omega) (j := 0) (by decide)
    rw [bI_f (fun q => by omega)] at h; exact h
  · have := hI.b
    rw [i64, toI_1 (by omega)]
    refine zbr (fun c2 => ⟨Or.inl rfl, _, rfl, ?_⟩) (fun c2 => ⟨Or.inr rfl, _, rfl, ?_⟩)
    · rw [bI_f (fun q => c2 ⟨q.1, by omega⟩)] at h; exact h
    · rw [bI_t ⟨c2.1, by omega⟩] at h; exact h
theorem m_isPost {G : zG} {d : Nat} {w : Nat → Nat} {σ : zS} {p : Int64} {K : Int32 → zS → Prop} (hw : wM w σ) (hI : obInv w) (h : K (bI (0 ≤ p.toInt ∧ p.toInt < w 4)) σ) : zCallI zcl Zm G (d + 1) mX6_isPost [zR 0 0, zL p] σ K := by
  refine zmeth VX6_ok pX6_isPost rfl (by decide) (Nat.le_of_ble_eq_true rfl) (fun AW ha => ?_)
  refine sX6_isPost_0 ha (m_posts hw (m_in ⟨bI_01 _, _, rfl, ?_⟩))
  have := hI.b
  rw [bI_c (b := 0 ≤ p.toInt ∧ p.toInt < w 4) (by rw [i64, toI_1 (by omega)]; show (0 : Int) ≤ _ ∧ _ ↔ _; omega)]
  exact h
theorem m_isWalker {G : zG} {d : Nat} {w : Nat → Nat} {σ : zS} {p : Int64} {K : Int32 → zS → Prop} (hw : wM w σ) (hI : obInv w) (h : K (bI (0 ≤ p.toInt ∧ p.toInt < w 7)) σ) : zCallI zcl Zm G (d + 1) mX6_isWalker [zR 0 0, zL p] σ K := by
  refine zmeth VX6_ok pX6_isWalker rfl (by decide) (Nat.le_of_ble_eq_true rfl) (fun AW ha => ?_)
  refine sX6_isWalker_0 ha (m_walkers hw (m_in ⟨bI_01 _, _, rfl, ?_⟩))
  have := hI.b
  rw [bI_c (b := 0 ≤ p.toInt ∧ p.toInt < w 7) (by rw [i64, toI_1 (by omega)]; show (0 : Int) ≤ _ ∧ _ ↔ _; omega)]
  exact h
theorem m_isInn {G : zG} {d : Nat} {w : Nat → Nat} {σ : zS} {p : Int64} {K : Int32 → zS → Prop} (hw : wM w σ) (hI : obInv w) (h : K (bI (0 ≤ p.toInt ∧ p.toInt < w 3)) σ) : zCallI zcl Zm G (d + 1) mX6_isInn [zR 0 0, zL p] σ K := by
  refine zmeth VX6_ok pX6_isInn rfl (by decide) (Nat.le_of_ble_eq_true rfl) (fun AW ha => ?_)
  refine sX6_isInn_0 ha ⟨zin_lit rfl, m_in ⟨bI_01 _, _, rfl, ?_⟩⟩
  have := hI.b
  rw [bI_c (b := 0 ≤ p.toInt ∧ p.toInt < w 3) (by rw [hw 3 (by decide), i64, toI_1 (by omega)]; show (0 : Int) ≤ _ ∧ _ ↔ _; omega)]
  exact h
theorem m_roadMany {G : zG} {d : Nat} {w : Nat → Nat} {σ : zS} {p : Nat} {x : Int32} {K : Int32 → zS → Prop} (hw : wM w σ) (hx : x = nI p) (hp : p < 7) (h : K (nI (obMany w p)) σ) : zCallI zcl Zm G d mX6_roadMany [zR 0 0, zI x] σ K := by
  refine zmeth VX6_ok pX6_roadMany rfl (by decide) (Nat.le_of_ble_eq_true rfl) (fun AW ha => ?_)
  have e : (14 : Int32) + (6 : Int32) * x = nI (14 + 6 * p) := by rw [hx, c14, c6, pk_mul, nI_add]
  refine sX6_roadMany_0 ha ⟨zix _ e (by omega), _, rfl, ?_⟩
  rw [zcl_n _ e, hw _ (by omega)]; exact h
theorem m_roadTo {G : zG} {d : Nat} {w : Nat → Nat} {σ : zS} {p k : Nat} {x y : Int32} {K : Int32 → zS → Prop} (hw : wM w σ) (hx : x = nI p) (hy : y = nI k) (hp : p < 7) (hk : k < 4) (h : K (nI (obTo w p k)) σ) : zCallI zcl Zm G d mX6_roadTo [zR 0 0, zI x, zI y] σ K := by
  refine zmeth VX6_ok pX6_roadTo rfl (by decide) (Nat.le_of_ble_eq_true rfl) (fun AW ha => ?_)
  have e : (14 : Int32) + (6 : Int32) * x + (1 : Int32) + y = nI (15 + 6 * p + k) := by rw [hx, hy, c14, c6, c1, pk_mul, nI_add, nI_add, nI_add]; congr 1; omega
  refine sX6_roadTo_0 ha ⟨zix _ e (by omega), _, rfl, ?_⟩
  rw [zcl_n _ e, hw _ (by omega)]; exact h
theorem m_armOf {G : zG} {d : Nat} {w : Nat → Nat} {σ : zS} {p : Nat} {x : Int32} {K : Int32 → zS → Prop} (hw : wM w σ) (hx : x = nI p) (hp : p < 7) (h : K (nI (obArm w p)) σ) : zCallI zcl Zm G d mX6_armOf [zR 0 0, zI x] σ K := by
  refine zmeth VX6_ok pX6_armOf rfl (by decide) (Nat.le_of_ble_eq_true rfl) (fun AW ha => ?_)
  have e : (14 : Int32) + (6 : Int32) * x + (1 : Int32) + (4 : Int32) = nI (19 + 6 * p) := by rw [hx, c14, c6, c1, c4, pk_mul, nI_add, nI_add, nI_add]; congr 1; omega
  refine sX6_armOf_0 ha ⟨zix _ e (by omega), _, rfl, ?_⟩
  rw [zcl_n _ e, hw _ (by omega)]; exact h
