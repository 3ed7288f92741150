/-! THE MODEL: acts -/
section TOO
variable {G : zG} {d : Nat} {S : oZ} {σ : zS}
def oUndo (S : oZ) : Int32 × oZ := if 0 < S.1 9 then (if S.1 8 = 0 then (-5, S) else (nI (S.1 8 - 1), (fU S.1 8 (S.1 8 - 1), S.2))) else (-2, S)
theorem mZ.row {w : Nat → Nat} {σ' : zS} (h : mZ S σ) (hf : zFr [] [] [1] [] σ σ') (hw : wM w σ') : mZ (w, S.2) σ' := ⟨hw, h.2.1.fr hf, h.2.2.1.fr hf, h.2.2.2.1.fr hf, h.2.2.2.2.fr hf⟩
theorem m_undo {K : Int32 → zS → Prop} (h : mZ S σ) (hS : oOk S) (hK : ∀ σ', mZ (oUndo S).2 σ' → K (oUndo S).1 σ') : zCallI zcl Zm G (d + 1) mX6_undo [zR 0 0] σ K := by
  refine zmeth VX6_ok pX6_undo rfl (by decide) (Nat.le_of_ble_eq_true rfl) (fun AW hA => ?_)
  have hb := hS.1.b
  unfold oUndo at hK
  refine sX6_undo_0 hA (m_isHeath h.1 hS.1 (zbr (fun c => ⟨_, rfl, by rw [if_neg c] at hK; exact hK σ h⟩) (fun c => ⟨zin_lit rfl, ?_⟩)))
  rw [if_pos c] at hK
  have h8 := h.1 8 (by decide)
  rw [pk_us]
  rw [h8]
  refine ⟨fun c2 => ⟨_, rfl, ?_⟩, fun c2 => ⟨zin_lit rfl, zin_lit rfl, zin_lit rfl, _, rfl, ?_⟩⟩
  · rw [if_pos ((nI_eq (a := S.1 8) (b := 0) (by omega) (by decide)).mp c2)] at hK; exact hK σ h
  · have c3 : S.1 8 ≠ 0 := fun z => c2 (by rw [z]; rfl)
    rw [if_neg c3] at hK
    have e : nI (S.1 8) - (1 : Int32) = nI (S.1 8 - 1) := by rw [c1, pk_sub (by omega)]
    rw [e]
    exact hK _ (h.row (zFr.refl.uA 1 _) (agr.upd h.1 rfl))
def oAnew (S : oZ) : Int32 × oZ := if 0 < S.1 9 then (nI (S.1 8), (fU S.1 8 0, S.2)) else (-2, S)
theorem m_anew {K : Int32 → zS → Prop} (h : mZ S σ) (hS : oOk S) (hK : ∀ σ', mZ (oAnew S).2 σ' → K (oAnew S).1 σ') : zCallI zcl Zm G (d + 1) mX6_anew [zR 0 0] σ K := by
  refine zmeth VX6_ok pX6_anew rfl (by decide) (Nat.le_of_ble_eq_true rfl) (fun AW hA => ?_)
  unfold oAnew at hK
  refine sX6_anew_0 hA (m_isHeath h.1 hS.1 (zbr (fun c => ⟨_, rfl, by rw [if_neg c] at hK; exact hK σ h⟩) (fun c => ⟨zin_lit rfl, zin_lit rfl, _, rfl, ?_⟩)))
  rw [if_pos c] at hK
  rw [h.1 8 (by decide)]
  exact hK _ (h.row (zFr.refl.uA 1 _) (agr.upd h.1 rfl))
/-- one act more -/
def actW (w : Nat → Nat) (a : Nat) : Nat → Nat := fU (fU w (72 + w 8) a) 8 (w 8 + 1)
theorem actW_n {w : Nat → Nat} {a j : Nat} (h8 : j ≠ 8) (h72 : j < 72) : actW w a j = w j := by unfold actW; rw [fU_n h8, fU_n (by omega)]
theorem actW_inv {w : Nat → Nat} {a : Nat} (hI : obInv w) (h9 : 0 < w 9) (h8 : w 8 < 30) (ha : obActOk w a) : obInv (actW w a) := by
  obtain ⟨⟨b0, b1, b2, b3, b4, b5, b6, b7, b8, b9⟩, i1, i2, i3, i4, i5, i6, i7, i8⟩ := hI
  have e : ∀ j, j ≠ 8 → j < 72 → actW w a j = w j := fun j q1 q2 => actW_n q1 q2
  have e8 : actW w a 8 = w 8 + 1 := fU_s
  unfold obInv obRoom obMany obArm obTo obWp obWh obAct obActOk at *
  rw [e 0 (by decide) (by decide), e 1 (by decide) (by decide), e 2 (by decide) (by decide), e 3 (by decide) (by decide), e 4 (by decide) (by decide), e 5 (by decide) (by decide), e 6 (by decide) (by decide), e 7 (by decide) (by decide), e8, e 9 (by decide) (by decide)]
  refine ⟨⟨b0, b1, b2, b3, b4, b5, b6, b7, by omega, b9⟩, fun i hi => ?_, fun p hp => ?_, fun p k hp hk => ?_, fun i hi => ?_, fun i hi => ?_, fun k hk => ?_, fun z => absurd z (by omega), i8⟩
  · rw [e _ (by omega) (by omega)]; exact i1 i hi
  · rw [e _ (by omega) (by omega), e _ (by omega) (by omega)]; exact i2 p hp
  · rw [e (14 + 6 * p) (by omega) (by omega)] at hk
    have := (i2 p hp).1
    rw [e _ (by omega) (by omega)]; exact i3 p k hp hk
  · rw [e _ (by omega) (by omega)]; exact i4 i hi
  · rw [e _ (by omega) (by omega)]; exact i5 i hi
  · by_cases z : k = w 8
    · have : actW w a (72 + k) = a := by unfold actW; rw [fU_n (by omega), z, fU_s]
      rw [this]; exact ha
    · have : actW w a (72 + k) = w (72 + k) := by unfold actW; rw [fU_n (by omega), fU_n (by omega)]
      rw [this]; exact i6 k (by omega)
theorem m_keepAct {w : Nat → Nat} {x : Int32} {a : Nat} {K : Int32 → zS → Prop} (hw : wM w σ) (hI : obInv w) (h9 : 0 < w 9) (hx : x = nI a) (ha : obActOk w a) (h0 : w 8 = 30 → K 0 σ) (h1 : w 8 < 30 → ∀ σ', wM (actW w a) σ' → mRan (actW w a) (obAs (actW w a)) σ' → zFr mSI mSL (1 :: mSA) [] σ σ' → K 1 σ') : zCallI zcl Zm G (d + 7) mX6_keepAct [zR 0 0, zI x] σ K := by
  refine zmeth VX6_ok pX6_keepAct rfl (by decide) (Nat.le_of_ble_eq_true rfl) (fun AW hA => ?_)
  have hb := hI.b
  refine sX6_keepAct_0 hA ⟨zin_lit rfl, ?_⟩
  have h8 := hw 8 (by decide)
  have e : (72 : Int32) + nI (w 8) = nI (72 + w 8) := by rw [c72, nI_add]
  rw [h8, e, show (30 : Int32) = nI 30 from rfl]
  refine zeqN (by omega) (by decide) (fun c => ⟨Or.inl rfl, _, rfl, h0 c⟩) (fun c => ⟨zin_lit rfl, zix _ rfl (by omega), zin_lit rfl, zin_lit rfl, ?_⟩)
  have c' : w 8 < 30 := by omega
  rw [zcl_n _ rfl, pk_un (by omega), h8, c1, nI_add]
  have hw' : wM (actW w a) (uA (uA σ 1 0 (upd (gA σ 1 0) (72 + w 8) x)) 1 0 (upd (upd (gA σ 1 0) (72 + w 8) x) 8 (nI (w 8 + 1)))) := by
    unfold actW
    exact agr.upd (agr.upd hw hx) rfl
  refine m_asksHeath hw' (actW_inv hI h9 c' ha) (fun σ' r p f => ⟨Or.inr rfl, _, rfl, h1 c' σ' (hw'.fr f) r ?_⟩)
  exact zFr.trans (((zFr.refl.uA 1 _).uA 1 _)) f.wk
/-- a twist: what the post's arm is at the end -/
abbrev aheadOk (w : Nat → Nat) (b : Int32) : Prop := 0 ≤ b.toInt ∧ b.toInt < w 0
def oTwists (S : oZ) (a b : Int32) : Int32 × oZ := if poOk S.1 a ∧ aheadOk S.1 b then (if S.1 8 = 30 then (-5, S) else ((let w := actW S.1 (100 * a.toNatClampNeg + b.toNatClampNeg); if obMany w a.toNatClampNeg = 0 then -1 else nI ((obAt w (obAs w) (w 0)).1 a.toNatClampNeg)), (actW S.1 (100 * a.toNatClampNeg + b.toNatClampNeg), S.2))) else (-2, S)
theorem m_twists {a b : Int32} {K : Int32 → zS → Prop} (h : mZ S σ) (hS : oOk S) (hK : ∀ σ', mZ (oTwists S a b).2 σ' → K (oTwists S a b).1 σ') : zCallI zcl Zm G (d + 8) mX6_twists [zR 0 0, zI a, zI b] σ K := by
  refine zmeth VX6_ok pX6_twists rfl (by decide) (Nat.le_of_ble_eq_true rfl) (fun AW hA => ?_)
  have hb := hS.1.b
  unfold oTwists at hK
  refine sX6_twists_0 hA (m_isPost h.1 hS.1 ?_)
  rw [i64]
  refine zbr (fun c => ⟨_, rfl, by rw [if_neg (fun z => c z.1)] at hK; exact hK σ h⟩) (fun c => m_isAhead h.1 hS.1 ?_)
  rw [i64]
  refine zbr (fun c2 => ⟨_, rfl, by rw [if_neg (fun z => c2 z.2)] at hK; exact hK σ h⟩) (fun c2 => ?_)
  rw [if_pos ⟨c, c2⟩] at hK
  obtain ⟨e1, l1⟩ := okN c
  obtain ⟨e2, l2⟩ := okN c2
  generalize a.toNatClampNeg = p at e1 l1 hK
  generalize b.toNatClampNeg = t at e2 l2 hK
  have h9 : 0 < S.1 9 := by
    rcases Nat.eq_zero_or_pos (S.1 9) with z | z
    · have := hS.1.zero z (j := 0) (by decide); omega
    · exact z
  have ok : obActOk S.1 (100 * p + t) := Or.inl ⟨by omega, by omega⟩
  refine m_keepAct (a := 100 * p + t) h.1 hS.1 h9 (by rw [e1, e2, c100, pk_mul, nI_add]) ok (fun q => ⟨fun _ => ⟨_, rfl, ?_⟩, fun z => absurd rfl z⟩) (fun q σ' w1 r1 f1 => ⟨fun z => absurd z (by decide), fun _ => ?_⟩)
  · rw [if_pos q] at hK; exact hK σ h
  · rw [if_neg (by omega)] at hK
    dsimp only at hK
    have hI' := actW_inv hS.1 h9 q ok
    have hz : mZ (actW S.1 (100 * p + t), S.2) σ' := ⟨w1, h.2.1.fr f1, h.2.2.1.fr f1, h.2.2.2.1.fr f1, h.2.2.2.2.fr f1⟩
    have hk := hK σ' hz
    have h4 := hI'.many (show p < 7 by omega)
    refine m_roadMany w1 e1 (by omega) ?_
    rw [← nI_0]
    refine zeqN (by omega) (by decide) (fun c3 => ⟨_, rfl, by rw [if_pos c3] at hk; exact hk⟩) (fun c3 => ⟨zix _ e1 (by omega), _, rfl, ?_⟩)
    rw [if_neg c3] at hk
    rw [r1.2.2.1 p (by omega)]
    exact hk
def oHolds (S : oZ) (a b : Int32) : Int32 × oZ := if (0 ≤ a.toInt ∧ a.toInt < S.1 7) ∧ aheadOk S.1 b then (if S.1 8 = 30 then (-5, S) else ((let w := actW S.1 (10000 + 100 * a.toNatClampNeg + b.toNatClampNeg); pI (pl w (obAs w) (w 0) a.toNatClampNeg)), (actW S.1 (10000 + 100 * a.toNatClampNeg + b.toNatClampNeg), S.2))) else (-2, S)
theorem m_holds {a b : Int32} {K : Int32 → zS → Prop} (h : mZ S σ) (hS : oOk S) (hK : ∀ σ', mZ (oHolds S a b).2 σ' → K (oHolds S a b).1 σ') : zCallI zcl Zm G (d + 8) mX6_holds [zR 0 0, zI a, zI b] σ K := by
  refine zmeth VX6_ok pX6_holds rfl (by decide) (Nat.le_of_ble_eq_true rfl) (fun AW hA => ?_)
  have hb := hS.1.b
  unfold oHolds at hK
  refine sX6_holds_0 hA (m_isWalker h.1 hS.1 ?_)
  rw [i64]
  refine zbr (fun c => ⟨_, rfl, by rw [if_neg (fun z => c z.1)] at hK; exact hK σ h⟩) (fun c => m_isAhead h.1 hS.1 ?_)
  rw [i64]
  refine zbr (fun c2 => ⟨_, rfl, by rw [if_neg (fun z => c2 z.2)] at hK; exact hK σ h⟩) (fun c2 => ?_)
  rw [if_pos ⟨c, c2⟩] at hK
  obtain ⟨e1, l1⟩ := okN c
  obtain ⟨e2, l2⟩ := okN c2
  generalize a.toNatClampNeg = p at e1 l1 hK
  generalize b.toNatClampNeg = t at e2 l2 hK
  have h9 : 0 < S.1 9 := by
    rcases Nat.eq_zero_or_pos (S.1 9) with z | z
    · have := hS.1.zero z (j := 0) (by decide); omega
    · exact z
  have ok : obActOk S.1 (10000 + 100 * p + t) := Or.inr ⟨by omega, by omega, by omega⟩
  refine m_keepAct (a := 10000 + 100 * p + t) h.1 hS.1 h9 (by rw [e1, e2, c100, c10000, pk_mul, nI_add, nI_add]) ok (fun q => ⟨fun _ => ⟨_, rfl, ?_⟩, fun z => absurd rfl z⟩) (fun q σ' w1 r1 f1 => ⟨fun z => absurd z (by decide), fun _ => ?_⟩)
  · rw [if_pos q] at hK; exact hK σ h
  · rw [if_neg (by omega)] at hK
    dsimp only at hK
    have hz : mZ (actW S.1 (10000 + 100 * p + t), S.2) σ' := ⟨w1, h.2.1.fr f1, h.2.2.1.fr f1, h.2.2.2.1.fr f1, h.2.2.2.2.fr f1⟩
    have hk := hK σ' hz
    have e7 : actW S.1 (10000 + 100 * p + t) 7 = S.1 7 := actW_n (by decide) (by decide)
    refine m_hours w1 (m_placeOf (P := obAs (actW S.1 (10000 + 100 * p + t))) (actW_inv hS.1 h9 q ok) r1 e1 rfl (by omega) (Nat.le_refl _) ⟨_, rfl, hk⟩)
end TOO
