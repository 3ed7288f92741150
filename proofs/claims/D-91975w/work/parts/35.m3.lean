/-! THE MODEL: hours gone through -/
theorem pI_ne {p : Nat} (h : p < 2 ^ 31) : ¬ nI p = (-1 : Int32) := by
  intro q
  have h1 := nI_toInt h
  rw [q] at h1
  have h2 : (-1 : Int32).toInt = -1 := rfl
  rw [h2] at h1
  omega
theorem modN {a m : Nat} (ha : a < 2 ^ 31) (h0 : 0 < m) (hm : m < 2 ^ 31) : nI a - nI a / nI m * nI m = nI (a % m) := pk_rem ha h0 hm
theorem m_turnF {G : zG} {d : Nat} {w a : Nat → Nat} {σ : zS} {p : Nat} {x : Int32} {K : zS → Prop} (hw : wM w σ) (hI : obInv w) (hx : x = nI p) (hp : p < 7) (hm : 0 < obMany w p) (hA : agr 7 (gA σ 20 0) a) (ha0 : obArmOk w a) (h : ∀ σ', agr 7 (gA σ' 20 0) (obFwd w a p) → zFr [] [] [20] [] σ σ' → K σ') : zCallV zcl Zm G (d + 1) mX6_turn [zR 0 0, zI x, zI (1 : Int32)] σ K := by
  refine zmeth VX6_ok pX6_turn rfl (by decide) (Nat.le_of_ble_eq_true rfl) (fun AW ha => ?_)
  have hmm := hI.many hp
  have hap := ha0 p hp hm
  refine sX6_turn_0 ha ⟨zix p hx hp, m_roadMany hw hx hp (m_roadMany hw hx hp ⟨nI_ne0 hm (by omega), zix p hx hp, rfl, ?_⟩)⟩
  rw [zcl_n p hx, hA p hp, c1, nI_add, nI_add, modN (by omega) hm (by omega), Nat.add_mod_right]
  exact h _ (hA.upd rfl) (zFr.refl.uA 20 _)
theorem m_turnB {G : zG} {d : Nat} {w a : Nat → Nat} {σ : zS} {p : Nat} {x : Int32} {K : zS → Prop} (hw : wM w σ) (hI : obInv w) (hx : x = nI p) (hp : p < 7) (hm : 0 < obMany w p) (hA : agr 7 (gA σ 20 0) a) (ha0 : obArmOk w a) (h : ∀ σ', agr 7 (gA σ' 20 0) (obBwd w a p) → zFr [] [] [20] [] σ σ' → K σ') : zCallV zcl Zm G (d + 1) mX6_turn [zR 0 0, zI x, zI (-1 : Int32)] σ K := by
  refine zmeth VX6_ok pX6_turn rfl (by decide) (Nat.le_of_ble_eq_true rfl) (fun AW ha => ?_)
  have hmm := hI.many hp
  have hap := ha0 p hp hm
  refine sX6_turn_0 ha ⟨zix p hx hp, m_roadMany hw hx hp (m_roadMany hw hx hp ⟨nI_ne0 hm (by omega), zix p hx hp, rfl, ?_⟩)⟩
  have e : nI (a p) + (-1 : Int32) + nI (obMany w p) = nI (a p + obMany w p - 1) := by
    rw [Int32.add_assoc, Int32.add_comm (-1) _, ← Int32.add_assoc, nI_add, show a p + obMany w p = (a p + obMany w p - 1) + 1 by omega, pk_m1]
    rfl
  rw [zcl_n p hx, hA p hp, e, modN (by omega) hm (by omega)]
  exact h _ (hA.upd rfl) (zFr.refl.uA 20 _)
theorem m_sendD {G : zG} {d : Nat} {w a : Nat → Nat} {P : obP} {σ : zS} {p : Nat} {x : Int32} {B : zS → Prop} (hw : wM w σ) (hI : obInv w) (hP : mPar P σ) (hPo : obPok w P) (hx : x = nI p) (hp : p < 7) (hm : 0 < obMany w p) (hA : agr 7 (gA σ 20 0) a) (ha0 : obArmOk w a) (h : ∀ σ', agr 7 (gA σ' 20 0) (obSendD w P.1 a p) → zFr [] [] [20] [] σ σ' → B σ') : (gI σ 0 17 0 = (2 : Int32) → zCallV zcl Zm G (d + 1) mX6_turn [zR 0 0, zI x, zI (-1 : Int32)] σ B) ∧ (¬ gI σ 0 17 0 = (2 : Int32) → B σ) := by
  have hl := hPo.1
  rw [hP.1, c2]
  refine zeqN (by omega) (by decide) (fun c => m_turnB hw hI hx hp hm hA ha0 (fun σ' h1 h2 => h σ' (by unfold obSendD; rw [if_pos c]; exact h1) h2)) (fun c => h σ (by unfold obSendD; rw [if_neg c]; exact hA) zFr.refl)
theorem m_sendC {G : zG} {d : Nat} {w a : Nat → Nat} {P : obP} {σ : zS} {p r : Nat} {x y : Int32} {B : zS → Prop} (hw : wM w σ) (hI : obInv w) (hP : mPar P σ) (hPo : obPok w P) (hx : x = nI p) (hy : y = nI r) (hr : r < obMany w p) (hp : p < 7) (hA : agr 7 (gA σ 20 0) a) (ha0 : obArmOk w a) (h : ∀ σ', agr 7 (gA σ' 20 0) (obSendC w P.1 a p r) → zFr [] [] [20] [] σ σ' → B σ') :
    (gI σ 0 17 0 = 0 → zCallV zcl Zm G (d + 1) mX6_turn [zR 0 0, zI x, zI (1 : Int32)] σ B) ∧ (¬ gI σ 0 17 0 = 0 → ((gI σ 0 17 0 = (3 : Int32) → zCallI zcl Zm G (d + 1) mX6_roadTo [zR 0 0, zI x, zI y] σ (fun x5 σ5 => (x5 < (10 : Int32) → zCallV zcl Zm G (d + 1) mX6_turn [zR 0 0, zI x, zI (1 : Int32)] σ5 B) ∧ (¬ x5 < (10 : Int32) → B σ5))) ∧ (¬ gI σ 0 17 0 = (3 : Int32) → B σ))) := by
  have hl := hPo.1
  have hm : 0 < obMany w p := by omega
  have h4 := hI.many hp
  have ht := hI.toB hp hr
  rw [hP.1, c3, ← nI_0]
  refine zeqN (by omega) (by decide) (fun c => m_turnF hw hI hx hp hm hA ha0 (fun σ' h1 h2 => h σ' (by unfold obSendC; rw [if_pos (Or.inl c)]; exact h1) h2)) (fun c => zeqN (by omega) (by decide) (fun c3 => m_roadTo hw hx hy hp (by omega) ?_) (fun c3 => h σ (by unfold obSendC; rw [if_neg (by omega)]; exact hA) zFr.refl))
  rw [c10]
  refine zltN (by omega) (by decide) (fun c4 => m_turnF hw hI hx hp hm hA ha0 (fun σ' h1 h2 => h σ' (by unfold obSendC; rw [if_pos (Or.inr ⟨c3, c4⟩)]; exact h1) h2)) (fun c4 => h σ (by unfold obSendC; rw [if_neg (by omega)]; exact hA) zFr.refl)
theorem m_sendBy {G : zG} {d : Nat} {w a : Nat → Nat} {P : obP} {σ : zS} {p : Nat} {x : Int32} {K : Int32 → zS → Prop} (hw : wM w σ) (hI : obInv w) (hP : mPar P σ) (hPo : obPok w P) (hx : x = nI p) (hp : p < 7) (hm : 0 < obMany w p) (hA : agr 7 (gA σ 20 0) a) (ha0 : obArmOk w a) (h : ∀ σ', agr 7 (gA σ' 20 0) (obSendA w P a p) → zFr [] [] [20] [] σ σ' → K (nI (obSendR w P a p)) σ') : zCallI zcl Zm G (d + 2) mX6_sendBy [zR 0 0, zI x] σ K := by
  refine zmeth VX6_ok pX6_sendBy rfl (by decide) (Nat.le_of_ble_eq_true rfl) (fun AW ha => ?_)
  have hl := hPo.1
  have hb2 := hPo.2.2.1
  refine sX6_sendBy_0 ha (m_bit hP.2.2.1 hx (by omega) (by omega) ?_)
  rw [← nI_0]
  refine zeqN (Nat.lt_of_lt_of_le (Nat.mod_lt _ (by decide)) (by decide)) (by decide) (fun c => ⟨zix p hx hp, _, rfl, ?_⟩) (fun c => ?_)
  · rw [zcl_n p hx, hA p hp]
    have := h σ (by unfold obSendA; rw [if_pos c]; exact hA) zFr.refl
    unfold obSendR at this
    rw [if_pos c] at this
    exact this
  · have fin : ∀ (σ2 σ3 : zS), zFr [] [] [20] [] σ σ2 → zFr [] [] [20] [] σ2 σ3 → agr 7 (gA σ2 20 0) (obSendB w P.1 a p) → agr 7 (gA σ3 20 0) (obSendC w P.1 (obSendB w P.1 a p) p (obSendB w P.1 a p p)) → obArmOk w (obSendB w P.1 a p) → 
        ((gI σ3 0 17 0 = (2 : Int32) → zCallV zcl Zm G (d + 1) mX6_turn [zR 0 0, zI x, zI (-1 : Int32)] σ3 (fun σ4 => ∃ y, some (zI (gA σ2 20 0 x.toNatClampNeg)) = some (zI y) ∧ K y σ4)) ∧ (¬ gI σ3 0 17 0 = (2 : Int32) → ∃ y, some (zI (gA σ2 20 0 x.toNatClampNeg)) = some (zI y) ∧ K y σ3)) := by
      intro σ2 σ3 f1 f2 hB hC hBo
      have hf := f1.trans f2
      refine m_sendD (hw.fr hf) hI (hP.fr hf) hPo hx hp hm hC (by unfold obSendC; split; exact obFwd_ok hBo hm; exact hBo) (fun σ4 h1 h2 => ⟨_, rfl, ?_⟩)
      rw [zcl_n p hx, hB p hp]
      have := h σ4 (by unfold obSendA; rw [if_neg c]; exact h1) (hf.trans h2)
      unfold obSendR at this
      rw [if_neg c] at this
      exact this
    have mid : ∀ (σ2 : zS), zFr [] [] [20] [] σ σ2 → agr 7 (gA σ2 20 0) (obSendB w P.1 a p) → obArmOk w (obSendB w P.1 a p) → _ := fun σ2 f1 hB hBo =>
      m_sendC (d := d) (G := G) (y := gA σ2 20 0 x.toNatClampNeg) (hw.fr f1) hI (hP.fr f1) hPo hx (by rw [zcl_n p hx, hB p hp]) (hBo p hp hm) hp hB hBo (fun σ3 h1 h2 => fin σ2 σ3 f1 h2 hB h1 hBo)
    rw [hP.1, c1]
    refine zeqN (by omega) (by decide) (fun cl => m_turnF hw hI hx hp hm hA ha0 (fun σ2 h1 f1 => ⟨zix p hx hp, ?_⟩)) (fun cl => ⟨zix p hx hp, ?_⟩)
    · have e : obSendB w P.1 a p = obFwd w a p := by unfold obSendB; rw [if_pos cl]
      exact mid σ2 f1 (by rw [e]; exact h1) (by rw [e]; exact obFwd_ok ha0 hm)
    · have e : obSendB w P.1 a p = a := by unfold obSendB; rw [if_neg cl]
      have := mid σ zFr.refl (by rw [e]; exact hA) (by rw [e]; exact ha0)
      rw [hP.1] at this
      exact this
theorem m_isHeld {G : zG} {d : Nat} {w : Nat → Nat} {σ : zS} {i t : Nat} {x y : Int32} {K : Int32 → zS → Prop} (hw : wM w σ) (hI : obInv w) (hx : x = nI i) (hy : y = nI t) (hi : i < 8) (ht : t < 16) (h : K (bI (obHeld w i t = true)) σ) : zCallI zcl Zm G d mX6_isHeld [zR 0 0, zI x, zI y] σ K := by
  refine zmeth VX6_ok pX6_isHeld rfl (by decide) (Nat.le_of_ble_eq_true rfl) (fun AW ha => ?_)
  have hb := hI.b
  refine sX6_isHeld_0 ha ?_
  have loop : ∀ n k, k + n = w 8 → AW 5 [some (zR 0 0), some (zI x), some (zI y), some (zI (bI (obHeldN w i t k = true))), some (zI (nI k))] [] σ := by
    intro n
    induction n with
    | zero =>
      intro k hk
      refine sX6_isHeld_5 ha ⟨zin_lit rfl, ?_⟩
      rw [hw 8 (by decide)]
      refine zltN (by omega) (by omega) (fun q => absurd q (by omega)) (fun _ => ⟨bI_01 _, _, rfl, ?_⟩)
      rw [show k = w 8 by omega]; exact h
    | succ n ih =>
      intro k hk
      refine sX6_isHeld_5 ha ⟨zin_lit rfl, ?_⟩
      rw [hw 8 (by decide)]
      refine zltN (by omega) (by omega) (fun _ => zbr (fun c => ?_) (fun c => ?_)) (fun q => absurd q (by omega))
      · have e : (72 : Int32) + nI k = nI (72 + k) := by rw [c72, nI_add]
        have e2 : (10000 : Int32) + (100 : Int32) * x + y = nI (10000 + 100 * i + t) := by rw [hx, hy, c10000, c100, pk_mul, nI_add, nI_add]
        have hact := hI.act (k := k) (by omega)
        have hlt : obAct w k < 2 ^ 31 := by unfold obActOk at hact; omega
        refine ⟨zix _ e (by omega), ?_⟩
        rw [zcl_n _ e, hw _ (by omega), e2]
        have hs := ih (k + 1) (by omega)
        rw [c1, nI_add]
        refine zeqN hlt (by omega) (fun q => ?_) (fun q => ?_)
        · rw [bI_t (by simp only [obHeldN, Bool.or_eq_true]; right; rw [show obAct w k = w (72 + k) from rfl, q]; exact Nat.beq_refl _)] at hs; exact hs
        · rw [bI_f (by simp only [obHeldN, Bool.or_eq_true]; rintro (z | z); exact c z; exact q (Nat.eq_of_beq_eq_true z))] at hs; exact hs
      · have hs := ih (k + 1) (by omega)
        rw [c1, nI_add]
        rw [bI_t (by simp only [obHeldN, Bool.or_eq_true]; exact Or.inl c)] at hs; exact hs
  have := loop (w 8) 0 (by omega)
  rw [bI_f (by simp [obHeldN])] at this
  exact this
/-- the state of an hour, as it stands in the scratch -/
def mR (R : obR) (t : Nat) (σ : zS) : Prop := agr 7 (gA σ 20 0) R.1 ∧ agp 8 (gA σ 21 0) R.2.1 ∧ agr 28 (gA σ 25 0) R.2.2.1 ∧ agr 8 (gA σ 26 0) R.2.2.2.1 ∧ agr 4 (gA σ 27 0) R.2.2.2.2.1 ∧ agr 4 (gA σ 28 0) R.2.2.2.2.2.1 ∧ gA σ 24 0 t = nI R.2.2.2.2.2.2
