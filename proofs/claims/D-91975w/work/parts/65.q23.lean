/-! QUESTIONS: share -/
def shT (w : Nat → Nat) (p s : Nat) : Int64 := (n64 (fc (obCnt s 16)) * n64 (fc (w 4 - 1 - obCnt s 16))) * (nI (obWorth w (s ||| 2 ^ p)) - nI (obWorth w s)).toInt64
def shS (w : Nat → Nat) (p : Nat) : Nat → Int64
  | 0 => 0
  | s + 1 => if s / 2 ^ p % 2 = 0 then shS w p s + shT w p s else shS w p s
def oShare (w : Nat → Nat) (a b : Int32) : Int32 := if poOk w a ∧ btOk b then (ptL (shS w a.toNatClampNeg (2 ^ w 4)) (n64 (fc (w 4))) b).toInt32 else -1000
theorem fc_le : ∀ n, n < 8 → (n64 (fc n)).toInt.natAbs ≤ 5040 ∧ 0 < (n64 (fc n)).toInt := by decide +kernel
theorem obCnt_16 (s : Nat) : obCnt s 16 ≤ 16 := obCnt_le s 16
theorem shT_le {w : Nat → Nat} {p s : Nat} (hc : obCnt s 16 < 8) (h4 : w 4 ≤ 7) : (shT w p s).toInt.natAbs ≤ 812851200 := by
  unfold shT
  have h1 := (fc_le _ hc).1
  have h2 := (fc_le (w 4 - 1 - obCnt s 16) (by omega)).1
  have h3 := mulA (n64 (fc (obCnt s 16))) (n64 (fc (w 4 - 1 - obCnt s 16)))
  have h5 : ((nI (obWorth w (s ||| 2 ^ p)) - nI (obWorth w s)).toInt64).toInt.natAbs ≤ 32 := by
    have a1 := obCnt_16 (obIns w (obW w (s ||| 2 ^ p)) (w 0))
    have a2 := obCnt_16 (obIns w (obW w s) (w 0))
    have a1 : obWorth w (s ||| 2 ^ p) ≤ 16 := a1
    have a2 : obWorth w s ≤ 16 := a2
    rw [i64, Int32.toInt_sub, nI_toInt (by omega), nI_toInt (by omega)]
    have : ((obWorth w (s ||| 2 ^ p) : Int) - (obWorth w s : Int)).bmod (2 ^ 32) = (obWorth w (s ||| 2 ^ p) : Int) - (obWorth w s : Int) := Int.bmod_eq_of_le (by omega) (by omega)
    rw [this]; omega
  exact Nat.le_trans (mulA _ _) (Nat.le_trans (Nat.mul_le_mul (Nat.le_trans h3 (Nat.mul_le_mul h1 h2)) h5) (Nat.le_of_ble_eq_true rfl))
theorem shS_le {w : Nat → Nat} {p B : Nat} : ∀ n, (∀ s, s < n → (shT w p s).toInt.natAbs ≤ B) → (shS w p n).toInt.natAbs ≤ n * B := by
  intro n
  induction n with
  | zero => intro _; exact Nat.zero_le _
  | succ n ih =>
    intro hc
    have h1 := ih (fun s hs => hc s (by omega))
    rw [Nat.succ_mul]
    unfold shS
    split
    · exact Nat.le_trans (addA _ _) (Nat.add_le_add h1 (hc n (by omega)))
    · exact Nat.le_trans h1 (Nat.le_add_right _ _)
theorem cnt128 : ∀ s, s < 128 → obCnt s 16 < 8 := by decide +kernel
set_option maxRecDepth 100000 in
theorem cntFree : ∀ n, n < 8 → ∀ s, s < 2 ^ n → ∀ p, p < n → s / 2 ^ p % 2 = 0 → obCnt s 16 + 1 ≤ n ∧ s ||| 2 ^ p < 2 ^ n := by decide +kernel
theorem shOk {w : Nat → Nat} {p : Nat} (hI : obInv w) : (shS w p (2 ^ w 4)).toInt.natAbs < 2 ^ 62 ∧ 0 < (n64 (fc (w 4))).toInt ∧ (n64 (fc (w 4))).toInt.natAbs < 2 ^ 62 := by
  have hb := hI.b
  have h7 : 2 ^ w 4 ≤ 2 ^ 7 := Nat.pow_le_pow_right (by decide) (by omega)
  have h1 := shS_le (w := w) (p := p) (B := 812851200) (2 ^ w 4) (fun s hs => shT_le (cnt128 s (by omega)) (by omega))
  have h2 := fc_le (w 4) (by omega)
  refine ⟨?_, h2.2, by omega⟩
  have h3 : 2 ^ w 4 * 812851200 ≤ 2 ^ 7 * 812851200 := Nat.mul_le_mul_right _ h7
  exact Nat.lt_of_le_of_lt (Nat.le_trans h1 h3) (Nat.lt_of_le_of_lt (m := 104044953600) (Nat.le_of_ble_eq_true rfl) (Nat.le_of_ble_eq_true rfl))
theorem m_share {G : zG} {d : Nat} {w : Nat → Nat} {σ : zS} {a b : Int32} {K : Int32 → zS → Prop} (hw : wM w σ) (hI : obInv w) (h : ∀ σ', mSc σ σ' → K (oShare w a b) σ') : zCallI zcl Zm G (d + 8) mX6_share [zR 0 0, zI a, zI b] σ K := by
  refine zmeth VX6_ok pX6_share rfl (by decide) (Nat.le_of_ble_eq_true rfl) (fun AW ha => ?_)
  have hb := hI.b
  have h7 : 2 ^ w 4 ≤ 2 ^ 7 := Nat.pow_le_pow_right (by decide) (by omega)
  unfold oShare at h
  refine sX6_share_0 ha (m_asItIs hw (fun σ1 p1 f1 => m_isPost (hw.fr f1) hI ?_))
  have g1 : mSc σ σ1 := f1.wk
  rw [i64]
  refine zbr (fun c => ⟨_, rfl, by have h := h σ1 g1; rw [if_neg (fun q => c q.1)] at h; exact h⟩) (fun c => m_in ?_)
  rw [i64]
  refine zbr (c := btOk b) (fun c2 => ⟨_, rfl, by have h := h σ1 g1; rw [if_neg (fun q => c2 q.2)] at h; exact h⟩) (fun c2 => m_posts (hw.fr f1) ?_)
  rw [if_pos ⟨c, c2⟩] at h
  obtain ⟨ea, hl⟩ := okN c
  have e1 : (1 : Int32) <<< (nI (w 4) &&& 31) = nI (2 ^ w 4) := bit1 (by omega)
  have e2 : (1 : Int32) <<< (a &&& 31) = nI (2 ^ a.toNatClampNeg) := by rw [ea, bit1 (by omega), ← ea]
  -- the second loop
  have loop2 : ∀ (σ2 : zS), mSc σ σ2 → wM w σ2 → agr (2 ^ w 4) (gA σ2 33 0) (obWorth w) → AW 68 [some (zR 0 0), some (zI a), some (zI b), some (zI (nI (w 4))), some (zL (0 : Int64)), none, some (zI (0 : Int32))] [] σ2 := by
    intro σ2 g2 hw2 hA
    refine loopN (N := 2 ^ w 4) (I := fun k => AW 68 [some (zR 0 0), some (zI a), some (zI b), some (zI (nI (w 4))), some (zL (shS w a.toNatClampNeg k)), none, some (zI (nI k))] [] σ2) ?_ (fun k hk ih => ?_) 0 (Nat.zero_le _)
    · refine sX6_share_68 ha ?_
      rw [e1]
      refine zltN (by omega) (by omega) (fun q => absurd q (by omega)) (fun _ => m_factorial (by omega) rfl ?_)
      rw [fcI _ (by omega)]
      obtain ⟨q1, q2, q3⟩ := shOk (p := a.toNatClampNeg) hI
      exact m_part q1 q2 q3 ⟨_, rfl, h σ2 g2⟩
    · refine sX6_share_68 ha ?_
      rw [e1]
      refine zltN (by omega) (by omega) (fun _ => m_bit rfl ea (by omega) (by omega) ?_) (fun q => absurd hk (Nat.not_lt.mpr q))
      rw [← nI_0]
      refine zeqN (Nat.lt_of_lt_of_le (Nat.mod_lt _ (by decide)) (by decide)) (by decide) (fun c3 => ?_) (fun c3 => ?_)
      · obtain ⟨q1, q2⟩ := cntFree (w 4) (by omega) k hk a.toNatClampNeg hl c3
        refine m_bits rfl (by omega) (m_factorial (n := obCnt k 16) (by omega) rfl (m_bits rfl (by omega) ?_))
        have e3 : nI (w 4) - 1 - nI (obCnt k 16) = nI (w 4 - 1 - obCnt k 16) := by
          rw [c1, pk_sub (by omega), pk_sub (by omega)]
        rw [e3]
        refine m_factorial (n := w 4 - 1 - obCnt k 16) (by omega) rfl ?_
        rw [e2, orN]
        refine ⟨zix _ rfl (by omega), zix k rfl (by omega), ?_⟩
        rw [zcl_n (k ||| 2 ^ a.toNatClampNeg) rfl (by omega), zcl_n k rfl, hA _ q2, hA k hk, fcI _ (by omega), fcI _ (by omega), c1, nI_add]
        have ih := ih
        simp only [shS, if_pos c3] at ih
        exact ih
      · have ih := ih
        simp only [shS, if_neg c3] at ih
        rw [c1, nI_add]; exact ih
  -- the first
  refine loopN (N := 2 ^ w 4) (I := fun k => ∀ (s0 : Nat) (σ2 : zS), mSc σ σ2 → mPar (obW w s0) σ2 → agr k (gA σ2 33 0) (obWorth w) → AW 35 [some (zR 0 0), some (zI a), some (zI b), some (zI (nI (w 4))), some (zI (nI k)), none, none] [] σ2) (fun s0 σ2 g2 p2 hA => ?_) (fun k hk ih s0 σ2 g2 p2 hA => ?_) 0 (Nat.zero_le _) 127 σ1 g1 p1 (fun j hj => absurd hj (by omega))
  · refine sX6_share_35 ha ?_
    rw [e1]
    exact zltN (by omega) (by omega) (fun q => absurd q (by omega)) (fun _ => loop2 σ2 g2 (hw.sc g2) hA)
  · refine sX6_share_35 ha ?_
    rw [e1]
    refine zltN (by omega) (by omega) (fun _ => m_worthOf (hw.sc g2) hI p2 rfl (by omega) (fun σ3 p3 f3 => ⟨zix k rfl (by omega), ?_⟩)) (fun q => absurd hk (Nat.not_lt.mpr q))
    rw [zcl_n k rfl, c1, nI_add]
    have g3 : mSc σ σ3 := zFr.trans g2 f3.wk
    refine ih k _ (zFr.uA g3 33 _) p3 (agr_s (by rw [f3.A 33]; exact hA) rfl)
theorem x_share {G : zG} {d : Nat} {w : Nat → Nat} {σ : zS} {a b : Int32} {K : Int32 → zS → Prop} (hw : wX w σ) (hI : obInv w) (h : ∀ σ', xSc σ σ' → K (oShare w a b) σ') : zCallI zcl Zx G (d + 127) mX0_share [zR 0 0, zI a, zI b] σ K := by
  refine zmeth VX0_ok pX0_share rfl (by decide) (Nat.le_of_ble_eq_true rfl) (fun AW ha => ?_)
  have hb := hI.b
  have h7 : 2 ^ w 4 ≤ 2 ^ 7 := Nat.pow_le_pow_right (by decide) (by omega)
  unfold oShare at h
  have h0 := h σ xSc.refl
  refine sX0_share_0 ha (x_isPost (d := d + 124) hw hI (zbr (fun c => ⟨_, rfl, by rw [if_neg (fun q => c q.1)] at h0; exact h0⟩) (fun c => x_isBit (d := d + 125) (zbr (fun c2 => ⟨_, rfl, by rw [if_neg (fun q => c2 q.2)] at h0; exact h0⟩) (fun c2 => ?_)))))
  rw [if_pos ⟨c, c2⟩] at h
  obtain ⟨ea, hl⟩ := okN c
  have e1 : (1 : Int32) <<< (nI (w 4) &&& 31) = nI (2 ^ w 4) := bit1 (by omega)
  have e2 : (1 : Int32) <<< (a &&& 31) = nI (2 ^ a.toNatClampNeg) := by rw [ea, bit1 (by omega), ← ea]
  refine loopN (N := 2 ^ w 4) (I := fun k => ∀ (o6 : Option zV) (σ2 : zS), xSc σ σ2 → AW 24 [some (zR 0 0), some (zI a), some (zI b), some (zL (shS w a.toNatClampNeg k)), none, some (zI (nI k)), o6] [] σ2) (fun o6 σ2 g2 => ?_) (fun k hk ih o6 σ2 g2 => ?_) 0 (Nat.zero_le _) none σ xSc.refl
  · refine sX0_share_24 ha (x_posts (d := d + 125) (hw.sc g2) ?_)
    rw [e1]
    refine zltN (by omega) (by omega) (fun q => absurd q (by omega)) (fun _ => x_posts (d := d + 125) (hw.sc g2) (x_factD (by omega) (by omega) rfl ?_))
    obtain ⟨q1, q2, q3⟩ := shOk (p := a.toNatClampNeg) hI
    exact x_part q1 q2 q3 ⟨_, rfl, h σ2 g2⟩
  · refine sX0_share_24 ha (x_posts (d := d + 125) (hw.sc g2) ?_)
    rw [e1]
    refine zltN (by omega) (by omega) (fun _ => x_isOn rfl ea (by omega) (by omega) (zbr (fun c3 => ?_) (fun c3 => ?_))) (fun q => absurd hk (Nat.not_lt.mpr q))
    · have c3 : k / 2 ^ a.toNatClampNeg % 2 = 0 := by omega
      obtain ⟨q1, q2⟩ := cntFree (w 4) (by omega) k hk a.toNatClampNeg hl c3
      refine x_size (d := d + 125) rfl (by omega) (x_factD (n := obCnt k 16) (by omega) (by omega) rfl (x_posts (d := d + 125) (hw.sc g2) ?_))
      have e3 : nI (w 4) - nI (obCnt k 16) - 1 = nI (w 4 - 1 - obCnt k 16) := by
        rw [c1, pk_sub (by omega), pk_sub (by omega)]; congr 1; omega
      rw [e3]
      refine x_factD (n := w 4 - 1 - obCnt k 16) (by omega) (by omega) rfl ?_
      rw [e2, orN]
      refine x_worthOf (d := d + 118) (hw.sc g2) hI rfl (by omega) (fun σ3 g3 => x_worthOf (d := d + 118) (hw.sc (xFr.trans g2 g3)) hI rfl (by omega) (fun σ4 g4 => ?_))
      have ih := ih (some (zI (nI (obCnt k 16)))) σ4 (xFr.trans (xFr.trans g2 g3) g4)
      simp only [shS, if_pos c3] at ih
      rw [c1, nI_add]; exact ih
    · have c3 : ¬ k / 2 ^ a.toNatClampNeg % 2 = 0 := by omega
      have ih := ih o6 σ2 g2
      simp only [shS, if_neg c3] at ih
      rw [c1, nI_add]; exact ih
