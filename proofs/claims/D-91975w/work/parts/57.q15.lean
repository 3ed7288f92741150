/-! QUESTIONS: worth -/
def obW (w : Nat → Nat) (s : Nat) : obP := (w 1, 0, s, obArm w, obWh w)
theorem obW_ok {w : Nat → Nat} (hI : obInv w) {s : Nat} (hs : s < 128) : obPok w (obW w s) := by
  have := obAs_ok hI
  exact ⟨this.1, this.2.1, (show s < 2 ^ 16 by omega), this.2.2.2.1, this.2.2.2.2⟩
abbrev obWorth (w : Nat → Nat) (s : Nat) : Nat := obLast w (obW w s)
theorem m_worthOf {G : zG} {d : Nat} {w : Nat → Nat} {σ : zS} {s s0 : Nat} {x : Int32} {K : Int32 → zS → Prop} (hw : wM w σ) (hI : obInv w) (hP : mPar (obW w s0) σ) (hx : x = nI s) (hs : s < 128) (h : ∀ σ', mPar (obW w s) σ' → zFr [19] [] mAll [] σ σ' → K (nI (obWorth w s)) σ') : zCallI zcl Zm G (d + 6) mX6_worthOf [zR 0 0, zI x] σ K := by
  refine zmeth VX6_ok pX6_worthOf rfl (by decide) (Nat.le_of_ble_eq_true rfl) (fun AW ha => ?_)
  have f1 : zFr [19] [] mAll [] σ (uI σ 0 19 0 x) := zFr.uI zFr.refl 19 _
  have p1 : mPar (obW w s) (uI σ 0 19 0 x) := ⟨hP.1, hP.2.1, hx, hP.2.2.2.1, hP.2.2.2.2⟩
  exact sX6_worthOf_0 ha (m_goAll (hw.fr f1) hI p1 (obW_ok hI hs) (fun σ2 r2 f2 => m_insideLast (hw.fr (zFr.trans f1 f2.wk)) hI (obW_ok hI hs) r2 (m_bits rfl (Nat.lt_trans (obIns_lt hI) (by decide)) ⟨_, rfl, h σ2 (p1.fr f2) (zFr.trans f1 f2.wk)⟩)))
theorem still_bit {n s p : Nat} (hp : p < n) (hn : n ≤ 16) : ((2 ^ n - 1) &&& (s ^^^ (2 ^ 32 - 1))) / 2 ^ p % 2 = 1 ↔ s / 2 ^ p % 2 = 0 := by
  rw [← Nat.toNat_testBit, ← Nat.toNat_testBit, Nat.testBit_and, Nat.testBit_xor, Nat.testBit_two_pow_sub_one, Nat.testBit_two_pow_sub_one, decide_eq_true hp, decide_eq_true (show p < 32 by omega)]
  cases s.testBit p <;> decide
theorem x_worthOf {G : zG} {d : Nat} {w : Nat → Nat} {σ : zS} {s : Nat} {x : Int32} {K : Int32 → zS → Prop} (hw : wX w σ) (hI : obInv w) (hx : x = nI s) (hs : s < 128) (h : ∀ σ', xSc σ σ' → K (nI (obWorth w s)) σ') : zCallI zcl Zx G (d + 8) mX0_worthOf [zR 0 0, zI x] σ K := by
  refine zmeth VX0_ok pX0_worthOf rfl (by decide) (Nat.le_of_ble_eq_true rfl) (fun AW ha => ?_)
  have hb := hI.b
  refine sX0_worthOf_0 ha (x_hoursIs hw hI (fun σ1 p1 a1 _ f1 => x_posts (hw.fr f1) ?_))
  have hp := Nat.two_pow_pos (w 4)
  have e1 : nI (2 ^ w 4) - 1 = nI (2 ^ w 4 - 1) := by rw [show 2 ^ w 4 = (2 ^ w 4 - 1) + 1 by omega]; exact nI_sub1
  have e : (((1 : Int32) <<< (nI (w 4) &&& 31)) - 1) &&& (x ^^^ (-1)) = nI ((2 ^ w 4 - 1) &&& (s ^^^ (2 ^ 32 - 1))) := by
    rw [bit1 (by omega), e1, hx, m1N, xorN, andN]
  rw [e]
  have f2 : xSc σ (uI σ1 2 11 0 (nI ((2 ^ w 4 - 1) &&& (s ^^^ (2 ^ 32 - 1))))) := xFr.uI (xFr.trans (xFr.refl (I := xScr) (A := xArr)) f1.wk) 2 11 _
  have p2 : xPar w (obW w s) (uI σ1 2 11 0 (nI ((2 ^ w 4 - 1) &&& (s ^^^ (2 ^ 32 - 1))))) := by
    refine ⟨p1.1, p1.2.1, ⟨(2 ^ w 4 - 1) &&& (s ^^^ (2 ^ 32 - 1)), ?_, rfl, fun p hp => still_bit hp (by omega)⟩, p1.2.2.2⟩
    have h7 : 2 ^ w 4 ≤ 2 ^ 7 := Nat.pow_le_pow_right (by decide) (by omega)
    exact Nat.lt_of_le_of_lt Nat.and_le_left (by omega)
  exact x_goes (hw.sc f2) hI p2 (obW_ok hI hs) a1 (fun σ3 r3 f3 => x_last (hw.sc (xFr.trans f2 f3.wk)) hI (obW_ok hI hs) r3 (x_size rfl (obIns_lt hI) ⟨_, rfl, h σ3 (xFr.trans f2 f3.wk)⟩))
abbrev setOk (w : Nat → Nat) (a : Int32) : Prop := 0 ≤ a.toInt ∧ a.toInt ≤ (2 ^ w 4 - 1 : Nat)
def oWorth (w : Nat → Nat) (a : Int32) : Int32 := if 0 < w 9 ∧ setOk w a then nI (obWorth w a.toNatClampNeg) else -2
theorem okS {w : Nat → Nat} {a : Int32} (hI : obInv w) (h : setOk w a) : a = nI a.toNatClampNeg ∧ a.toNatClampNeg < 128 := by
  have hb := hI.b
  have h7 : 2 ^ w 4 ≤ 2 ^ 7 := Nat.pow_le_pow_right (by decide) (by omega)
  have := okN' (a := a) (n := 127) ⟨h.1, by have := h.2; omega⟩
  exact ⟨this.1, by omega⟩
theorem m_worth {G : zG} {d : Nat} {w : Nat → Nat} {σ : zS} {a : Int32} {K : Int32 → zS → Prop} (hw : wM w σ) (hI : obInv w) (h : ∀ σ', mSc σ σ' → K (oWorth w a) σ') : zCallI zcl Zm G (d + 8) mX6_worth [zR 0 0, zI a] σ K := by
  refine zmeth VX6_ok pX6_worth rfl (by decide) (Nat.le_of_ble_eq_true rfl) (fun AW ha => ?_)
  have hb := hI.b
  have h7 : 2 ^ w 4 ≤ 2 ^ 7 := Nat.pow_le_pow_right (by decide) (by omega)
  unfold oWorth at h
  refine sX6_worth_0 ha (m_asItIs hw (fun σ1 p1 f1 => m_isHeath (hw.fr f1) hI (zbr (fun c => ⟨_, rfl, by have h := h σ1 f1.wk; rw [if_neg (fun q => c q.1)] at h; exact h⟩) (fun c => m_allPosts (hw.fr f1) hI (m_in ?_)))))
  have e1 : (nI (2 ^ w 4 - 1)).toInt = ((2 ^ w 4 - 1 : Nat) : Int) := nI_toInt (by omega)
  rw [i64, i64, e1]
  refine zbr (c := setOk w a) (fun c2 => ⟨_, rfl, by have h := h σ1 f1.wk; rw [if_neg (fun q => c2 q.2)] at h; exact h⟩) (fun c2 => ?_)
  rw [if_pos ⟨c, c2⟩] at h
  obtain ⟨e, hl⟩ := okS hI c2
  exact m_worthOf (s0 := 127) (hw.fr f1) hI p1 e hl (fun σ2 _ f2 => ⟨_, rfl, h σ2 (zFr.trans f1.wk f2.wk)⟩)
theorem x_worth {G : zG} {d : Nat} {w : Nat → Nat} {σ : zS} {a : Int32} {K : Int32 → zS → Prop} (hw : wX w σ) (hI : obInv w) (h : ∀ σ', xSc σ σ' → K (oWorth w a) σ') : zCallI zcl Zx G (d + 9) mX0_worth [zR 0 0, zI a] σ K := by
  refine zmeth VX0_ok pX0_worth rfl (by decide) (Nat.le_of_ble_eq_true rfl) (fun AW ha => ?_)
  have hb := hI.b
  have h7 : 2 ^ w 4 ≤ 2 ^ 7 := Nat.pow_le_pow_right (by decide) (by omega)
  have hp := Nat.two_pow_pos (w 4)
  unfold oWorth at h
  refine sX0_worth_0 ha (x_isHeath hw hI (zbr (fun c => ⟨_, rfl, by have h := h σ xSc.refl; rw [if_neg (fun q => c q.1)] at h; exact h⟩) (fun c => x_posts hw (x_in ?_))))
  have e0 : nI (2 ^ w 4) - 1 = nI (2 ^ w 4 - 1) := by rw [show 2 ^ w 4 = (2 ^ w 4 - 1) + 1 by omega]; exact nI_sub1
  have e1 : (nI (2 ^ w 4 - 1)).toInt = ((2 ^ w 4 - 1 : Nat) : Int) := nI_toInt (by omega)
  rw [i64, i64, bit1 (by omega), e0, e1]
  refine zbr (c := setOk w a) (fun c2 => ⟨_, rfl, by have h := h σ xSc.refl; rw [if_neg (fun q => c2 q.2)] at h; exact h⟩) (fun c2 => ?_)
  rw [if_pos ⟨c, c2⟩] at h
  obtain ⟨e, hl⟩ := okS hI c2
  exact x_worthOf hw hI e hl (fun σ2 f2 => ⟨_, rfl, h σ2 f2⟩)
