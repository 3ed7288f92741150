/-! QUESTIONS: drawn, luck -/
def lcN (a : Int64) : Int64 := (((1103515245 : Int64) * a) + (12345 : Int64)) - (((1103515245 : Int64) * a) + (12345 : Int64)) / (2147483648 : Int64) * (2147483648 : Int64)
def lcD (a : Int64) : Int64 := (lcN a / (65536 : Int64)) - (lcN a / (65536 : Int64)) / (10 : Int64) * (10 : Int64)
def lcI (s : Int64) : Nat → Int64
  | 0 => s
  | n + 1 => lcN (lcI s n)
def lcC (w : Nat → Nat) (s : Int64) (k : Nat) : Bool := decide (lg_cmp (lcD (lcI s k)) (nI (w 2)).toInt64 < 0)
def obFogS (w : Nat → Nat) (s : Int64) : Nat := obSet (lcC w s) (w 0)
def obDr (w : Nat → Nat) (s : Int64) : obP := (w 1, obFogS w s, 127, obArm w, obWh w)
theorem obDr_ok {w : Nat → Nat} (hI : obInv w) (s : Int64) : obPok w (obDr w s) := by
  have := obAs_ok hI
  have hb := hI.b
  exact ⟨this.1, Nat.lt_of_lt_of_le (obSet_lt _ _) (Nat.pow_le_pow_right (by decide) hb.1), this.2.2.1, this.2.2.2.1, this.2.2.2.2⟩
theorem m_goDrawn {G : zG} {d : Nat} {w : Nat → Nat} {σ : zS} {s : Int64} {K : zS → Prop} (hw : wM w σ) (hI : obInv w) (h : ∀ σ', mRan w (obDr w s) σ' → mPar (obDr w s) σ' → mSc σ σ' → K σ') : zCallV zcl Zm G (d + 6) mX6_goDrawn [zR 0 0, zL s] σ K := by
  refine zmeth VX6_ok pX6_goDrawn rfl (by decide) (Nat.le_of_ble_eq_true rfl) (fun AW ha => ?_)
  have hb := hI.b
  refine sX6_goDrawn_0 ha (m_asItIs hw (fun σ1 p1 f1 => ?_))
  refine loopN (N := w 0) (I := fun k => ∀ σ2, gI σ2 0 18 0 = nI (obSet (lcC w s) k) → zFr [18] [] [] [] σ1 σ2 → AW 9 [some (zR 0 0), some (zL s), none, some (zL (lcI s k)), none, some (zI (nI k))] [] σ2) (fun σ2 h2 f2 => ?_) (fun k hk ih σ2 h2 f2 => ?_) 0 (Nat.zero_le _) σ1 (by rw [p1.2.1]; rfl) zFr.refl
  · have fm : mSc σ σ2 := zFr.trans f1.wk f2.wk
    have p2 : mPar (obDr w s) σ2 := ⟨(f2.I 17).trans p1.1, h2, (f2.I 19).trans p1.2.2.1, by rw [f2.A 15]; exact p1.2.2.2.1, by rw [f2.A 16]; exact p1.2.2.2.2⟩
    exact sX6_goDrawn_9 ha (m_hours (hw.sc fm) (zltN (by omega) (by omega) (fun c => absurd c (by omega)) (fun _ => m_goAll (hw.sc fm) hI p2 (obDr_ok hI s) (fun σ3 r3 f3 => ⟨rfl, h σ3 r3 (p2.fr f3) (zFr.trans fm f3.wk)⟩))))
  · have fm : mSc σ σ2 := zFr.trans f1.wk f2.wk
    have hw2 := hw.sc fm
    refine sX6_goDrawn_9 ha (m_hours hw2 (zltN (by omega) (by omega) (fun _ => ⟨by decide, by decide, by decide, zin_lit rfl, ?_⟩) (fun c => absurd hk (Nat.not_lt.mpr c))))
    rw [hw2 2 (by decide), h2, c1, nI_add]
    refine ⟨fun c => ?_, fun c => ?_⟩
    · refine ih _ ?_ (zFr.uI f2 18 _)
      exact obSet_t (c := lcC w s) (decide_eq_true c) (by omega)
    · refine ih _ ?_ (zFr.uI f2 18 _)
      exact obSet_f (c := lcC w s) (decide_eq_false c)
theorem x_draws {G : zG} {d : Nat} {w : Nat → Nat} {σ : zS} {s : Int64} {K : Nat → zS → Prop} (hw : wX w σ) (hI : obInv w) (h : ∀ σ', xRan w (obDr w s) σ' → gI σ' 2 10 0 = nI (obFogS w s) → xSc σ σ' → K 0 σ') : zCallR zcl Zx G (d + 8) mX0_draws [zR 0 0, zL s] σ 2 K := by
  refine zmeth VX0_ok pX0_draws rfl (by decide) (Nat.le_of_ble_eq_true rfl) (fun AW ha => ?_)
  have hb := hI.b
  refine sX0_draws_0 ha (x_hoursIs hw hI (fun σ1 p1 a1 _ f1 => ?_))
  refine loopN (N := w 0) (I := fun k => ∀ σ2, gI σ2 2 10 0 = nI (obSet (lcC w s) k) → xFr [(2, 10)] [] σ1 σ2 → AW 13 [some (zR 0 0), some (zL s), none, some (zL (lcI s k)), none, some (zI (nI k))] [] σ2) (fun σ2 h2 f2 => ?_) (fun k hk ih σ2 h2 f2 => ?_) 0 (Nat.zero_le _) σ1 (by rw [p1.2.1]; rfl) xFr.refl
  · have fm : xSc σ σ2 := xFr.trans (xFr.trans (xFr.refl (I := xScr) (A := xArr)) f1.wk) f2.wk
    have p2 : xPar w (obDr w s) σ2 := ⟨(f2.I 2 9 0).trans p1.1, h2, by rw [f2.I 2 11 0]; exact p1.2.2.1, by rw [f2.I 2 12 0, f2.A 30 0]; exact p1.2.2.2⟩
    have a2 : agr (w 4) (gA σ2 24 0) (obArm w) := by rw [f2.A 24 0]; exact a1
    refine sX0_draws_13 ha ?_
    rw [(hw.sc fm).2.1.1]
    exact zltN (by omega) (by omega) (fun c => absurd c (by omega)) (fun _ => x_goes (hw.sc fm) hI p2 (obDr_ok hI s) a2 (fun σ3 r3 f3 => ⟨_, rfl, h σ3 r3 ((f3.I 2 10 0).trans h2) (xFr.trans fm f3.wk)⟩))
  · have fm : xSc σ σ2 := xFr.trans (xFr.trans (xFr.refl (I := xScr) (A := xArr)) f1.wk) f2.wk
    have hw2 := hw.sc fm
    refine sX0_draws_13 ha ?_
    rw [hw2.2.1.1]
    refine zltN (by omega) (by omega) (fun _ => ⟨by decide, by decide, by decide, ?_⟩) (fun c => absurd hk (Nat.not_lt.mpr c))
    rw [hw2.2.1.2.2.1, h2, c1, nI_add]
    refine ⟨fun c => ?_, fun c => ?_⟩
    · refine ih _ ?_ (xFr.uI f2 2 10 _)
      exact obSet_t (c := lcC w s) (decide_eq_true c) (by omega)
    · refine ih _ ?_ (xFr.uI f2 2 10 _)
      exact obSet_f (c := lcC w s) (decide_eq_false c)
abbrev seedOk (a : Int32) : Prop := 0 ≤ a.toInt ∧ a.toInt ≤ 2000000000
theorem m_isSeed {G : zG} {d : Nat} {σ : zS} {a : Int32} {K : Int32 → zS → Prop} (h : K (bI (seedOk a)) σ) : zCallI zcl Zm G (d + 1) mX6_isSeed [zI a] σ K := by
  refine zmeth VX6_ok pX6_isSeed rfl (by decide) (Nat.le_of_ble_eq_true rfl) (fun AW ha => ?_)
  refine sX6_isSeed_0 ha (m_in ?_)
  rw [i64]
  exact ⟨bI_01 _, _, rfl, h⟩
theorem x_isSeed {G : zG} {d : Nat} {σ : zS} {a : Int32} {K : Int32 → zS → Prop} (h : K (bI (seedOk a)) σ) : zCallI zcl Zx G (d + 1) mX0_isSeed [zI a] σ K := by
  refine zmeth VX0_ok pX0_isSeed rfl (by decide) (Nat.le_of_ble_eq_true rfl) (fun AW ha => ?_)
  refine sX0_isSeed_0 ha (x_in ?_)
  rw [i64]
  exact ⟨bI_01 _, _, rfl, h⟩
def oDrawn (w : Nat → Nat) (a b : Int32) : Int32 := if 0 < w 9 ∧ seedOk a ∧ btOk b then (if b = 0 then nI (obFogS w a.toInt64) else nI (obIns w (obDr w a.toInt64) (w 0))) else -2
theorem m_drawn {G : zG} {d : Nat} {w : Nat → Nat} {σ : zS} {a b : Int32} {K : Int32 → zS → Prop} (hw : wM w σ) (hI : obInv w) (h : ∀ σ', mSc σ σ' → K (oDrawn w a b) σ') : zCallI zcl Zm G (d + 8) mX6_drawn [zR 0 0, zI a, zI b] σ K := by
  refine zmeth VX6_ok pX6_drawn rfl (by decide) (Nat.le_of_ble_eq_true rfl) (fun AW ha => ?_)
  unfold oDrawn at h
  have h0 := h σ mSc.refl
  refine sX6_drawn_0 ha (m_isHeath hw hI (zbr (fun c => ⟨_, rfl, by rw [if_neg (fun q => c q.1)] at h0; exact h0⟩) (fun c => m_isSeed (zbr (fun c2 => ⟨_, rfl, by rw [if_neg (fun q => c2 q.2.1)] at h0; exact h0⟩) (fun c2 => m_in ?_)))))
  rw [i64]
  refine zbr (c := btOk b) (fun c3 => ⟨_, rfl, by rw [if_neg (fun q => c3 q.2.2)] at h0; exact h0⟩) (fun c3 => m_goDrawn hw hI (fun σ1 r1 p1 f1 => ?_))
  have h := h σ1 f1
  rw [if_pos ⟨c, c2, c3⟩] at h
  refine ⟨fun e => ⟨_, rfl, ?_⟩, fun e => m_insideLast (hw.sc f1) hI (obDr_ok hI _) r1 ⟨_, rfl, ?_⟩⟩
  · rw [if_pos e] at h; rw [p1.2.1]; exact h
  · rw [if_neg e] at h; exact h
theorem x_drawn {G : zG} {d : Nat} {w : Nat → Nat} {σ : zS} {a b : Int32} {K : Int32 → zS → Prop} (hw : wX w σ) (hI : obInv w) (h : ∀ σ', xSc σ σ' → K (oDrawn w a b) σ') : zCallI zcl Zx G (d + 9) mX0_drawn [zR 0 0, zI a, zI b] σ K := by
  refine zmeth VX0_ok pX0_drawn rfl (by decide) (Nat.le_of_ble_eq_true rfl) (fun AW ha => ?_)
  unfold oDrawn at h
  have h0 := h σ xSc.refl
  refine sX0_drawn_0 ha (x_isHeath hw hI (zbr (fun c => ⟨_, rfl, by rw [if_neg (fun q => c q.1)] at h0; exact h0⟩) (fun c => x_isSeed (zbr (fun c2 => ⟨_, rfl, by rw [if_neg (fun q => c2 q.2.1)] at h0; exact h0⟩) (fun c2 => x_isBit (zbr (fun c3 => ⟨_, rfl, by rw [if_neg (fun q => c3 q.2.2)] at h0; exact h0⟩) (fun c3 => x_draws hw hI (fun σ1 r1 e1 f1 => ?_))))))))
  have h := h σ1 f1
  rw [if_pos ⟨c, c2, c3⟩] at h
  refine ⟨fun e => ⟨_, rfl, ?_⟩, fun e => x_last (hw.sc f1) hI (obDr_ok hI _) r1 ⟨_, rfl, ?_⟩⟩
  · rw [if_pos e] at h; rw [e1]; exact h
  · rw [if_neg e] at h; exact h
theorem obSet_bit (c : Nat → Bool) (n i : Nat) : (obSet c n).testBit i = (decide (i < n) && c i) := by
  induction n with
  | zero => simp [obSet]
  | succ n ih =>
    simp only [obSet, Nat.testBit_or, ih]
    by_cases e : i = n
    · subst e
      cases hc : c i
      · simp
      · simp [Nat.testBit_two_pow_self]
    · have h2 : (if c n = true then 2 ^ n else 0).testBit i = false := by
        split
        · rw [Nat.testBit_two_pow]; exact decide_eq_false (fun q => e q.symm)
        · exact Nat.zero_testBit i
      rw [h2, Bool.or_false]
      congr 1
      exact decide_eq_decide.mpr (by omega)
theorem obSet_b {c : Nat → Bool} {n i : Nat} (h : i < n) : obSet c n / 2 ^ i % 2 = if c i = true then 1 else 0 := by
  rw [← Nat.toNat_testBit, obSet_bit, decide_eq_true h, Bool.true_and]
  cases c i <;> rfl
def oLuck (w : Nat → Nat) (a b i : Int32) : Int32 := if seedOk a ∧ upTo20 b ∧ wkOk w i then nI (obHow (fun k => plIn (pl w (obDr w (a.toInt64 + (nI k).toInt64)) (w 0) i.toNatClampNeg)) b.toNatClampNeg) else -2
theorem m_luck {G : zG} {d : Nat} {w : Nat → Nat} {σ : zS} {a b i : Int32} {K : Int32 → zS → Prop} (hw : wM w σ) (hI : obInv w) (h : ∀ σ', mSc σ σ' → K (oLuck w a b i) σ') : zCallI zcl Zm G (d + 8) mX6_luck [zR 0 0, zI a, zI b, zI i] σ K := by
  refine zmeth VX6_ok pX6_luck rfl (by decide) (Nat.le_of_ble_eq_true rfl) (fun AW ha => ?_)
  unfold oLuck at h
  have h0 := h σ mSc.refl
  refine sX6_luck_0 ha (m_isSeed (zbr (fun c => ⟨_, rfl, by rw [if_neg (fun q => c q.1)] at h0; exact h0⟩) (fun c => m_in ?_)))
  rw [i64]
  refine zbr (c := upTo20 b) (fun c2 => ⟨_, rfl, by rw [if_neg (fun q => c2 q.2.1)] at h0; exact h0⟩) (fun c2 => m_isWalker hw hI ?_)
  rw [i64]
  refine zbr (fun c3 => ⟨_, rfl, by rw [if_neg (fun q => c3 q.2.2)] at h0; exact h0⟩) (fun c3 => ?_)
  rw [if_pos ⟨c, c2, c3⟩] at h
  have hb := hI.b
  obtain ⟨e2, hl2, _⟩ := ok20 c2
  obtain ⟨e3, hl3⟩ := okN c3
  refine loopN (N := b.toNatClampNeg) (I := fun k => ∀ σ2, mSc σ σ2 → AW 37 [some (zR 0 0), some (zI a), some (zI b), some (zI i), some (zI (nI (obHow (fun k => plIn (pl w (obDr w (a.toInt64 + (nI k).toInt64)) (w 0) i.toNatClampNeg)) k))), some (zI (nI k))] [] σ2) (fun σ2 f2 => ?_) (fun k hk ih σ2 f2 => ?_) 0 (Nat.zero_le _) σ mSc.refl
  · refine sX6_luck_37 ha ?_
    rw [show (nI b.toNatClampNeg < b) = (nI b.toNatClampNeg < nI b.toNatClampNeg) by rw [← e2]]
    exact zltN (by omega) (by omega) (fun c => absurd c (by omega)) (fun _ => ⟨_, rfl, h σ2 f2⟩)
  · refine sX6_luck_37 ha ?_
    rw [show (nI k < b) = (nI k < nI b.toNatClampNeg) by rw [← e2]]
    refine zltN (by omega) (by omega) (fun _ => m_goDrawn (hw.sc f2) hI (fun σ3 r3 p3 f3 => m_hours (hw.sc (zFr.trans f2 f3)) (m_isInside hI (obDr_ok hI _) r3 e3 rfl hl3 (Nat.le_refl _) (zbr (fun c4 => ?_) (fun c4 => ?_))))) (fun c => absurd hk (Nat.not_lt.mpr c))
    · have ih := ih σ3 (zFr.trans f2 f3)
      simp only [obHow, if_neg c4] at ih
      rw [← nI_0, nI_add, c1, nI_add]; exact ih
    · have ih := ih σ3 (zFr.trans f2 f3)
      simp only [obHow, if_pos c4] at ih
      rw [c1, nI_add, nI_add]; exact ih
theorem x_luck {G : zG} {d : Nat} {w : Nat → Nat} {σ : zS} {a b i : Int32} {K : Int32 → zS → Prop} (hw : wX w σ) (hI : obInv w) (h : ∀ σ', xSc σ σ' → K (oLuck w a b i) σ') : zCallI zcl Zx G (d + 9) mX0_luck [zR 0 0, zI a, zI b, zI i] σ K := by
  refine zmeth VX0_ok pX0_luck rfl (by decide) (Nat.le_of_ble_eq_true rfl) (fun AW ha => ?_)
  unfold oLuck at h
  have h0 := h σ xSc.refl
  refine sX0_luck_0 ha (x_isSeed (zbr (fun c => ⟨_, rfl, by rw [if_neg (fun q => c q.1)] at h0; exact h0⟩) (fun c => x_in ?_)))
  rw [i64]
  refine zbr (c := upTo20 b) (fun c2 => ⟨_, rfl, by rw [if_neg (fun q => c2 q.2.1)] at h0; exact h0⟩) (fun c2 => x_isWalker hw hI ?_)
  rw [i64]
  refine zbr (fun c3 => ⟨_, rfl, by rw [if_neg (fun q => c3 q.2.2)] at h0; exact h0⟩) (fun c3 => ?_)
  rw [if_pos ⟨c, c2, c3⟩] at h
  have hb := hI.b
  obtain ⟨e2, hl2, _⟩ := ok20 c2
  obtain ⟨e3, hl3⟩ := okN c3
  refine loopN (N := b.toNatClampNeg) (I := fun k => ∀ σ2, xSc σ σ2 → AW 37 [some (zR 0 0), some (zI a), some (zI b), some (zI i), some (zI (nI (obHow (fun k => plIn (pl w (obDr w (a.toInt64 + (nI k).toInt64)) (w 0) i.toNatClampNeg)) k))), some (zI (nI k))] [] σ2) (fun σ2 f2 => ?_) (fun k hk ih σ2 f2 => ?_) 0 (Nat.zero_le _) σ xSc.refl
  · refine sX0_luck_37 ha ?_
    rw [show (nI b.toNatClampNeg < b) = (nI b.toNatClampNeg < nI b.toNatClampNeg) by rw [← e2]]
    exact zltN (by omega) (by omega) (fun c => absurd c (by omega)) (fun _ => ⟨_, rfl, h σ2 f2⟩)
  · refine sX0_luck_37 ha ?_
    rw [show (nI k < b) = (nI k < nI b.toNatClampNeg) by rw [← e2]]
    refine zltN (by omega) (by omega) (fun _ => x_draws (hw.sc f2) hI (fun σ3 r3 _ f3 => x_last (hw.sc (xFr.trans f2 f3)) hI (obDr_ok hI _) r3 ?_)) (fun c => absurd hk (Nat.not_lt.mpr c))
    have ih := ih σ3 (xFr.trans f2 f3)
    simp only [obHow] at ih
    rw [show i &&& 31 = nI i.toNatClampNeg &&& 31 by rw [← e3], bitN (Nat.lt_trans (obIns_lt hI) (by decide)) (by omega), nI_add, c1, nI_add]
    unfold obIns
    rw [obSet_b hl3]
    exact ih
