/-! QUESTIONS: chance, mean -/
def fgV (o s : Nat) : Nat → Nat
  | 0 => 1
  | n + 1 => fgV o s n * (if s / 2 ^ n % 2 = 1 then o else 10 - o)
def fgSum (y : Nat → Nat) (o n : Nat) : Nat → Nat
  | 0 => 0
  | s + 1 => fgSum y o n s + fgV o s n * y s
set_option maxRecDepth 100000 in
theorem fg_all : ∀ o, o < 11 → ∀ n, n < 9 → fgSum (fun _ => 1) o n (2 ^ n) = 10 ^ n := by decide +kernel
set_option maxRecDepth 100000 in
theorem fg_pow : ∀ o, o < 11 → ∀ n, n < 9 → ∀ s, s < 2 ^ n → obCnt s 16 ≤ n ∧ fgV o s n = o ^ obCnt s 16 * (10 - o) ^ (n - obCnt s 16) := by decide +kernel
theorem fg_le {y : Nat → Nat} {o n B : Nat} (hy : ∀ s, y s ≤ B) : ∀ m, fgSum y o n m ≤ B * fgSum (fun _ => 1) o n m := by
  intro m
  induction m with
  | zero => exact Nat.zero_le _
  | succ m ih =>
    show fgSum y o n m + fgV o m n * y m ≤ B * (fgSum (fun _ => 1) o n m + fgV o m n * 1)
    rw [Nat.mul_add, Nat.mul_one, Nat.mul_comm B (fgV o m n)]
    exact Nat.add_le_add ih (Nat.mul_le_mul_left _ (hy m))
def obFg (w : Nat → Nat) (s : Nat) : obP := (w 1, s, 127, obArm w, obWh w)
theorem obFg_ok {w : Nat → Nat} (hI : obInv w) {s : Nat} (hs : s < 2 ^ 16) : obPok w (obFg w s) := by
  have := obAs_ok hI
  exact ⟨this.1, hs, this.2.2.1, this.2.2.2.1, this.2.2.2.2⟩
def fgIn (w : Nat → Nat) (t i s : Nat) : Nat := if plIn (pl w (obFg w s) t i) = true then 1 else 0
def fgCn (w : Nat → Nat) (t s : Nat) : Nat := obCnt (obIns w (obFg w s) t) 16
theorem fgIn_le (w : Nat → Nat) (t i s : Nat) : fgIn w t i s ≤ 16 := by unfold fgIn; split <;> omega
theorem fgCn_le (w : Nat → Nat) (t s : Nat) : fgCn w t s ≤ 16 := obCnt_le _ 16
abbrev fgOk (w : Nat → Nat) (a b : Int32) : Prop := (0 ≤ a.toInt ∧ a.toInt < w 0) ∧ a.toInt ≤ 7 ∧ btOk b
theorem fgR {w : Nat → Nat} {y : Nat → Nat} {n : Nat} (hI : obInv w) (hy : ∀ s, y s ≤ 16) (hn : n < 9) : (n64 (fgSum y (w 2) n (2 ^ n))).toInt.natAbs < 2 ^ 62 ∧ 0 < (n64 (10 ^ n)).toInt ∧ (n64 (10 ^ n)).toInt.natAbs < 2 ^ 62 := by
  have hb := hI.b
  have h1 := fg_le (o := w 2) (n := n) hy (2 ^ n)
  rw [fg_all (w 2) (by omega) n hn] at h1
  have h2 : 10 ^ n ≤ 10 ^ 8 := Nat.pow_le_pow_right (by decide) (by omega)
  have h3 : 0 < 10 ^ n := Nat.pow_pos (by decide)
  have e1 : (n64 (fgSum y (w 2) n (2 ^ n))).toInt = fgSum y (w 2) n (2 ^ n) := Int64.toInt_ofNat_of_lt (by omega)
  have e2 : (n64 (10 ^ n)).toInt = ((10 ^ n : Nat) : Int) := Int64.toInt_ofNat_of_lt (by omega)
  rw [e1, e2]
  omega
theorem m_insAny {G : zG} {d : Nat} {σ : zS} {i t : Nat} {x y : Int32} {K : Int32 → zS → Prop} (hx : x = nI i) (hy : y = nI t) (hi : i < 8) (ht : t ≤ 16) (h : ∀ b, (b = 0 ∨ b = 1) → K b σ) : zCallI zcl Zm G (d + 1) mX6_isInside [zR 0 0, zI x, zI y] σ K := by
  refine zmeth VX6_ok pX6_isInside rfl (by decide) (Nat.le_of_ble_eq_true rfl) (fun AW ha => ?_)
  refine sX6_isInside_0 ha ?_
  refine zmeth VX6_ok pX6_placeOf rfl (by decide) (Nat.le_of_ble_eq_true rfl) (fun AW2 ha2 => ?_)
  have e : (8 : Int32) * y + x = nI (8 * t + i) := by rw [hx, hy, c8, pk_mul, nI_add]
  exact sX6_placeOf_0 ha2 ⟨zix _ e (by omega), _, rfl, fun _ => ⟨Or.inl rfl, _, rfl, h 0 (Or.inl rfl)⟩, fun _ => ⟨Or.inr rfl, _, rfl, h 1 (Or.inr rfl)⟩⟩
theorem m_layFog {G : zG} {d : Nat} {w : Nat → Nat} {σ : zS} {i t : Nat} {x y : Int32} {K : zS → Prop} (hw : wM w σ) (hI : obInv w) (hx : x = nI i) (hy : y = nI t) (hi : i < 8) (ht : t < w 0) (ht7 : t ≤ 7) (h : ∀ σ', mSc σ σ' → gL σ' 0 34 0 = n64 (10 ^ (t + 1)) → (i < w 7 → gL σ' 0 35 0 = n64 (fgSum (fgIn w (t + 1) i) (w 2) (t + 1) (2 ^ (t + 1)))) → gL σ' 0 36 0 = n64 (fgSum (fgCn w (t + 1)) (w 2) (t + 1) (2 ^ (t + 1))) → K σ') : zCallV zcl Zm G (d + 6) mX6_layFog [zR 0 0, zI x, zI y] σ K := by
  refine zmeth VX6_ok pX6_layFog rfl (by decide) (Nat.le_of_ble_eq_true rfl) (fun AW ha => ?_)
  have hb := hI.b
  have hp : 2 ^ (t + 1) ≤ 2 ^ 8 := Nat.pow_le_pow_right (by decide) (by omega)
  have e1 : (2 : Int32) <<< (y &&& 31) = nI (2 ^ (t + 1)) := by
    have q := pk_shlN (n := 2) (nI t &&& 31) t (sh31 t (by omega)) (by rw [Nat.mul_comm, ← Nat.pow_succ]; omega)
    rw [hy]
    exact q.trans (by rw [Nat.pow_succ, Nat.mul_comm])
  have e2 : y + (1 : Int32) = nI (t + 1) := by rw [hy, c1, nI_add]
  have ho := fg_all (w 2) (by omega) (t + 1) (by omega)
  have f0 : mSc σ (uL (uL (uL σ 0 34 0 (0 : Int64)) 0 35 0 (0 : Int64)) 0 36 0 (0 : Int64)) := zFr.uL (zFr.uL (zFr.uL zFr.refl 34 _) 35 _) 36 _
  refine sX6_layFog_0 ha (m_asItIs (hw.sc f0) (fun σ1 p1 f1 => ?_))
  refine loopN (N := 2 ^ (t + 1)) (I := fun k => ∀ (s0 : Nat) (o4 o5 o6 : Option zV) (σ2 : zS), mSc σ σ2 → mPar (obFg w s0) σ2 → gL σ2 0 34 0 = n64 (fgSum (fun _ => 1) (w 2) (t + 1) k) → (i < w 7 → gL σ2 0 35 0 = n64 (fgSum (fgIn w (t + 1) i) (w 2) (t + 1) k)) → gL σ2 0 36 0 = n64 (fgSum (fgCn w (t + 1)) (w 2) (t + 1) k) → AW 21 [some (zR 0 0), some (zI x), some (zI y), some (zI (nI k)), o4, o5, o6] [] σ2) (fun s0 o4 o5 o6 σ2 g2 p2 h1 h2 h3 => ?_) (fun k hk ih s0 o4 o5 o6 σ2 g2 p2 h1 h2 h3 => ?_) 0 (Nat.zero_le _) 0 none none none σ1 (zFr.trans f0 f1.wk) p1 (f1.L 34) (fun _ => f1.L 35) (f1.L 36)
  · refine sX6_layFog_21 ha ?_
    rw [e1]
    exact zltN (by omega) (by omega) (fun q => absurd q (by omega)) (fun _ => ⟨rfl, h σ2 g2 (by rw [h1, ho]) h2 h3⟩)
  · refine sX6_layFog_21 ha ?_
    rw [e1]
    refine zltN (by omega) (by omega) (fun _ => ?_) (fun q => absurd hk (Nat.not_lt.mpr q))
    refine loopN (N := t + 1) (I := fun j => AW 34 [some (zR 0 0), some (zI x), some (zI y), some (zI (nI k)), some (zL (n64 (fgV (w 2) k j))), none, some (zI (nI j))] [] σ2) ?_ (fun j hj ih2 => ?_) 0 (Nat.zero_le _)
    · refine sX6_layFog_34 ha ?_
      have hlt : y < nI (t + 1) := by rw [hy]; exact nI_lt (by omega) (by omega)
      refine ⟨fun _ => ?_, fun q => absurd hlt q⟩
      rw [lc_eq]
      have hv := fg_pow (w 2) (by omega) (t + 1) (by omega) k hk
      have next : ∀ (b c : Nat) (y : Nat → Nat), fgSum y (w 2) (t + 1) (k + 1) = fgSum y (w 2) (t + 1) k + fgV (w 2) k (t + 1) * y k := fun _ _ _ => rfl
      refine ⟨fun c => ?_, fun c => ?_⟩
      · have c0 : fgV (w 2) k (t + 1) = 0 := by
          have hle : fgV (w 2) k (t + 1) < 2 ^ 63 := by
            rw [hv.2]
            have a1 : w 2 ^ obCnt k 16 ≤ 10 ^ obCnt k 16 := Nat.pow_le_pow_left (by omega) _
            have a2 : (10 - w 2) ^ (t + 1 - obCnt k 16) ≤ 10 ^ (t + 1 - obCnt k 16) := Nat.pow_le_pow_left (by omega) _
            have a3 := Nat.mul_le_mul a1 a2
            rw [← Nat.pow_add] at a3
            have a4 : 10 ^ (obCnt k 16 + (t + 1 - obCnt k 16)) ≤ 10 ^ 8 := Nat.pow_le_pow_right (by decide) (by omega)
            omega
          have e := congrArg Int64.toInt c
          rw [show (n64 (fgV (w 2) k (t + 1))).toInt = (fgV (w 2) k (t + 1) : Int) from Int64.toInt_ofNat_of_lt hle] at e
          have e0 : (0 : Int64).toInt = 0 := rfl
          omega
        have z : ∀ y : Nat → Nat, fgSum y (w 2) (t + 1) (k + 1) = fgSum y (w 2) (t + 1) k := fun y => by rw [next 0 0 y, c0, Nat.zero_mul, Nat.add_zero]
        rw [c1, nI_add]
        exact ih s0 _ _ _ σ2 g2 p2 (by rw [z]; exact h1) (fun q => by rw [z]; exact h2 q) (by rw [z]; exact h3)
      · have g3 : mSc σ (uI σ2 0 18 0 (nI k)) := zFr.uI g2 18 _
        have p3 : mPar (obFg w k) (uI σ2 0 18 0 (nI k)) := ⟨p2.1, rfl, p2.2.2.1, p2.2.2.2.1, p2.2.2.2.2⟩
        have hPo := obFg_ok hI (s := k) (by omega)
        refine m_goAll (hw.sc g3) hI p3 hPo (fun σ4 r4 f4 => ?_)
        have g4 : mSc σ σ4 := zFr.trans g3 f4.wk
        have p4 := p3.fr f4
        have l34 : gL σ4 0 34 0 + n64 (fgV (w 2) k (t + 1)) = n64 (fgSum (fun _ => 1) (w 2) (t + 1) (k + 1)) := by
          rw [f4.L 34, show gL (uI σ2 0 18 0 (nI k)) 0 34 0 = gL σ2 0 34 0 from rfl, h1, n64_add, next 0 0 (fun _ => 1), Nat.mul_one]
        have l36 : ∀ b, b = nI (obCnt (obIns w (obFg w k) (t + 1)) 16) → gL σ4 0 36 0 + n64 (fgV (w 2) k (t + 1)) * b.toInt64 = n64 (fgSum (fgCn w (t + 1)) (w 2) (t + 1) (k + 1)) := by
          intro b hb
          have hc := obCnt_le (obIns w (obFg w k) (t + 1)) 16
          rw [f4.L 36, show gL (uI σ2 0 18 0 (nI k)) 0 36 0 = gL σ2 0 36 0 from rfl, h3, hb, nI_l (by omega), show lN (obCnt (obIns w (obFg w k) (t + 1)) 16) = n64 (obCnt (obIns w (obFg w k) (t + 1)) 16) from rfl, n64_mul, n64_add, next 0 0 (fgCn w (t + 1))]
          rfl
        rw [e2, l34]
        -- the rest, by whether he is inside
        have rest : ∀ (z : Int64), (i < w 7 → gL σ4 0 35 0 + z = n64 (fgSum (fgIn w (t + 1) i) (w 2) (t + 1) (k + 1))) → zCallI zcl Zm G (d + 5) mX6_insideAt [zR 0 0, zI (nI (t + 1))] (uL (uL σ4 0 34 0 (n64 (fgSum (fun _ => 1) (w 2) (t + 1) (k + 1)))) 0 35 0 (gL σ4 0 35 0 + z)) (fun x3 σ3 => zCallI zcl Zm G (d + 5) mX6_bits [zI x3] σ3 (fun x4 σ5 => AW 21 [some (zR 0 0), some (zI x), some (zI y), some (zI (nI k + (1 : Int32))), some (zL (n64 (fgV (w 2) k (t + 1)))), none, some (zI (nI (t + 1)))] [] (uL σ5 0 36 0 ((gL (uL σ4 0 34 0 (n64 (fgSum (fun _ => 1) (w 2) (t + 1) (k + 1)))) 0 36 0) + (n64 (fgV (w 2) k (t + 1)) * x4.toInt64))))) := by
          intro z hz
          have g5 : mSc σ (uL (uL σ4 0 34 0 (n64 (fgSum (fun _ => 1) (w 2) (t + 1) (k + 1)))) 0 35 0 (gL σ4 0 35 0 + z)) := zFr.uL (zFr.uL g4 34 _) 35 _
          refine m_insideAt (P := obFg w k) (t := t + 1) (hw.sc g5) hI hPo r4 rfl (by omega) (m_bits rfl (Nat.lt_trans (obIns_lt hI) (by decide)) ?_)
          rw [show gL (uL σ4 0 34 0 (n64 (fgSum (fun _ => 1) (w 2) (t + 1) (k + 1)))) 0 36 0 = gL σ4 0 36 0 from rfl, l36 _ rfl, c1, nI_add]
          exact ih k _ _ _ _ (zFr.uL g5 36 _) p4 rfl (fun q => hz q) rfl
        by_cases c7 : i < w 7
        · have g5 : mSc σ (uL σ4 0 34 0 (n64 (fgSum (fun _ => 1) (w 2) (t + 1) (k + 1)))) := zFr.uL g4 34 _
          have h35 : gL σ4 0 35 0 = n64 (fgSum (fgIn w (t + 1) i) (w 2) (t + 1) k) := by
            rw [f4.L 35]; exact h2 c7
          refine m_isInside (P := obFg w k) hI hPo r4 hx rfl c7 (by omega) (zbr (fun c8 => rest 0 (fun _ => ?_)) (fun c8 => rest (n64 (fgV (w 2) k (t + 1))) (fun _ => ?_)))
          · rw [h35, Int64.add_zero, next 0 0 (fgIn w (t + 1) i)]
            unfold fgIn; rw [if_neg c8, Nat.mul_zero]; try rfl
          · rw [h35, n64_add, next 0 0 (fgIn w (t + 1) i)]
            congr 2
            unfold fgIn; rw [if_pos c8, Nat.mul_one]
        · refine m_insAny hx rfl hi (by omega) (fun b _ => ⟨fun _ => rest 0 (fun q => absurd q c7), fun _ => rest _ (fun q => absurd q c7)⟩)
    · refine sX6_layFog_34 ha ?_
      have hle : ¬ y < nI j := by rw [hy]; exact nI_nlt (by omega) (by omega)
      refine ⟨fun q => absurd q hle, fun _ => m_bit rfl rfl (by omega) (by omega) ?_⟩
      have e3 : (gA σ2 1 0 2).toInt64 = n64 (w 2) := by rw [(hw.sc g2) 2 (by decide), nI_l (by omega)]; rfl
      have e4 : ((10 : Int32) - gA σ2 1 0 2).toInt64 = n64 (10 - w 2) := by rw [(hw.sc g2) 2 (by decide), c10, pk_sub (by omega), nI_l (by omega)]; rfl
      rw [c1]
      refine zeqN (Nat.lt_of_lt_of_le (Nat.mod_lt _ (by decide)) (by decide)) (by decide) (fun c => ⟨zin_lit rfl, ?_⟩) (fun c => ⟨zin_lit rfl, ?_⟩)
      · rw [e3, n64_mul, nI_add]
        have ih2 := ih2
        simp only [fgV, if_pos c] at ih2
        exact ih2
      · rw [e4, n64_mul, nI_add]
        have ih2 := ih2
        simp only [fgV, if_neg c] at ih2
        exact ih2
theorem m_isFog {G : zG} {d : Nat} {w : Nat → Nat} {σ : zS} {a b : Int32} {K : Int32 → zS → Prop} (hw : wM w σ) (hI : obInv w) (h : K (bI (fgOk w a b)) σ) : zCallI zcl Zm G (d + 2) mX6_isFog [zR 0 0, zI a, zI b] σ K := by
  refine zmeth VX6_ok pX6_isFog rfl (by decide) (Nat.le_of_ble_eq_true rfl) (fun AW ha => ?_)
  refine sX6_isFog_0 ha (m_isAhead hw hI ?_)
  rw [i64]
  have e7 : (7 : Int32) < a ↔ 7 < a.toInt := Int32.lt_iff_toInt_lt
  refine zbr (fun c => ⟨Or.inl rfl, _, rfl, by rw [bI_f (fun q => c q.1)] at h; exact h⟩) (fun c => ⟨fun c2 => ⟨Or.inl rfl, _, rfl, by rw [bI_f (fun q => by have := e7.mp c2; omega)] at h; exact h⟩, fun c2 => m_in ?_⟩)
  have c2 : a.toInt ≤ 7 := by have := mt e7.mpr c2; omega
  rw [i64]
  refine zbr (c := btOk b) (fun c3 => ⟨Or.inl rfl, _, rfl, by rw [bI_f (fun q => c3 q.2.2)] at h; exact h⟩) (fun c3 => ⟨Or.inr rfl, _, rfl, by rw [bI_t ⟨c, c2, c3⟩] at h; exact h⟩)
def oChance (w : Nat → Nat) (i a b : Int32) : Int64 := if wkOk w i ∧ fgOk w a b then ptL (n64 (fgSum (fgIn w (a.toNatClampNeg + 1) i.toNatClampNeg) (w 2) (a.toNatClampNeg + 1) (2 ^ (a.toNatClampNeg + 1)))) (n64 (10 ^ (a.toNatClampNeg + 1))) b else -2
def oMean (w : Nat → Nat) (a b : Int32) : Int64 := if fgOk w a b then ptL (n64 (fgSum (fgCn w (a.toNatClampNeg + 1)) (w 2) (a.toNatClampNeg + 1) (2 ^ (a.toNatClampNeg + 1)))) (n64 (10 ^ (a.toNatClampNeg + 1))) b else -2
theorem ok7 {w : Nat → Nat} {a b : Int32} (hI : obInv w) (h : fgOk w a b) : a = nI a.toNatClampNeg ∧ a.toNatClampNeg < w 0 ∧ a.toNatClampNeg ≤ 7 := by
  have hb := hI.b
  obtain ⟨e, hl⟩ := okN h.1
  have e2 : a.toNatClampNeg = a.toInt.toNat := rfl
  exact ⟨e, hl, by have := h.2.1; omega⟩
theorem m_chance {G : zG} {d : Nat} {w : Nat → Nat} {σ : zS} {i a b : Int32} {K : Int64 → zS → Prop} (hw : wM w σ) (hI : obInv w) (h : ∀ σ', mSc σ σ' → K (oChance w i a b) σ') : zCallL zcl Zm G (d + 8) mX6_chance [zR 0 0, zI i, zI a, zI b] σ K := by
  refine zmeth VX6_ok pX6_chance rfl (by decide) (Nat.le_of_ble_eq_true rfl) (fun AW ha => ?_)
  have hb := hI.b
  unfold oChance at h
  have h0 := h σ mSc.refl
  refine sX6_chance_0 ha (m_isWalker hw hI ?_)
  rw [i64]
  refine zbr (fun c => ⟨_, rfl, by rw [if_neg (fun q => c q.1)] at h0; exact h0⟩) (fun c => m_isFog hw hI (zbr (fun c2 => ⟨_, rfl, by rw [if_neg (fun q => c2 q.2)] at h0; exact h0⟩) (fun c2 => ?_)))
  obtain ⟨e, hl, h7⟩ := ok7 hI c2
  obtain ⟨ei, hi⟩ := okN c
  rw [if_pos ⟨c, c2⟩] at h
  refine m_layFog (d := d + 1) hw hI ei e (by omega) hl h7 (fun σ1 f1 q1 q2 q3 => ?_)
  rw [q1, q2 hi]
  obtain ⟨r1, r2, r3⟩ := fgR (y := fgIn w (a.toNatClampNeg + 1) i.toNatClampNeg) hI (fgIn_le w _ _) (show a.toNatClampNeg + 1 < 9 by omega)
  exact m_part r1 r2 r3 ⟨_, rfl, h σ1 f1⟩
theorem m_mean {G : zG} {d : Nat} {w : Nat → Nat} {σ : zS} {a b : Int32} {K : Int64 → zS → Prop} (hw : wM w σ) (hI : obInv w) (h : ∀ σ', mSc σ σ' → K (oMean w a b) σ') : zCallL zcl Zm G (d + 8) mX6_mean [zR 0 0, zI a, zI b] σ K := by
  refine zmeth VX6_ok pX6_mean rfl (by decide) (Nat.le_of_ble_eq_true rfl) (fun AW ha => ?_)
  have hb := hI.b
  unfold oMean at h
  have h0 := h σ mSc.refl
  refine sX6_mean_0 ha (m_isFog hw hI (zbr (fun c2 => ⟨_, rfl, by rw [if_neg c2] at h0; exact h0⟩) (fun c2 => ?_)))
  obtain ⟨e, hl, h7⟩ := ok7 hI c2
  rw [if_pos c2] at h
  refine m_layFog (d := d + 1) hw hI (i := 0) nI_0.symm e (by omega) hl h7 (fun σ1 f1 q1 q2 q3 => ?_)
  rw [q1, q3]
  obtain ⟨r1, r2, r3⟩ := fgR (y := fgCn w (a.toNatClampNeg + 1)) hI (fgCn_le w _) (show a.toNatClampNeg + 1 < 9 by omega)
  exact m_part r1 r2 r3 ⟨_, rfl, h σ1 f1⟩
theorem x_isSoon {G : zG} {d : Nat} {w : Nat → Nat} {σ : zS} {a : Int32} {K : Int32 → zS → Prop} (hw : wX w σ) (hI : obInv w) (h : K (bI ((0 ≤ a.toInt ∧ a.toInt < w 0) ∧ a.toInt ≤ 7)) σ) : zCallI zcl Zx G (d + 2) mX0_isSoon [zR 0 0, zI a] σ K := by
  refine zmeth VX0_ok pX0_isSoon rfl (by decide) (Nat.le_of_ble_eq_true rfl) (fun AW ha => ?_)
  have e7 : (7 : Int32) < a ↔ 7 < a.toInt := Int32.lt_iff_toInt_lt
  exact sX0_isSoon_0 ha (x_isAhead hw hI (zbr (fun c => ⟨Or.inl rfl, _, rfl, by rw [bI_f (fun q => c q.1)] at h; exact h⟩) (fun c => ⟨fun c2 => ⟨Or.inl rfl, _, rfl, by rw [bI_f (fun q => by have := e7.mp c2; omega)] at h; exact h⟩, fun c2 => ⟨Or.inr rfl, _, rfl, by rw [bI_t ⟨c, by have := mt e7.mpr c2; omega⟩] at h; exact h⟩⟩)))
/-- what is summed: one inside, or how many -/
def fgY (w : Nat → Nat) (t : Nat) (x : Int32) (s : Nat) : Nat := if x = -1 then fgCn w t s else fgIn w t x.toNatClampNeg s
theorem x_sum {G : zG} {d : Nat} {w : Nat → Nat} {σ : zS} {t : Nat} {x y : Int32} {K : Int64 → zS → Prop} (hw : wX w σ) (hI : obInv w) (hx : x = -1 ∨ wkOk w x) (hy : y = nI t) (ht : t < w 0) (ht7 : t ≤ 7) (h : ∀ σ', xSc σ σ' → K (n64 (fgSum (fgY w (t + 1) x) (w 2) (t + 1) (2 ^ (t + 1)))) σ') : zCallL zcl Zx G (d + 20) mX0_sum [zR 0 0, zI x, zI y] σ K := by
  refine zmeth VX0_ok pX0_sum rfl (by decide) (Nat.le_of_ble_eq_true rfl) (fun AW ha => ?_)
  have hb := hI.b
  have hp : 2 ^ (t + 1) ≤ 2 ^ 8 := Nat.pow_le_pow_right (by decide) (by omega)
  have e1 : (2 : Int32) <<< (y &&& 31) = nI (2 ^ (t + 1)) := by
    have q := pk_shlN (n := 2) (nI t &&& 31) t (sh31 t (by omega)) (by rw [Nat.mul_comm, ← Nat.pow_succ]; omega)
    rw [hy]
    exact q.trans (by rw [Nat.pow_succ, Nat.mul_comm])
  have e2 : y + (1 : Int32) = nI (t + 1) := by rw [hy, c1, nI_add]
  refine sX0_sum_0 ha (x_hoursIs (d := d + 15) hw hI (fun σ1 p1 a1 _ f1 => ?_))
  refine loopN (N := 2 ^ (t + 1)) (I := fun k => ∀ (o6 : Option zV) (σ2 : zS), xSc σ σ2 → AW 13 [some (zR 0 0), some (zI x), some (zI y), some (zL (n64 (fgSum (fgY w (t + 1) x) (w 2) (t + 1) k))), none, some (zI (nI k)), o6] [] σ2) (fun o6 σ2 g2 => ?_) (fun k hk ih o6 σ2 g2 => ?_) 0 (Nat.zero_le _) none σ1 (xFr.trans (xFr.refl (I := xScr) (A := xArr)) f1.wk)
  · refine sX0_sum_13 ha ?_
    rw [e1]
    exact zltN (by omega) (by omega) (fun q => absurd q (by omega)) (fun _ => ⟨_, rfl, h σ2 g2⟩)
  · refine sX0_sum_13 ha ?_
    rw [e1]
    refine zltN (by omega) (by omega) (fun _ => x_hoursIs (d := d + 15) (hw.sc g2) hI (fun σ3 p3 a3 _ f3 => ?_)) (fun q => absurd hk (Nat.not_lt.mpr q))
    have hPo := obFg_ok hI (s := k) (by omega)
    have g3 : xSc σ (uI σ3 2 10 0 (nI k)) := xFr.uI (xFr.trans g2 f3.wk) 2 10 _
    have p4 : xPar w (obFg w k) (uI σ3 2 10 0 (nI k)) := ⟨p3.1, rfl, p3.2.2.1, p3.2.2.2⟩
    refine x_goes (d := d + 12) (hw.sc g3) hI p4 hPo a3 (fun σ4 r4 f4 => ?_)
    have g4 : xSc σ σ4 := xFr.trans g3 f4.wk
    rw [e2]
    refine x_inside (d := d + 17) (hw.sc g4) hI hPo r4 rfl (by omega) (x_size (d := d + 18) rfl (by omega) ?_)
    have hv := fg_pow (w 2) (by omega) (t + 1) (by omega) k hk
    have o1 : (gI σ4 1 6 0).toInt64 = n64 (w 2) := by rw [(hw.sc g4).2.1.2.2.1, nI_l (by omega)]; rfl
    have o2 : ((10 : Int32) - gI σ4 1 6 0).toInt64 = n64 (10 - w 2) := by rw [(hw.sc g4).2.1.2.2.1, c10, pk_sub (by omega), nI_l (by omega)]; rfl
    have o3 : nI (t + 1) - nI (obCnt k 16) = nI (t + 1 - obCnt k 16) := pk_sub hv.1
    refine x_powD (n := obCnt k 16) (by omega) (by omega) rfl (x_size (d := d + 18) rfl (by omega) ?_)
    rw [o1, o2, o3]
    refine x_powD (n := t + 1 - obCnt k 16) (by omega) (by omega) rfl ?_
    rw [pw_n, pw_n, n64_mul, ← hv.2]
    refine ⟨fun c => x_size (d := d + 18) rfl (obIns_lt hI) ?_, fun c => ?_⟩
    · have hc := obCnt_le (obIns w (obFg w k) (t + 1)) 16
      have ih := ih (some (zI (nI (obIns w (obFg w k) (t + 1))))) σ4 g4
      rw [nI_l (by omega), show lN (obCnt (obIns w (obFg w k) (t + 1)) 16) = n64 (obCnt (obIns w (obFg w k) (t + 1)) 16) from rfl, n64_mul, n64_add, c1, nI_add]
      have e : fgSum (fgY w (t + 1) x) (w 2) (t + 1) (k + 1) = fgSum (fgY w (t + 1) x) (w 2) (t + 1) k + fgV (w 2) k (t + 1) * obCnt (obIns w (obFg w k) (t + 1)) 16 := by
        show _ + fgV (w 2) k (t + 1) * fgY w (t + 1) x k = _
        unfold fgY; rw [if_pos c]; rfl
      rw [e] at ih; exact ih
    · have hk7 : wkOk w x := hx.resolve_left c
      obtain ⟨ei, hi⟩ := okN hk7
      have ih := ih (some (zI (nI (obIns w (obFg w k) (t + 1))))) σ4 g4
      have e5 : (nI (obIns w (obFg w k) (t + 1)) >>> (x &&& 31)) &&& 1 = nI (fgIn w (t + 1) x.toNatClampNeg k) := by
        rw [show x &&& 31 = nI x.toNatClampNeg &&& 31 by rw [← ei], bitN (Nat.lt_trans (obIns_lt hI) (by decide)) (by omega)]
        unfold obIns
        rw [obSet_b hi]
        rfl
      have hc := fgIn_le w (t + 1) x.toNatClampNeg k
      rw [e5, nI_l (by omega), show lN (fgIn w (t + 1) x.toNatClampNeg k) = n64 (fgIn w (t + 1) x.toNatClampNeg k) from rfl, n64_mul, n64_add, c1, nI_add]
      have e : fgSum (fgY w (t + 1) x) (w 2) (t + 1) (k + 1) = fgSum (fgY w (t + 1) x) (w 2) (t + 1) k + fgV (w 2) k (t + 1) * fgIn w (t + 1) x.toNatClampNeg k := by
        show _ + fgV (w 2) k (t + 1) * fgY w (t + 1) x k = _
        unfold fgY; rw [if_neg c]
      rw [e] at ih; exact ih
theorem e10 (n : Nat) : pw (10 : Int64) n = n64 (10 ^ n) := pw_n 10 n
theorem x_chance {G : zG} {d : Nat} {w : Nat → Nat} {σ : zS} {i a b : Int32} {K : Int64 → zS → Prop} (hw : wX w σ) (hI : obInv w) (h : ∀ σ', xSc σ σ' → K (oChance w i a b) σ') : zCallL zcl Zx G (d + 127) mX0_chance [zR 0 0, zI i, zI a, zI b] σ K := by
  refine zmeth VX0_ok pX0_chance rfl (by decide) (Nat.le_of_ble_eq_true rfl) (fun AW ha => ?_)
  have hb := hI.b
  unfold oChance at h
  have h0 := h σ xSc.refl
  refine sX0_chance_0 ha (x_isWalker (d := d + 124) hw hI ?_)
  rw [i64]
  refine zbr (fun c => ⟨_, rfl, by rw [if_neg (fun q => c q.1)] at h0; exact h0⟩) (fun c => x_isSoon (d := d + 124) hw hI (zbr (fun c2 => ⟨_, rfl, by rw [if_neg (fun q => c2 ⟨q.2.1, q.2.2.1⟩)] at h0; exact h0⟩) (fun c2 => x_isBit (d := d + 125) (zbr (fun c3 => ⟨_, rfl, by rw [if_neg (fun q => c3 q.2.2.2)] at h0; exact h0⟩) (fun c3 => ?_)))))
  have c4 : fgOk w a b := ⟨c2.1, c2.2, c3⟩
  obtain ⟨e, hl, h7⟩ := ok7 hI c4
  rw [if_pos ⟨c, c4⟩] at h
  refine x_sum (d := d + 106) hw hI (Or.inr c) e hl h7 (fun σ1 f1 => x_powD (n := a.toNatClampNeg + 1) (by omega) (by omega) (by rw [c1, ← nI_add, ← e]) ?_)
  have hc : ¬ i = -1 := fun q => by rw [q] at c; exact absurd c.1 (by decide)
  have ey : fgY w (a.toNatClampNeg + 1) i = fgIn w (a.toNatClampNeg + 1) i.toNatClampNeg := by funext s; unfold fgY; rw [if_neg hc]
  rw [e10, ey]
  obtain ⟨r1, r2, r3⟩ := fgR (y := fgIn w (a.toNatClampNeg + 1) i.toNatClampNeg) hI (fgIn_le w _ _) (show a.toNatClampNeg + 1 < 9 by omega)
  exact x_part r1 r2 r3 ⟨_, rfl, h σ1 f1⟩
theorem x_mean {G : zG} {d : Nat} {w : Nat → Nat} {σ : zS} {a b : Int32} {K : Int64 → zS → Prop} (hw : wX w σ) (hI : obInv w) (h : ∀ σ', xSc σ σ' → K (oMean w a b) σ') : zCallL zcl Zx G (d + 127) mX0_mean [zR 0 0, zI a, zI b] σ K := by
  refine zmeth VX0_ok pX0_mean rfl (by decide) (Nat.le_of_ble_eq_true rfl) (fun AW ha => ?_)
  have hb := hI.b
  unfold oMean at h
  have h0 := h σ xSc.refl
  refine sX0_mean_0 ha (x_isSoon (d := d + 124) hw hI (zbr (fun c2 => ⟨_, rfl, by rw [if_neg (fun q => c2 ⟨q.1, q.2.1⟩)] at h0; exact h0⟩) (fun c2 => x_isBit (d := d + 125) (zbr (fun c3 => ⟨_, rfl, by rw [if_neg (fun q => c3 q.2.2)] at h0; exact h0⟩) (fun c3 => ?_)))))
  have c4 : fgOk w a b := ⟨c2.1, c2.2, c3⟩
  obtain ⟨e, hl, h7⟩ := ok7 hI c4
  rw [if_pos c4] at h
  refine x_sum (d := d + 106) hw hI (Or.inl rfl) e hl h7 (fun σ1 f1 => x_powD (n := a.toNatClampNeg + 1) (by omega) (by omega) (by rw [c1, ← nI_add, ← e]) ?_)
  have ey : fgY w (a.toNatClampNeg + 1) (-1) = fgCn w (a.toNatClampNeg + 1) := by funext s; unfold fgY; rw [if_pos rfl]
  rw [e10, ey]
  obtain ⟨r1, r2, r3⟩ := fgR (y := fgCn w (a.toNatClampNeg + 1)) hI (fgCn_le w _) (show a.toNatClampNeg + 1 < 9 by omega)
  exact x_part r1 r2 r3 ⟨_, rfl, h σ1 f1⟩
