/-! QUESTIONS: reach, far -/
def obU (w : Nat → Nat) (s : Nat) : Nat → Nat
  | 0 => 0
  | n + 1 => obU w s n ||| (if s / 2 ^ n % 2 = 1 then obOuts w n (obMany w n) else 0)
def obRe (w : Nat → Nat) (a : Nat) : Nat → Nat
  | 0 => 2 ^ a
  | k + 1 => obRe w a k ||| obU w (obRe w a k) (w 4)
theorem obU_lt {w : Nat → Nat} (hI : obInv w) (s : Nat) {n : Nat} (hn : n ≤ 7) : obU w s n < 2 ^ 14 := by
  induction n with
  | zero => show 0 < 2 ^ 14; decide
  | succ n ih =>
    refine Nat.or_lt_two_pow (ih (by omega)) ?_
    split
    · exact obOuts_lt hI (by omega) (Nat.le_refl _)
    · decide
theorem obRe_lt {w : Nat → Nat} (hI : obInv w) {a : Nat} (ha : a < 14) (k : Nat) : obRe w a k < 2 ^ 14 := by
  induction k with
  | zero => exact Nat.pow_lt_pow_right (by decide) ha
  | succ k ih => exact Nat.or_lt_two_pow ih (obU_lt hI _ (by have := hI.b; omega))
theorem obU_congr {w : Nat → Nat} {s s' : Nat} {n : Nat} (h : ∀ i, i < n → s / 2 ^ i % 2 = s' / 2 ^ i % 2) : obU w s n = obU w s' n := by
  induction n with
  | zero => rfl
  | succ n ih => simp only [obU, ih (fun i hi => h i (by omega)), h n (by omega)]
theorem bit_or (s u i : Nat) : s / 2 ^ i % 2 ≤ (s ||| u) / 2 ^ i % 2 := by
  rw [← Nat.toNat_testBit, ← Nat.toNat_testBit, Nat.testBit_or]
  cases s.testBit i <;> cases u.testBit i <;> decide
theorem cnt_or (s u : Nat) : ∀ n, obCnt s n ≤ obCnt (s ||| u) n ∧ (obCnt (s ||| u) n = obCnt s n → ∀ i, i < n → (s ||| u) / 2 ^ i % 2 = s / 2 ^ i % 2) := by
  intro n
  induction n with
  | zero => exact ⟨Nat.le_refl _, fun _ i hi => absurd hi (by omega)⟩
  | succ n ih =>
    have hb := bit_or s u n
    simp only [obCnt]
    refine ⟨by omega, fun h i hi => ?_⟩
    by_cases c : i = n
    · rw [c]; omega
    · exact ih.2 (by omega) i (by omega)
theorem cnt_pow (a : Nat) : ∀ n, a < n → 1 ≤ obCnt (2 ^ a) n := by
  intro n
  induction n with
  | zero => intro h; omega
  | succ n ih =>
    intro h
    simp only [obCnt]
    by_cases c : a = n
    · rw [c, Nat.div_self (Nat.two_pow_pos n)]; omega
    · have := ih (by omega); omega
theorem obRe_fix {w : Nat → Nat} {a : Nat} (ha : a < w 4) : ∀ j, w 4 ≤ j → obRe w a j = obRe w a (w 4) := by
  have hst : ∀ k, obCnt (obRe w a (k + 1)) (w 4) = obCnt (obRe w a k) (w 4) → ∀ j, obRe w a (k + 1 + j) = obRe w a (k + 1) := by
    intro k hk
    have hu : obU w (obRe w a (k + 1)) (w 4) = obU w (obRe w a k) (w 4) := obU_congr ((cnt_or _ _ _).2 hk)
    intro j
    induction j with
    | zero => rfl
    | succ j ih =>
      show obRe w a (k + 1 + j) ||| obU w (obRe w a (k + 1 + j)) (w 4) = _
      rw [ih, hu]
      show obRe w a k ||| obU w (obRe w a k) (w 4) ||| obU w (obRe w a k) (w 4) = _
      rw [Nat.or_assoc, Nat.or_self]; rfl
  have hex : ∃ k, k < w 4 ∧ obCnt (obRe w a (k + 1)) (w 4) = obCnt (obRe w a k) (w 4) := by
    by_cases hx : ∃ k, k < w 4 ∧ obCnt (obRe w a (k + 1)) (w 4) = obCnt (obRe w a k) (w 4)
    · exact hx
    · exfalso
      have hgo : ∀ k, k ≤ w 4 → k + 1 ≤ obCnt (obRe w a k) (w 4) := by
        intro k
        induction k with
        | zero => intro _; exact cnt_pow a _ ha
        | succ k ih =>
          intro hk
          have h1 := ih (by omega)
          have h2 := (cnt_or (obRe w a k) (obU w (obRe w a k) (w 4)) (w 4)).1
          have h2 : obCnt (obRe w a k) (w 4) ≤ obCnt (obRe w a (k + 1)) (w 4) := h2
          have h3 : ¬ obCnt (obRe w a (k + 1)) (w 4) = obCnt (obRe w a k) (w 4) := fun q => hx ⟨k, by omega, q⟩
          omega
      have h1 := hgo (w 4) (Nat.le_refl _)
      have h2 := obCnt_le (obRe w a (w 4)) (w 4)
      omega
  obtain ⟨k, hk, he⟩ := hex
  have hs := hst k he
  intro j hj
  have h1 := hs (j - (k + 1))
  have h2 := hs (w 4 - (k + 1))
  rw [show k + 1 + (j - (k + 1)) = j by omega] at h1
  rw [show k + 1 + (w 4 - (k + 1)) = w 4 by omega] at h2
  rw [h1, h2]
theorem m_goOn {G : zG} {d : Nat} {w : Nat → Nat} {σ : zS} {s : Nat} {x : Int32} {K : Int32 → zS → Prop} (hw : wM w σ) (hI : obInv w) (hx : x = nI s) (hs : s < 2 ^ 14) (h : K (nI (s ||| obU w s (w 4))) σ) : zCallI zcl Zm G (d + 1) mX6_goOn [zR 0 0, zI x] σ K := by
  refine zmeth VX6_ok pX6_goOn rfl (by decide) (Nat.le_of_ble_eq_true rfl) (fun AW ha => ?_)
  have hb := hI.b
  subst hx
  have hz : nI s = nI (s ||| obU w s 0) := by show nI s = nI (s ||| 0); rw [Nat.or_zero]
  have start : ∀ o, AW 4 [some (zR 0 0), some (zI (nI s)), some (zI (nI (s ||| obU w s 0))), some (zI (nI 0)), o] [] σ := by
    refine loopN (N := w 4) (I := fun k => ∀ o, AW 4 [some (zR 0 0), some (zI (nI s)), some (zI (nI (s ||| obU w s k))), some (zI (nI k)), o] [] σ) (fun o => ?_) (fun k hk ih o => ?_) 0 (Nat.zero_le _)
    · exact sX6_goOn_4 ha (m_posts hw (zltN (by omega) (by omega) (fun c => absurd c (by omega)) (fun _ => ⟨_, rfl, h⟩)))
    · refine sX6_goOn_4 ha (m_posts hw (zltN (by omega) (by omega) (fun _ => ?_) (fun c => absurd hk (Nat.not_lt.mpr c))))
      have h4 := hI.many (show k < 7 by omega)
      have inner : ∀ j, j ≤ obMany w k → AW 15 [some (zR 0 0), some (zI (nI s)), some (zI (nI (s ||| (obU w s k ||| (if s / 2 ^ k % 2 = 1 then obOuts w k j else 0))))), some (zI (nI k)), some (zI (nI j))] [] σ := by
        refine loopN (N := obMany w k) (I := fun j => AW 15 [some (zR 0 0), some (zI (nI s)), some (zI (nI (s ||| (obU w s k ||| (if s / 2 ^ k % 2 = 1 then obOuts w k j else 0))))), some (zI (nI k)), some (zI (nI j))] [] σ) ?_ (fun j hj ih2 => ?_)
        · refine sX6_goOn_15 ha (m_roadMany hw rfl (by omega) (zltN (by omega) (by omega) (fun c => absurd c (by omega)) (fun _ => ?_)))
          rw [c1, nI_add]; exact ih _
        · refine sX6_goOn_15 ha (m_roadMany hw rfl (by omega) (zltN (by omega) (by omega) (fun _ => m_bit rfl rfl (by omega) (by omega) ?_) (fun c => absurd hj (Nat.not_lt.mpr c))))
          rw [c1]
          have hT := hI.toB (show k < 7 by omega) hj
          refine zeqN (Nat.lt_of_lt_of_le (Nat.mod_lt _ (by decide)) (by decide)) (by decide) (fun c2 => m_roadTo hw rfl rfl (by omega) (by omega) ?_) (fun c2 => ?_)
          · rw [← c1, bit1 (by omega), orN, c1, nI_add]
            rw [if_pos c2] at ih2 ⊢
            rw [show s ||| (obU w s k ||| obOuts w k j) ||| 2 ^ obTo w k j = s ||| (obU w s k ||| obOuts w k (j + 1)) by simp only [obOuts, Nat.or_assoc]]
            exact ih2
          · rw [← nI_0, orN, nI_add]
            rw [if_neg c2] at ih2 ⊢
            rw [Nat.or_zero (s ||| _)]
            exact ih2
      have := inner 0 (Nat.zero_le _)
      have e0 : (if s / 2 ^ k % 2 = 1 then obOuts w k 0 else 0) = 0 := by split <;> rfl
      rw [e0, Nat.or_zero, nI_0] at this
      exact this
  have := start none
  rw [← hz, nI_0] at this
  exact sX6_goOn_0 ha this
theorem x_stepFrom {G : zG} {d : Nat} {w : Nat → Nat} {σ : zS} {s : Nat} {x : Int32} {K : Int32 → zS → Prop} (hw : wX w σ) (hI : obInv w) (hx : x = nI s) (hs : s < 2 ^ 14) (h : K (nI (s ||| obU w s (w 4))) σ) : zCallI zcl Zx G (d + 5) mX0_stepFrom [zR 0 0, zI x] σ K := by
  refine zmeth VX0_ok pX0_stepFrom rfl (by decide) (Nat.le_of_ble_eq_true rfl) (fun AW ha => ?_)
  have hb := hI.b
  subst hx
  have hz : nI s = nI (s ||| obU w s 0) := by show nI s = nI (s ||| 0); rw [Nat.or_zero]
  have start : AW 4 [some (zR 0 0), some (zI (nI s)), some (zI (nI (s ||| obU w s 0))), some (zI (nI 0))] [] σ := by
    refine loopN (N := w 4) (I := fun k => AW 4 [some (zR 0 0), some (zI (nI s)), some (zI (nI (s ||| obU w s k))), some (zI (nI k))] [] σ) ?_ (fun k hk ih => ?_) 0 (Nat.zero_le _)
    · exact sX0_stepFrom_4 ha (x_posts hw (zltN (by omega) (by omega) (fun c => absurd c (by omega)) (fun _ => ⟨_, rfl, h⟩)))
    · refine sX0_stepFrom_4 ha (x_posts hw (zltN (by omega) (by omega) (fun _ => x_isOn rfl rfl (by omega) (by omega) (zbr (fun c => ?_) (fun c => x_roadsFrom hw hI rfl hk ?_))) (fun c => absurd hk (Nat.not_lt.mpr c))))
      · rw [← nI_0, orN, c1, nI_add, Nat.or_zero]
        simp only [obU, if_neg c, Nat.or_zero] at ih; exact ih
      · rw [orN, c1, nI_add, Nat.or_assoc]
        simp only [obU, if_pos c] at ih; exact ih
  rw [← hz, nI_0] at start
  exact sX0_stepFrom_0 ha start
def oReach (w : Nat → Nat) (a : Int32) : Int32 := if poOk w a then nI (obRe w a.toNatClampNeg (w 4)) else -2
theorem m_reach {G : zG} {d : Nat} {w : Nat → Nat} {σ : zS} {a : Int32} {K : Int32 → zS → Prop} (hw : wM w σ) (hI : obInv w) (h : ∀ σ', mSc σ σ' → K (oReach w a) σ') : zCallI zcl Zm G (d + 4) mX6_reach [zR 0 0, zI a] σ K := by
  refine zmeth VX6_ok pX6_reach rfl (by decide) (Nat.le_of_ble_eq_true rfl) (fun AW ha => ?_)
  have hb := hI.b
  have h := h σ mSc.refl
  unfold oReach at h
  refine sX6_reach_0 ha (m_isPost hw hI ?_)
  rw [i64]
  refine zbr (fun c => ⟨_, rfl, by rw [if_neg c] at h; exact h⟩) (fun c => ?_)
  rw [if_pos c] at h
  obtain ⟨e, hl⟩ := okN c
  have e1 : (1 : Int32) <<< (a &&& 31) = nI (obRe w a.toNatClampNeg 0) := by rw [show a &&& 31 = nI a.toNatClampNeg &&& 31 by rw [← e], bit1 (by omega)]; rfl
  rw [e1]
  refine loopN (N := 8) (I := fun k => AW 18 [some (zR 0 0), some (zI a), some (zI (nI (obRe w a.toNatClampNeg k))), some (zI (nI k))] [] σ) ?_ (fun k hk ih => ?_) 0 (Nat.zero_le _)
  · refine sX6_reach_18 ha ⟨fun _ => ⟨_, rfl, ?_⟩, fun c => absurd (show (7 : Int32) < nI 8 by decide) c⟩
    rw [obRe_fix hl 8 (by omega)]; exact h
  · refine sX6_reach_18 ha ?_
    rw [c7]
    refine zltN (by omega) (by omega) (fun c => absurd c (by omega)) (fun _ => m_goOn hw hI rfl (obRe_lt hI (by omega) k) ?_)
    rw [c1, nI_add]; exact ih
theorem x_reach {G : zG} {d : Nat} {w : Nat → Nat} {σ : zS} {a : Int32} {K : Int32 → zS → Prop} (hw : wX w σ) (hI : obInv w) (h : ∀ σ', xSc σ σ' → K (oReach w a) σ') : zCallI zcl Zx G (d + 8) mX0_reach [zR 0 0, zI a] σ K := by
  refine zmeth VX0_ok pX0_reach rfl (by decide) (Nat.le_of_ble_eq_true rfl) (fun AW ha => ?_)
  have hb := hI.b
  have h := h σ xSc.refl
  unfold oReach at h
  refine sX0_reach_0 ha (x_isPost hw hI (zbr (fun c => ⟨_, rfl, by rw [if_neg c] at h; exact h⟩) (fun c => ?_)))
  rw [if_pos c] at h
  obtain ⟨e, hl⟩ := okN c
  have e1 : (1 : Int32) <<< (a &&& 31) = nI (obRe w a.toNatClampNeg 0) := by rw [show a &&& 31 = nI a.toNatClampNeg &&& 31 by rw [← e], bit1 (by omega)]; rfl
  rw [e1]
  refine loopN (N := w 4) (I := fun k => AW 17 [some (zR 0 0), some (zI a), some (zI (nI (obRe w a.toNatClampNeg k))), some (zI (nI k))] [] σ) ?_ (fun k hk ih => ?_) 0 (Nat.zero_le _)
  · exact sX0_reach_17 ha (x_posts hw (zltN (by omega) (by omega) (fun c => absurd c (by omega)) (fun _ => ⟨_, rfl, h⟩)))
  · refine sX0_reach_17 ha (x_posts hw (zltN (by omega) (by omega) (fun _ => x_stepFrom hw hI rfl (obRe_lt hI (by omega) k) ?_) (fun c => absurd hk (Nat.not_lt.mpr c))))
    rw [c1, nI_add]; exact ih
theorem obFst_ext {c : Nat → Bool} (r : Nat) : ∀ (m k : Nat), (∀ j, k + m ≤ j → c j = c (k + m)) → obFst c (m + 1 + r) k = obFst c (m + 1) k := by
  have none' : ∀ n k, (∀ j, k ≤ j → c j = false) → obFst c n k = none := by
    intro n
    induction n with
    | zero => intro k _; rfl
    | succ n ih => intro k hk; simp only [obFst, hk k (Nat.le_refl _)]; exact ih (k + 1) (fun j hj => hk j (by omega))
  intro m
  induction m with
  | zero =>
    intro k hk
    rw [show 0 + 1 + r = r + 1 by omega]
    simp only [obFst]
    by_cases e : c k = true
    · rw [if_pos e, if_pos e]
    · rw [if_neg e, if_neg e]
      exact none' r (k + 1) (fun j hj => by rw [hk j (by omega)]; simpa using e)
  | succ m ih =>
    intro k hk
    rw [show m + 1 + 1 + r = (m + 1 + r) + 1 by omega]
    show (if c k = true then some k else obFst c (m + 1 + r) (k + 1)) = (if c k = true then some k else obFst c (m + 1) (k + 1))
    rw [ih (k + 1) (fun j hj => by rw [show k + 1 + m = k + (m + 1) by omega]; exact hk j (by omega))]
def obFarC (w : Nat → Nat) (a b : Nat) (k : Nat) : Bool := decide (obRe w a k / 2 ^ b % 2 = 1)
def oFar (w : Nat → Nat) (a b : Int32) : Int32 := if poOk w a ∧ plOk w b then pI (obFst (obFarC w a.toNatClampNeg b.toNatClampNeg) (w 4 + 1) 0) else -2
theorem okP {w : Nat → Nat} {b : Int32} (hI : obInv w) (h : plOk w b) : b = nI b.toNatClampNeg ∧ b.toNatClampNeg < 14 := by
  have hb := hI.b
  exact okN (n := 14) (by rcases h with h | h <;> omega)
theorem m_far {G : zG} {d : Nat} {w : Nat → Nat} {σ : zS} {a b : Int32} {K : Int32 → zS → Prop} (hw : wM w σ) (hI : obInv w) (h : ∀ σ', mSc σ σ' → K (oFar w a b) σ') : zCallI zcl Zm G (d + 4) mX6_far [zR 0 0, zI a, zI b] σ K := by
  refine zmeth VX6_ok pX6_far rfl (by decide) (Nat.le_of_ble_eq_true rfl) (fun AW ha => ?_)
  have hb := hI.b
  have h := h σ mSc.refl
  unfold oFar at h
  refine sX6_far_0 ha (m_isPost hw hI ?_)
  rw [i64]
  refine zbr (fun c => ⟨_, rfl, by rw [if_neg (fun q => c q.1)] at h; exact h⟩) (fun c => m_isPlace hw hI ?_)
  rw [i64]
  refine zbr (fun c2 => ⟨_, rfl, by rw [if_neg (fun q => c2 q.2)] at h; exact h⟩) (fun c2 => ?_)
  rw [if_pos ⟨c, c2⟩] at h
  obtain ⟨e, hl⟩ := okN c
  obtain ⟨e2, hl2⟩ := okP hI c2
  have e1 : (1 : Int32) <<< (a &&& 31) = nI (obRe w a.toNatClampNeg 0) := by rw [show a &&& 31 = nI a.toNatClampNeg &&& 31 by rw [← e], bit1 (by omega)]; rfl
  rw [e1]
  have hx := obFst_ext (c := obFarC w a.toNatClampNeg b.toNatClampNeg) (7 - w 4) (w 4) 0 (fun j hj => by unfold obFarC; rw [Nat.zero_add, obRe_fix hl j (by omega)])
  rw [show w 4 + 1 + (7 - w 4) = 8 by omega] at hx
  rw [← hx] at h
  refine loopF (N := 8) (K := fun q => K (pI q) σ) (I := fun k => AW 28 [some (zR 0 0), some (zI a), some (zI b), some (zI (nI (obRe w a.toNatClampNeg k))), some (zI (nI k))] [] σ) h (fun h1 => ?_) (fun k hk h1 h2 => ?_)
  · exact sX6_far_28 ha ⟨fun _ => ⟨_, rfl, h1⟩, fun c => absurd (show (7 : Int32) < nI 8 by decide) c⟩
  · refine sX6_far_28 ha ?_
    have hlt := obRe_lt hI (a := a.toNatClampNeg) (by omega) k
    rw [c7]
    refine zltN (by omega) (by omega) (fun c => absurd c (by omega)) (fun _ => m_bit rfl e2 (by omega) (by omega) ?_)
    rw [c1]
    refine zeqN (Nat.lt_of_lt_of_le (Nat.mod_lt _ (by decide)) (by decide)) (by decide) (fun c3 => ⟨_, rfl, h1 (decide_eq_true c3)⟩) (fun c3 => m_goOn hw hI rfl hlt ?_)
    rw [nI_add]; exact h2 (decide_eq_false c3)
theorem x_far {G : zG} {d : Nat} {w : Nat → Nat} {σ : zS} {a b : Int32} {K : Int32 → zS → Prop} (hw : wX w σ) (hI : obInv w) (h : ∀ σ', xSc σ σ' → K (oFar w a b) σ') : zCallI zcl Zx G (d + 8) mX0_far [zR 0 0, zI a, zI b] σ K := by
  refine zmeth VX0_ok pX0_far rfl (by decide) (Nat.le_of_ble_eq_true rfl) (fun AW ha => ?_)
  have hb := hI.b
  have h := h σ xSc.refl
  unfold oFar at h
  refine sX0_far_0 ha (x_isPost hw hI (zbr (fun c => ⟨_, rfl, by rw [if_neg (fun q => c q.1)] at h; exact h⟩) (fun c => x_isPlace hw hI ?_)))
  rw [i64]
  refine zbr (fun c2 => ⟨_, rfl, by rw [if_neg (fun q => c2 q.2)] at h; exact h⟩) (fun c2 => ?_)
  rw [if_pos ⟨c, c2⟩] at h
  obtain ⟨e, hl⟩ := okN c
  obtain ⟨e2, hl2⟩ := okP hI c2
  have e1 : (1 : Int32) <<< (a &&& 31) = nI (obRe w a.toNatClampNeg 0) := by rw [show a &&& 31 = nI a.toNatClampNeg &&& 31 by rw [← e], bit1 (by omega)]; rfl
  rw [e1]
  refine loopF (N := w 4 + 1) (K := fun q => K (pI q) σ) (I := fun k => AW 27 [some (zR 0 0), some (zI a), some (zI b), some (zI (nI (obRe w a.toNatClampNeg k))), some (zI (nI k))] [] σ) h (fun h1 => ?_) (fun k hk h1 h2 => ?_)
  · exact sX0_far_27 ha (x_posts hw (zltN (by omega) (by omega) (fun _ => ⟨_, rfl, h1⟩) (fun c => absurd c (by omega))))
  · have hlt := obRe_lt hI (a := a.toNatClampNeg) (by omega) k
    refine sX0_far_27 ha (x_posts hw (zltN (by omega) (by omega) (fun c => absurd c (by omega)) (fun _ => x_isOn rfl e2 (by omega) (by omega) (zbr (fun c3 => x_stepFrom hw hI rfl hlt ?_) (fun c3 => ⟨_, rfl, h1 (decide_eq_true c3)⟩)))))
    rw [c1, nI_add]; exact h2 (decide_eq_false c3)
