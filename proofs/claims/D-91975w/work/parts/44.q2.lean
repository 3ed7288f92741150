/-! QUESTIONS with loops: sets, trails, sums, the first hour -/
theorem loopN {N : Nat} {I : Nat → Prop} (h1 : I N) (h2 : ∀ k, k < N → I (k + 1) → I k) : ∀ k, k ≤ N → I k := by
  have : ∀ n k, k + n = N → I k := by
    intro n
    induction n with
    | zero => intro k hk; rw [show k = N by omega]; exact h1
    | succ n ih => intro k hk; exact h2 k (by omega) (ih (k + 1) (by omega))
  exact fun k hk => this (N - k) k (by omega)
/-- the first of which c is told -/
def obFst (c : Nat → Bool) : Nat → Nat → Option Nat
  | 0, _ => none
  | n + 1, k => if c k = true then some k else obFst c n (k + 1)
theorem loopF {N : Nat} {c : Nat → Bool} {I : Nat → Prop} {K : Option Nat → Prop} (h : K (obFst c N 0)) (h1 : K none → I N) (h2 : ∀ k, k < N → (c k = true → K (some k)) → (c k = false → I (k + 1)) → I k) : I 0 := by
  have : ∀ n k, k + n = N → K (obFst c n k) → I k := by
    intro n
    induction n with
    | zero => intro k hk hq; rw [show k = N by omega]; exact h1 hq
    | succ n ih =>
      intro k hk hq
      refine h2 k (by omega) (fun e => ?_) (fun e => ih (k + 1) (by omega) ?_)
      · simp only [obFst, if_pos e] at hq; exact hq
      · simp only [obFst, e] at hq; exact hq
  exact this N 0 (by omega) h
theorem obSet_t {c : Nat → Bool} {k : Nat} (h : c k = true) (hk : k < 31) : nI (obSet c k) ||| ((1 : Int32) <<< (nI k &&& 31)) = nI (obSet c (k + 1)) := by
  rw [bit1 hk, orN]; simp only [obSet, if_pos h]
theorem obSet_f {c : Nat → Bool} {k : Nat} (h : c k = false) : nI (obSet c k) ||| 0 = nI (obSet c (k + 1)) := by
  rw [← nI_0, orN]; simp [obSet, h]
/-- the posts of a trail -/
def obTr (f : Nat → Option Nat) : Nat → Nat
  | 0 => 0
  | n + 1 => obTr f n ||| (match f n with | none => 0 | some p => if p < 10 then 2 ^ p else 0)
theorem obTr_lt (f : Nat → Option Nat) (n : Nat) : obTr f n < 2 ^ 10 := by
  induction n with
  | zero => show 0 < 2 ^ 10; decide
  | succ n ih =>
    refine Nat.or_lt_two_pow ih ?_
    split
    · decide
    · split
      · rename_i hp; exact Nat.pow_lt_pow_right (by decide) hp
      · decide
theorem obTr_t {f : Nat → Option Nat} {k p : Nat} (h : f k = some p) (hp : p < 10) : nI (obTr f k) ||| ((1 : Int32) <<< (pI (f k) &&& 31)) = nI (obTr f (k + 1)) := by
  rw [h]
  show nI (obTr f k) ||| ((1 : Int32) <<< (nI p &&& 31)) = _
  rw [bit1 (by omega), orN]; simp only [obTr, h, if_pos hp]
theorem obTr_f {f : Nat → Option Nat} {k : Nat} (h : plOut (f k) = false) : nI (obTr f k) ||| 0 = nI (obTr f (k + 1)) := by
  rw [← nI_0, orN]
  cases e : f k with
  | none => simp only [obTr, e]
  | some p =>
    rw [e] at h
    have : ¬ p < 10 := by simpa [plOut] using h
    simp only [obTr, e, if_neg this]
/-- how many of 1 .. n -/
def obNum (c : Nat → Bool) : Nat → Nat
  | 0 => 0
  | n + 1 => obNum c n + (if c (n + 1) = true then 1 else 0)
theorem obNum_t {c : Nat → Bool} {k : Nat} (h : c (k + 1) = true) : nI (obNum c k) + (1 : Int32) = nI (obNum c (k + 1)) := by
  rw [c1, nI_add]; simp only [obNum, if_pos h]
theorem obNum_f {c : Nat → Bool} {k : Nat} (h : c (k + 1) = false) : nI (obNum c k) + (0 : Int32) = nI (obNum c (k + 1)) := by
  rw [← nI_0, nI_add]; simp [obNum, h]
def obSum (f : Nat → Nat) : Nat → Nat
  | 0 => 0
  | n + 1 => obSum f n + f n
theorem pl_out {w : Nat → Nat} {P : obP} {t i : Nat} (hI : obInv w) (hP : obPok w P) : ((0 : Int) ≤ (pI (pl w P t i)).toInt ∧ (pI (pl w P t i)).toInt ≤ 6 ↔ plOut (pl w P t i) = true) ∧ ((0 : Int) ≤ (pI (pl w P t i)).toInt ∧ (pI (pl w P t i)).toInt ≤ 9 ↔ plOut (pl w P t i) = true) := by
  have hb := hI.b
  cases e : pl w P t i with
  | none => constructor <;> constructor <;> intro h <;> first | exact absurd h.1 (by decide) | exact absurd h (by decide)
  | some p =>
    have h1 := pl_lt hI hP e
    have h2 : (pI (some p)).toInt = (p : Int) := nI_toInt (by omega)
    rw [h2]
    simp only [plOut, decide_eq_true_eq]
    constructor <;> constructor <;> intro h <;> omega
theorem m_inOut {G : zG} {d : Nat} {w : Nat → Nat} {P : obP} {σ : zS} {i t : Nat} {K : Int32 → zS → Prop} (hI : obInv w) (hP : obPok w P) (h : K (bI (plOut (pl w P t i) = true)) σ) : zCallI zcl Zm G d mX6_in [zL (pI (pl w P t i)).toInt64, zL (0 : Int64), zL (6 : Int64)] σ K := by
  refine m_in ?_
  rw [i64, bI_c (show ((0 : Int64).toInt ≤ (pI (pl w P t i)).toInt ∧ (pI (pl w P t i)).toInt ≤ (6 : Int64).toInt) ↔ plOut (pl w P t i) = true from (pl_out hI hP).1)]
  exact h
theorem x_inOut {G : zG} {d : Nat} {w : Nat → Nat} {P : obP} {σ : zS} {i t : Nat} {K : Int32 → zS → Prop} (hI : obInv w) (hP : obPok w P) (h : K (bI (plOut (pl w P t i) = true)) σ) : zCallI zcl Zx G d mX0_in [zL (pI (pl w P t i)).toInt64, zL (0 : Int64), zL (9 : Int64)] σ K := by
  refine x_in ?_
  rw [i64, bI_c (show ((0 : Int64).toInt ≤ (pI (pl w P t i)).toInt ∧ (pI (pl w P t i)).toInt ≤ (9 : Int64).toInt) ↔ plOut (pl w P t i) = true from (pl_out hI hP).2)]
  exact h
/-- who is here -/
def obHere (w : Nat → Nat) (P : obP) (t : Nat) (v : Int32) : Nat := obSet (fun i => decide (pI (pl w P t i) = v)) (w 7)
theorem obHere_lt {w : Nat → Nat} {P : obP} {t : Nat} {v : Int32} (hI : obInv w) : obHere w P t v < 256 :=
  Nat.lt_of_lt_of_le (obSet_lt _ _) (show 2 ^ w 7 ≤ 2 ^ 8 from Nat.pow_le_pow_right (by decide) (by have := hI.b; omega))
theorem m_hereOf {G : zG} {d : Nat} {w : Nat → Nat} {P : obP} {σ : zS} {t : Nat} {v y : Int32} {K : Int32 → zS → Prop} (hw : wM w σ) (hI : obInv w) (hr : mRan w P σ) (hy : y = nI t) (ht : t ≤ w 0) (h : K (nI (obHere w P t v)) σ) : zCallI zcl Zm G (d + 1) mX6_hereOf [zR 0 0, zI v, zI y] σ K := by
  refine zmeth VX6_ok pX6_hereOf rfl (by decide) (Nat.le_of_ble_eq_true rfl) (fun AW ha => ?_)
  have hb := hI.b
  refine sX6_hereOf_0 ha (loopN (N := w 7) (I := fun k => AW 5 [some (zR 0 0), some (zI v), some (zI y), some (zI (nI (obSet (fun i => decide (pI (pl w P t i) = v)) k))), some (zI (nI k))] [] σ) ?_ (fun k hk ih => ?_) 0 (Nat.zero_le _))
  · refine sX6_hereOf_5 ha (m_walkers hw (zltN (by omega) (by omega) (fun c => absurd c (by omega)) (fun _ => ⟨_, rfl, h⟩)))
  · refine sX6_hereOf_5 ha (m_walkers hw (zltN (by omega) (by omega) (fun _ => m_placeOf hI hr rfl hy hk ht ⟨fun c => ?_, fun c => ?_⟩) (fun c => absurd hk (Nat.not_lt.mpr c))))
    · rw [obSet_t (decide_eq_true c) (by omega), c1, nI_add]; exact ih
    · rw [obSet_f (decide_eq_false c), c1, nI_add]; exact ih
theorem x_hereIn {G : zG} {d : Nat} {w : Nat → Nat} {P : obP} {σ : zS} {t : Nat} {v y : Int32} {K : Int32 → zS → Prop} (hw : wX w σ) (hI : obInv w) (hr : xRan w P σ) (hy : y = nI t) (ht : t ≤ w 0) (h : K (nI (obHere w P t v)) σ) : zCallI zcl Zx G (d + 2) mX0_hereIn [zR 0 0, zI v, zI y] σ K := by
  refine zmeth VX0_ok pX0_hereIn rfl (by decide) (Nat.le_of_ble_eq_true rfl) (fun AW ha => ?_)
  have hb := hI.b
  refine sX0_hereIn_0 ha (loopN (N := w 7) (I := fun k => AW 5 [some (zR 0 0), some (zI v), some (zI y), some (zI (nI (obSet (fun i => decide (pI (pl w P t i) = v)) k))), some (zI (nI k))] [] σ) ?_ (fun k hk ih => ?_) 0 (Nat.zero_le _))
  · refine sX0_hereIn_5 ha (x_many hw (zltN (by omega) (by omega) (fun c => absurd c (by omega)) (fun _ => ⟨_, rfl, h⟩)))
  · refine sX0_hereIn_5 ha (x_many hw (zltN (by omega) (by omega) (fun _ => x_hat hI hr rfl hy hk ht ⟨fun c => ?_, fun c => ?_⟩) (fun c => absurd hk (Nat.not_lt.mpr c))))
    · rw [obSet_t (decide_eq_true c) (by omega), c1, nI_add]; exact ih
    · rw [obSet_f (decide_eq_false c), c1, nI_add]; exact ih
abbrev hrOk (w : Nat → Nat) (t : Int32) : Prop := 0 < w 9 ∧ 0 ≤ t.toInt ∧ t.toInt ≤ w 0
abbrev wkOk (w : Nat → Nat) (a : Int32) : Prop := 0 ≤ a.toInt ∧ a.toInt < w 7
abbrev poOk (w : Nat → Nat) (a : Int32) : Prop := 0 ≤ a.toInt ∧ a.toInt < w 4
abbrev inOk (w : Nat → Nat) (a : Int32) : Prop := 0 ≤ a.toInt ∧ a.toInt < w 3
abbrev plOk (w : Nat → Nat) (a : Int32) : Prop := (0 ≤ a.toInt ∧ a.toInt < w 4) ∨ (10 ≤ a.toInt ∧ a.toInt < 10 + w 3)
theorem okH {w : Nat → Nat} {t : Int32} (hI : obInv w) (h : hrOk w t) : t = nI t.toNatClampNeg ∧ t.toNatClampNeg ≤ w 0 := okN' h.2 (by have := hI.b; omega)
def oHere (w : Nat → Nat) (a t : Int32) : Int32 := if hrOk w t ∧ plOk w a then nI (obHere w (obAs w) t.toNatClampNeg a) else -2
theorem m_here {G : zG} {d : Nat} {w : Nat → Nat} {σ : zS} {a t : Int32} {K : Int32 → zS → Prop} (hw : wM w σ) (hI : obInv w) (h : ∀ σ', mSc σ σ' → K (oHere w a t) σ') : zCallI zcl Zm G (d + 8) mX6_here [zR 0 0, zI a, zI t] σ K := by
  refine zmeth VX6_ok pX6_here rfl (by decide) (Nat.le_of_ble_eq_true rfl) (fun AW ha => ?_)
  refine sX6_here_0 ha (m_asksHour hw hI (fun σ1 r1 p1 f1 => ?_))
  have h := h σ1 f1
  unfold oHere at h
  refine zbr (fun c => ⟨_, rfl, by rw [if_neg (fun q => c q.1)] at h; exact h⟩) (fun c => m_isPlace (hw.sc f1) hI ?_)
  rw [i64]
  refine zbr (fun c2 => ⟨_, rfl, by rw [if_neg (fun q => c2 q.2)] at h; exact h⟩) (fun c2 => ?_)
  obtain ⟨e, hl⟩ := okH hI c
  refine m_hereOf (hw.sc f1) hI r1 e hl ⟨_, rfl, ?_⟩
  rw [if_pos ⟨c, c2⟩] at h; exact h
theorem x_here {G : zG} {d : Nat} {w : Nat → Nat} {σ : zS} {a t : Int32} {K : Int32 → zS → Prop} (hw : wX w σ) (hI : obInv w) (h : ∀ σ', xSc σ σ' → K (oHere w a t) σ') : zCallI zcl Zx G (d + 9) mX0_here [zR 0 0, zI a, zI t] σ K := by
  refine zmeth VX0_ok pX0_here rfl (by decide) (Nat.le_of_ble_eq_true rfl) (fun AW ha => ?_)
  refine sX0_here_0 ha (x_isPlace hw hI ?_)
  have h0 := h σ xSc.refl
  unfold oHere at h0 h
  rw [i64]
  refine zbr (fun c => ⟨_, rfl, by rw [if_neg (fun q => c q.2)] at h0; exact h0⟩) (fun c => x_isHour hw hI ?_)
  rw [i64]
  refine zbr (fun c2 => ⟨_, rfl, by rw [if_neg (fun q => c2 q.1)] at h0; exact h0⟩) (fun c2 => x_is hw hI (fun σ1 r1 p1 f1 => ?_))
  have h := h σ1 f1
  obtain ⟨e, hl⟩ := okH hI c2
  refine x_hereIn (hw.sc f1) hI r1 e hl ⟨_, rfl, ?_⟩
  rw [if_pos ⟨c2, c⟩] at h; exact h
/-- how often sent from -/
def obSends (w : Nat → Nat) (P : obP) (p : Nat) : Nat := obSum (fun k => (obAt w P (w 0)).2.2.1 (4 * p + k)) 4
theorem m_sendsOf {G : zG} {d : Nat} {w : Nat → Nat} {P : obP} {σ : zS} {p : Nat} {y : Int32} {K : Int32 → zS → Prop} (hr : mRan w P σ) (hy : y = nI p) (hp : p < 7) (h : K (nI (obSends w P p)) σ) : zCallI zcl Zm G d mX6_sendsOf [zR 0 0, zI y] σ K := by
  refine zmeth VX6_ok pX6_sendsOf rfl (by decide) (Nat.le_of_ble_eq_true rfl) (fun AW ha => ?_)
  refine sX6_sendsOf_0 ha (loopN (N := 4) (I := fun k => AW 4 [some (zR 0 0), some (zI y), some (zI (nI (obSum (fun k => (obAt w P (w 0)).2.2.1 (4 * p + k)) k))), some (zI (nI k))] [] σ) ?_ (fun k hk ih => ?_) 0 (Nat.zero_le _))
  · exact sX6_sendsOf_4 ha ⟨fun c => absurd c (by decide), fun _ => ⟨_, rfl, h⟩⟩
  · refine sX6_sendsOf_4 ha ?_
    rw [c4]
    refine zltN (by omega) (by omega) (fun _ => ?_) (fun c => absurd hk (Nat.not_lt.mpr c))
    have e : nI 4 * y + nI k = nI (4 * p + k) := by rw [hy, pk_mul, nI_add]
    refine ⟨zix _ e (by omega), ?_⟩
    rw [zcl_n _ e, hr.2.2.2.2.1 _ (by omega), c1, nI_add, nI_add]
    exact ih
theorem x_sendsOf {G : zG} {d : Nat} {w : Nat → Nat} {P : obP} {σ : zS} {p : Nat} {y : Int32} {K : Int32 → zS → Prop} (hr : xRan w P σ) (hy : y = nI p) (hp : p < 7) (h : K (nI (obSends w P p)) σ) : zCallI zcl Zx G d mX0_sendsOf [zR 0 0, zI y] σ K := by
  refine zmeth VX0_ok pX0_sendsOf rfl (by decide) (Nat.le_of_ble_eq_true rfl) (fun AW ha => ?_)
  refine sX0_sendsOf_0 ha (loopN (N := 4) (I := fun k => AW 4 [some (zR 0 0), some (zI y), some (zI (nI (obSum (fun k => (obAt w P (w 0)).2.2.1 (4 * p + k)) k))), some (zI (nI k))] [] σ) ?_ (fun k hk ih => ?_) 0 (Nat.zero_le _))
  · exact sX0_sendsOf_4 ha ⟨fun c => absurd c (by decide), fun _ => ⟨_, rfl, h⟩⟩
  · refine sX0_sendsOf_4 ha ?_
    rw [c4]
    refine zltN (by omega) (by omega) (fun _ => ?_) (fun c => absurd hk (Nat.not_lt.mpr c))
    have e : nI 4 * y + nI k = nI (4 * p + k) := by rw [hy, pk_mul, nI_add]
    refine ⟨zix _ e (by omega), ?_⟩
    rw [zcl_n _ e, hr.2.2.2.1 _ (by omega), c1, nI_add, nI_add]
    exact ih
def oSends (w : Nat → Nat) (a : Int32) : Int32 := if poOk w a then nI (obSends w (obAs w) a.toNatClampNeg) else -2
theorem m_sends {G : zG} {d : Nat} {w : Nat → Nat} {σ : zS} {a : Int32} {K : Int32 → zS → Prop} (hw : wM w σ) (hI : obInv w) (h : ∀ σ', mSc σ σ' → K (oSends w a) σ') : zCallI zcl Zm G (d + 8) mX6_sends [zR 0 0, zI a] σ K := by
  refine zmeth VX6_ok pX6_sends rfl (by decide) (Nat.le_of_ble_eq_true rfl) (fun AW ha => ?_)
  have hb := hI.b
  refine sX6_sends_0 ha (m_asksPost hw hI (fun σ1 r1 p1 f1 => ?_))
  have h := h σ1 f1
  unfold oSends at h
  refine zbr (fun c => ⟨_, rfl, by rw [if_neg c] at h; exact h⟩) (fun c => ?_)
  obtain ⟨e, hl⟩ := okN c
  refine m_sendsOf r1 e (by omega) ⟨_, rfl, ?_⟩
  rw [if_pos c] at h; exact h
theorem x_sendsQ {G : zG} {d : Nat} {w : Nat → Nat} {σ : zS} {a : Int32} {K : Int32 → zS → Prop} (hw : wX w σ) (hI : obInv w) (h : ∀ σ', xSc σ σ' → K (oSends w a) σ') : zCallI zcl Zx G (d + 9) mX0_sends [zR 0 0, zI a] σ K := by
  refine zmeth VX0_ok pX0_sends rfl (by decide) (Nat.le_of_ble_eq_true rfl) (fun AW ha => ?_)
  have hb := hI.b
  unfold oSends at h
  refine sX0_sends_0 ha (x_isPost hw hI (zbr (fun c => ⟨_, rfl, by have h := h σ xSc.refl; rw [if_neg c] at h; exact h⟩) (fun c => x_is hw hI (fun σ1 r1 p1 f1 => ?_))))
  have h := h σ1 f1
  obtain ⟨e, hl⟩ := okN c
  refine x_sendsOf r1 e (by omega) ⟨_, rfl, ?_⟩
  rw [if_pos c] at h; exact h
/-- the first hour within -/
def obHome (w : Nat → Nat) (P : obP) (i : Nat) : Option Nat := obFst (fun t => plIn (pl w P t i)) (w 0 + 1) 0
theorem m_homeOf {G : zG} {d : Nat} {w : Nat → Nat} {P : obP} {σ : zS} {i : Nat} {x : Int32} {K : Int32 → zS → Prop} (hw : wM w σ) (hI : obInv w) (hPo : obPok w P) (hr : mRan w P σ) (hx : x = nI i) (hi : i < w 7) (h : K (pI (obHome w P i)) σ) : zCallI zcl Zm G (d + 2) mX6_homeOf [zR 0 0, zI x] σ K := by
  refine zmeth VX6_ok pX6_homeOf rfl (by decide) (Nat.le_of_ble_eq_true rfl) (fun AW ha => ?_)
  have hb := hI.b
  refine sX6_homeOf_0 ha (loopF (N := w 0 + 1) (c := fun t => plIn (pl w P t i)) (K := fun q => K (pI q) σ) (I := fun k => AW 2 [some (zR 0 0), some (zI x), some (zI (nI k))] [] σ) h (fun h1 => ?_) (fun k hk h1 h2 => ?_))
  · exact sX6_homeOf_2 ha (m_hours hw (zltN (by omega) (by omega) (fun _ => ⟨_, rfl, h1⟩) (fun c => absurd c (by omega))))
  · refine sX6_homeOf_2 ha (m_hours hw (zltN (by omega) (by omega) (fun c => absurd c (by omega)) (fun _ => m_isInside hI hPo hr hx rfl hi (by omega) (zbr (fun c => ?_) (fun c => ⟨_, rfl, h1 c⟩)))))
    rw [c1, nI_add]; exact h2 (by simpa using c)
def oHome (w : Nat → Nat) (a : Int32) : Int32 := if wkOk w a then pI (obHome w (obAs w) a.toNatClampNeg) else -2
theorem m_home {G : zG} {d : Nat} {w : Nat → Nat} {σ : zS} {a : Int32} {K : Int32 → zS → Prop} (hw : wM w σ) (hI : obInv w) (h : ∀ σ', mSc σ σ' → K (oHome w a) σ') : zCallI zcl Zm G (d + 8) mX6_home [zR 0 0, zI a] σ K := by
  refine zmeth VX6_ok pX6_home rfl (by decide) (Nat.le_of_ble_eq_true rfl) (fun AW ha => ?_)
  have hb := hI.b
  refine sX6_home_0 ha (m_asksWalker hw hI (fun σ1 r1 p1 f1 => ?_))
  have h := h σ1 f1
  unfold oHome at h
  refine zbr (fun c => ⟨_, rfl, by rw [if_neg c] at h; exact h⟩) (fun c => ?_)
  obtain ⟨e, hl⟩ := okN c
  refine m_homeOf (hw.sc f1) hI (obAs_ok hI) r1 e hl ⟨_, rfl, ?_⟩
  rw [if_pos c] at h; exact h
theorem x_homeAt {G : zG} {d : Nat} {w : Nat → Nat} {P : obP} {σ : zS} {i : Nat} {x v : Int32} {K : Int32 → zS → Prop} (hw : wX w σ) (hI : obInv w) (hPo : obPok w P) (hr : xRan w P σ) (hx : x = nI i) (hi : i < w 7) (h : K (pI (obFst (fun t => plIn (pl w P t i) && (decide (v = -1) || decide (pI (pl w P t i) = 10 + v))) (w 0 + 1) 0)) σ) : zCallI zcl Zx G (d + 1) mX3_home [zR 2 0, zI x, zI v] σ K := by
  refine zmeth VX3_ok pX3_home rfl (by decide) (Nat.le_of_ble_eq_true rfl) (fun AW ha => ?_)
  have hb := hI.b
  refine sX3_home_0 ha (loopF (N := w 0 + 1) (K := fun q => K (pI q) σ) (I := fun k => AW 2 [some (zR 2 0), some (zI x), some (zI v), some (zI (nI k))] [] σ) h (fun h1 => ?_) (fun k hk h1 h2 => ?_))
  · refine sX3_home_2 ha ?_
    rw [hw.2.1.1]
    exact zltN (by omega) (by omega) (fun _ => ⟨_, rfl, h1⟩) (fun c => absurd c (by omega))
  · refine sX3_home_2 ha ?_
    rw [hw.2.1.1]
    refine zltN (by omega) (by omega) (fun c => absurd c (by omega)) (fun _ => x_hat hI hr hx rfl hi (by omega) (zpl10 (pl31 hI hPo) (fun c => ?_) (fun c => ⟨fun c2 => ⟨_, rfl, h1 ?_⟩, fun c2 => x_hat hI hr hx rfl hi (by omega) ⟨fun c3 => ⟨_, rfl, h1 ?_⟩, fun c3 => ?_⟩⟩)))
    · rw [c1, nI_add]; exact h2 (by simp [c])
    · simp [c, c2]
    · simp [c, c3]
    · rw [c1, nI_add]; exact h2 (by simp [c, c2, c3])
theorem x_homeQ {G : zG} {d : Nat} {w : Nat → Nat} {σ : zS} {a : Int32} {K : Int32 → zS → Prop} (hw : wX w σ) (hI : obInv w) (h : ∀ σ', xSc σ σ' → K (oHome w a) σ') : zCallI zcl Zx G (d + 9) mX0_home [zR 0 0, zI a] σ K := by
  refine zmeth VX0_ok pX0_home rfl (by decide) (Nat.le_of_ble_eq_true rfl) (fun AW ha => ?_)
  have hb := hI.b
  unfold oHome at h
  refine sX0_home_0 ha (x_isWalker hw hI ?_)
  rw [i64]
  refine zbr (fun c => ⟨_, rfl, by have h := h σ xSc.refl; rw [if_neg c] at h; exact h⟩) (fun c => x_is hw hI (fun σ1 r1 p1 f1 => ?_))
  have h := h σ1 f1
  obtain ⟨e, hl⟩ := okN c
  refine x_homeAt (hw.sc f1) hI (obAs_ok hI) r1 e hl ⟨_, rfl, ?_⟩
  rw [if_pos c] at h
  unfold obHome at h
  have : (fun t => plIn (pl w (obAs w) t a.toNatClampNeg) && (decide ((-1 : Int32) = -1) || decide (pI (pl w (obAs w) t a.toNatClampNeg) = 10 + (-1 : Int32)))) = (fun t => plIn (pl w (obAs w) t a.toNatClampNeg)) := by funext t; simp
  rw [this]; exact h
/-- which inn at the end -/
def oInn (w : Nat → Nat) (a : Int32) : Int32 := if wkOk w a then (if plIn (pl w (obAs w) (w 0) a.toNatClampNeg) = true then pI (pl w (obAs w) (w 0) a.toNatClampNeg) - 10 else -1) else -2
theorem m_inn {G : zG} {d : Nat} {w : Nat → Nat} {σ : zS} {a : Int32} {K : Int32 → zS → Prop} (hw : wM w σ) (hI : obInv w) (h : ∀ σ', mSc σ σ' → K (oInn w a) σ') : zCallI zcl Zm G (d + 8) mX6_inn [zR 0 0, zI a] σ K := by
  refine zmeth VX6_ok pX6_inn rfl (by decide) (Nat.le_of_ble_eq_true rfl) (fun AW ha => ?_)
  have hb := hI.b
  refine sX6_inn_0 ha (m_asksWalker hw hI (fun σ1 r1 p1 f1 => ?_))
  have h := h σ1 f1
  have hw1 := hw.sc f1
  unfold oInn at h
  refine zbr (fun c => ⟨_, rfl, by rw [if_neg c] at h; exact h⟩) (fun c => ?_)
  rw [if_pos c] at h
  obtain ⟨e, hl⟩ := okN c
  refine m_hours hw1 (m_isInside hI (obAs_ok hI) r1 e rfl hl (Nat.le_refl _) (zbr (fun c2 => ⟨_, rfl, by rw [if_neg c2] at h; exact h⟩) (fun c2 => m_hours hw1 (m_placeOf hI r1 e rfl hl (Nat.le_refl _) ⟨_, rfl, ?_⟩))))
  rw [if_pos c2] at h; exact h
theorem x_inn {G : zG} {d : Nat} {w : Nat → Nat} {σ : zS} {a : Int32} {K : Int32 → zS → Prop} (hw : wX w σ) (hI : obInv w) (h : ∀ σ', xSc σ σ' → K (oInn w a) σ') : zCallI zcl Zx G (d + 9) mX0_inn [zR 0 0, zI a] σ K := by
  refine zmeth VX0_ok pX0_inn rfl (by decide) (Nat.le_of_ble_eq_true rfl) (fun AW ha => ?_)
  have hb := hI.b
  unfold oInn at h
  refine sX0_inn_0 ha (x_isWalker hw hI ?_)
  rw [i64]
  refine zbr (fun c => ⟨_, rfl, by have h := h σ xSc.refl; rw [if_neg c] at h; exact h⟩) (fun c => x_is hw hI (fun σ1 r1 p1 f1 => ?_))
  have h := h σ1 f1
  have hw1 := hw.sc f1
  rw [if_pos c] at h
  obtain ⟨e, hl⟩ := okN c
  refine x_hat hI r1 e (hw1.2.1.1) hl (Nat.le_refl _) (zpl10 (pl31 hI (obAs_ok hI)) (fun c2 => ⟨_, rfl, ?_⟩) (fun c2 => ⟨_, rfl, ?_⟩))
  · rw [if_neg (by simp [c2])] at h; exact h
  · rw [if_pos c2] at h; exact h
/-- trails -/
theorem m_trailTo {G : zG} {d : Nat} {w : Nat → Nat} {P : obP} {σ : zS} {i t : Nat} {x y : Int32} {K : Int32 → zS → Prop} (hI : obInv w) (hPo : obPok w P) (hr : mRan w P σ) (hx : x = nI i) (hy : y = nI t) (hi : i < w 7) (ht : t ≤ w 0) (h : K (nI (obTr (fun t => pl w P t i) (t + 1))) σ) : zCallI zcl Zm G (d + 1) mX6_trailTo [zR 0 0, zI x, zI y] σ K := by
  refine zmeth VX6_ok pX6_trailTo rfl (by decide) (Nat.le_of_ble_eq_true rfl) (fun AW ha => ?_)
  have hb := hI.b
  refine sX6_trailTo_0 ha (loopN (N := t + 1) (I := fun k => AW 5 [some (zR 0 0), some (zI x), some (zI y), some (zI (nI (obTr (fun t => pl w P t i) k))), some (zI (nI k))] [] σ) ?_ (fun k hk ih => ?_) 0 (Nat.zero_le _))
  · refine sX6_trailTo_5 ha ?_
    rw [hy]
    exact zltN (by omega) (by omega) (fun _ => ⟨_, rfl, h⟩) (fun c => absurd c (by omega))
  · refine sX6_trailTo_5 ha ?_
    rw [show (y < nI k) = (nI t < nI k) by rw [hy]]
    refine zltN (by omega) (by omega) (fun c => absurd c (by omega)) (fun _ => m_placeOf hI hr hx rfl hi (by omega) (m_inOut hI hPo (zbr (fun c => ?_) (fun c => m_placeOf hI hr hx rfl hi (by omega) ?_))))
    · rw [obTr_f (f := fun t => pl w P t i) (by simpa using c), c1, nI_add]; exact ih
    · cases e : pl w P k i with
      | none => rw [e] at c; exact absurd c (by decide)
      | some p =>
        rw [e] at c
        have := obTr_t (f := fun t => pl w P t i) e (by simpa [plOut] using c)
        simp only [e] at this
        rw [this, c1, nI_add]; exact ih
theorem x_trailTo {G : zG} {d : Nat} {w : Nat → Nat} {P : obP} {σ : zS} {i t : Nat} {x y : Int32} {K : Int32 → zS → Prop} (hI : obInv w) (hPo : obPok w P) (hr : xRan w P σ) (hx : x = nI i) (hy : y = nI t) (hi : i < w 7) (ht : t ≤ w 0) (h : K (nI (obTr (fun t => pl w P t i) (t + 1))) σ) : zCallI zcl Zx G (d + 1) mX0_trailTo [zR 0 0, zI x, zI y] σ K := by
  refine zmeth VX0_ok pX0_trailTo rfl (by decide) (Nat.le_of_ble_eq_true rfl) (fun AW ha => ?_)
  have hb := hI.b
  refine sX0_trailTo_0 ha (loopN (N := t + 1) (I := fun k => AW 5 [some (zR 0 0), some (zI x), some (zI y), some (zI (nI (obTr (fun t => pl w P t i) k))), some (zI (nI k))] [] σ) ?_ (fun k hk ih => ?_) 0 (Nat.zero_le _))
  · refine sX0_trailTo_5 ha ?_
    rw [hy]
    exact zltN (by omega) (by omega) (fun _ => ⟨_, rfl, h⟩) (fun c => absurd c (by omega))
  · refine sX0_trailTo_5 ha ?_
    rw [show (y < nI k) = (nI t < nI k) by rw [hy]]
    refine zltN (by omega) (by omega) (fun c => absurd c (by omega)) (fun _ => x_hat hI hr hx rfl hi (by omega) (x_inOut hI hPo (zbr (fun c => ?_) (fun c => x_hat hI hr hx rfl hi (by omega) ?_))))
    · rw [obTr_f (f := fun t => pl w P t i) (by simpa using c), c1, nI_add]; exact ih
    · cases e : pl w P k i with
      | none => rw [e] at c; exact absurd c (by decide)
      | some p =>
        rw [e] at c
        have := obTr_t (f := fun t => pl w P t i) e (by simpa [plOut] using c)
        simp only [e] at this
        rw [this, c1, nI_add]; exact ih
def oTrail (w : Nat → Nat) (a : Int32) : Int32 := if wkOk w a then nI (obTr (fun t => pl w (obAs w) t a.toNatClampNeg) (w 0 + 1)) else -2
theorem m_trail {G : zG} {d : Nat} {w : Nat → Nat} {σ : zS} {a : Int32} {K : Int32 → zS → Prop} (hw : wM w σ) (hI : obInv w) (h : ∀ σ', mSc σ σ' → K (oTrail w a) σ') : zCallI zcl Zm G (d + 8) mX6_trail [zR 0 0, zI a] σ K := by
  refine zmeth VX6_ok pX6_trail rfl (by decide) (Nat.le_of_ble_eq_true rfl) (fun AW ha => ?_)
  have hb := hI.b
  refine sX6_trail_0 ha (m_asksWalker hw hI (fun σ1 r1 p1 f1 => ?_))
  have h := h σ1 f1
  unfold oTrail at h
  refine zbr (fun c => ⟨_, rfl, by rw [if_neg c] at h; exact h⟩) (fun c => m_hours (hw.sc f1) ?_)
  rw [if_pos c] at h
  obtain ⟨e, hl⟩ := okN c
  exact m_trailTo hI (obAs_ok hI) r1 e rfl hl (Nat.le_refl _) ⟨_, rfl, h⟩
theorem x_trail {G : zG} {d : Nat} {w : Nat → Nat} {σ : zS} {a : Int32} {K : Int32 → zS → Prop} (hw : wX w σ) (hI : obInv w) (h : ∀ σ', xSc σ σ' → K (oTrail w a) σ') : zCallI zcl Zx G (d + 9) mX0_trail [zR 0 0, zI a] σ K := by
  refine zmeth VX0_ok pX0_trail rfl (by decide) (Nat.le_of_ble_eq_true rfl) (fun AW ha => ?_)
  have hb := hI.b
  unfold oTrail at h
  refine sX0_trail_0 ha (x_isWalker hw hI ?_)
  rw [i64]
  refine zbr (fun c => ⟨_, rfl, by have h := h σ xSc.refl; rw [if_neg c] at h; exact h⟩) (fun c => x_is hw hI (fun σ1 r1 p1 f1 => ?_))
  have h := h σ1 f1
  rw [if_pos c] at h
  obtain ⟨e, hl⟩ := okN c
  exact x_trailTo hI (obAs_ok hI) r1 e (hw.sc f1).2.1.1 hl (Nat.le_refl _) ⟨_, rfl, h⟩
theorem nI_sub1 {k : Nat} : nI (k + 1) - 1 = nI k := by rw [← nI_add]; exact Int32.add_sub_cancel _ _
/-- where he was before and is again -/
def agC (f : Nat → Option Nat) (t : Nat) : Bool := plOut (f t) && (!decide (pI (f (t - 1)) = pI (f t)) && decide (obTr f t / 2 ^ ((f t).getD 0) % 2 = 1))
def oAgain (w : Nat → Nat) (a : Int32) : Int32 := if wkOk w a then nI (obNum (agC (fun t => pl w (obAs w) t a.toNatClampNeg)) (w 0)) else -2
theorem m_again {G : zG} {d : Nat} {w : Nat → Nat} {σ : zS} {a : Int32} {K : Int32 → zS → Prop} (hw : wM w σ) (hI : obInv w) (h : ∀ σ', mSc σ σ' → K (oAgain w a) σ') : zCallI zcl Zm G (d + 8) mX6_again [zR 0 0, zI a] σ K := by
  refine zmeth VX6_ok pX6_again rfl (by decide) (Nat.le_of_ble_eq_true rfl) (fun AW ha => ?_)
  have hb := hI.b
  have hPo := obAs_ok hI
  refine sX6_again_0 ha (m_asksWalker hw hI (fun σ1 r1 p1 f1 => ?_))
  have h := h σ1 f1
  have hw1 := hw.sc f1
  unfold oAgain at h
  refine zbr (fun c => ⟨_, rfl, by rw [if_neg c] at h; exact h⟩) (fun c => ?_)
  rw [if_pos c] at h
  obtain ⟨e, hl⟩ := okN c
  refine loopN (N := w 0) (I := fun k => ∀ o, AW 15 [some (zR 0 0), some (zI a), some (zI (nI (obNum (agC (fun t => pl w (obAs w) t a.toNatClampNeg)) k))), some (zI (nI (k + 1))), o] [] σ1) (fun o => ?_) (fun k hk ih o => ?_) 0 (Nat.zero_le _) none
  · exact sX6_again_15 ha (m_hours hw1 (zltN (by omega) (by omega) (fun _ => ⟨_, rfl, h⟩) (fun c => absurd c (by omega))))
  · refine sX6_again_15 ha (m_hours hw1 (zltN (by omega) (by omega) (fun c => absurd c (by omega)) (fun _ => m_placeOf hI r1 e rfl hl (by omega) (m_inOut hI hPo (zbr (fun c2 => ?_) (fun c2 => ?_))))))
    · rw [obNum_f (c := agC (fun t => pl w (obAs w) t a.toNatClampNeg)) (by simp [agC, c2]), c1, nI_add]; exact ih _
    · rw [nI_sub1]
      refine m_placeOf hI r1 e rfl hl (by omega) ⟨fun c3 => ?_, fun c3 => m_trailTo hI hPo r1 e rfl hl (by omega) ?_⟩
      · rw [obNum_f (c := agC (fun t => pl w (obAs w) t a.toNatClampNeg)) (by simp [agC, c3]), c1, nI_add]; exact ih _
      · cases eq : pl w (obAs w) (k + 1) a.toNatClampNeg with
        | none => rw [eq] at c2; exact absurd c2 (by decide)
        | some p =>
          have ih := ih (some (zI (pI (some p))))
          have hp : p < 10 := by rw [eq] at c2; simpa [plOut] using c2
          rw [eq] at c3
          refine m_bit rfl rfl (Nat.lt_trans (obTr_lt _ _) (by decide)) (by omega) ?_
          rw [c1]
          refine zeqN (Nat.lt_of_lt_of_le (Nat.mod_lt _ (by decide)) (by decide)) (by decide) (fun c4 => ?_) (fun c4 => ?_)
          · have := obNum_t (c := agC (fun t => pl w (obAs w) t a.toNatClampNeg)) (k := k) (by simp [agC, eq, plOut, hp, c3, c4])
            rw [c1] at this
            rw [this, nI_add]; exact ih
          · have := obNum_f (c := agC (fun t => pl w (obAs w) t a.toNatClampNeg)) (k := k) (by simp only [agC, eq, Option.getD_some, c4, decide_false, Bool.and_false])
            rw [this, nI_add]; exact ih
theorem x_again {G : zG} {d : Nat} {w : Nat → Nat} {σ : zS} {a : Int32} {K : Int32 → zS → Prop} (hw : wX w σ) (hI : obInv w) (h : ∀ σ', xSc σ σ' → K (oAgain w a) σ') : zCallI zcl Zx G (d + 9) mX0_again [zR 0 0, zI a] σ K := by
  refine zmeth VX0_ok pX0_again rfl (by decide) (Nat.le_of_ble_eq_true rfl) (fun AW ha => ?_)
  have hb := hI.b
  have hPo := obAs_ok hI
  unfold oAgain at h
  refine sX0_again_0 ha (x_isWalker hw hI ?_)
  rw [i64]
  refine zbr (fun c => ⟨_, rfl, by have h := h σ xSc.refl; rw [if_neg c] at h; exact h⟩) (fun c => x_is hw hI (fun σ1 r1 p1 f1 => ?_))
  have h := h σ1 f1
  have hw1 := hw.sc f1
  rw [if_pos c] at h
  obtain ⟨e, hl⟩ := okN c
  refine loopN (N := w 0) (I := fun k => ∀ o, AW 21 [some (zR 0 0), some (zI a), some (zI (nI (obNum (agC (fun t => pl w (obAs w) t a.toNatClampNeg)) k))), some (zI (nI (k + 1))), o] [] σ1) (fun o => ?_) (fun k hk ih o => ?_) 0 (Nat.zero_le _) none
  · refine sX0_again_21 ha ?_
    rw [hw1.2.1.1]
    exact zltN (by omega) (by omega) (fun _ => ⟨_, rfl, h⟩) (fun c => absurd c (by omega))
  · refine sX0_again_21 ha ?_
    rw [hw1.2.1.1]
    refine zltN (by omega) (by omega) (fun c => absurd c (by omega)) (fun _ => x_hat hI r1 e rfl hl (by omega) (x_inOut hI hPo (zbr (fun c2 => ?_) (fun c2 => ?_))))
    · rw [obNum_f (c := agC (fun t => pl w (obAs w) t a.toNatClampNeg)) (by simp [agC, c2]), c1, nI_add]; exact ih _
    · rw [nI_sub1]
      refine x_hat hI r1 e rfl hl (by omega) ⟨fun c3 => ?_, fun c3 => x_trailTo hI hPo r1 e rfl hl (by omega) ?_⟩
      · rw [obNum_f (c := agC (fun t => pl w (obAs w) t a.toNatClampNeg)) (by simp [agC, c3]), c1, nI_add]; exact ih _
      · cases eq : pl w (obAs w) (k + 1) a.toNatClampNeg with
        | none => rw [eq] at c2; exact absurd c2 (by decide)
        | some p =>
          have ih := ih (some (zI (pI (some p))))
          have hp : p < 10 := by rw [eq] at c2; simpa [plOut] using c2
          rw [eq] at c3
          have c3 : ¬ pI (pl w (obAs w) k a.toNatClampNeg) = pI (some p) := fun q => c3 q.symm
          refine x_isOn rfl rfl (Nat.lt_trans (obTr_lt _ _) (by decide)) (by omega) (zbr (fun c4 => ?_) (fun c4 => ?_))
          · have := obNum_f (c := agC (fun t => pl w (obAs w) t a.toNatClampNeg)) (k := k) (by simp only [agC, eq, Option.getD_some, c4, decide_false, Bool.and_false])
            rw [this, c1, nI_add]; exact ih
          · have := obNum_t (c := agC (fun t => pl w (obAs w) t a.toNatClampNeg)) (k := k) (by simp [agC, eq, plOut, hp, c3, c4])
            rw [this, c1, nI_add]; exact ih
/-- how often he stays where he is -/
def liC (f : Nat → Option Nat) (t : Nat) : Bool := plOut (f t) && decide (pI (f (t - 1)) = pI (f t))
def oLingers (w : Nat → Nat) (a : Int32) : Int32 := if wkOk w a then nI (obNum (liC (fun t => pl w (obAs w) t a.toNatClampNeg)) (w 0)) else -2
theorem m_lingers {G : zG} {d : Nat} {w : Nat → Nat} {σ : zS} {a : Int32} {K : Int32 → zS → Prop} (hw : wM w σ) (hI : obInv w) (h : ∀ σ', mSc σ σ' → K (oLingers w a) σ') : zCallI zcl Zm G (d + 8) mX6_lingers [zR 0 0, zI a] σ K := by
  refine zmeth VX6_ok pX6_lingers rfl (by decide) (Nat.le_of_ble_eq_true rfl) (fun AW ha => ?_)
  have hb := hI.b
  have hPo := obAs_ok hI
  refine sX6_lingers_0 ha (m_asksWalker hw hI (fun σ1 r1 p1 f1 => ?_))
  have h := h σ1 f1
  have hw1 := hw.sc f1
  unfold oLingers at h
  refine zbr (fun c => ⟨_, rfl, by rw [if_neg c] at h; exact h⟩) (fun c => ?_)
  rw [if_pos c] at h
  obtain ⟨e, hl⟩ := okN c
  refine loopN (N := w 0) (I := fun k => AW 15 [some (zR 0 0), some (zI a), some (zI (nI (obNum (liC (fun t => pl w (obAs w) t a.toNatClampNeg)) k))), some (zI (nI (k + 1)))] [] σ1) ?_ (fun k hk ih => ?_) 0 (Nat.zero_le _)
  · exact sX6_lingers_15 ha (m_hours hw1 (zltN (by omega) (by omega) (fun _ => ⟨_, rfl, h⟩) (fun c => absurd c (by omega))))
  · refine sX6_lingers_15 ha (m_hours hw1 (zltN (by omega) (by omega) (fun c => absurd c (by omega)) (fun _ => m_placeOf hI r1 e rfl hl (by omega) (m_inOut hI hPo (zbr (fun c2 => ?_) (fun c2 => ?_))))))
    · rw [obNum_f (c := liC (fun t => pl w (obAs w) t a.toNatClampNeg)) (by simp [liC, c2]), c1, nI_add]; exact ih
    · rw [nI_sub1]
      refine m_placeOf hI r1 e rfl hl (by omega) (m_placeOf hI r1 e rfl hl (by omega) ⟨fun c3 => ?_, fun c3 => ?_⟩)
      · rw [obNum_t (c := liC (fun t => pl w (obAs w) t a.toNatClampNeg)) (by simp [liC, c2, c3]), c1, nI_add]; exact ih
      · rw [obNum_f (c := liC (fun t => pl w (obAs w) t a.toNatClampNeg)) (by simp [liC, c3]), c1, nI_add]; exact ih
theorem x_lingers {G : zG} {d : Nat} {w : Nat → Nat} {σ : zS} {a : Int32} {K : Int32 → zS → Prop} (hw : wX w σ) (hI : obInv w) (h : ∀ σ', xSc σ σ' → K (oLingers w a) σ') : zCallI zcl Zx G (d + 9) mX0_lingers [zR 0 0, zI a] σ K := by
  refine zmeth VX0_ok pX0_lingers rfl (by decide) (Nat.le_of_ble_eq_true rfl) (fun AW ha => ?_)
  have hb := hI.b
  have hPo := obAs_ok hI
  unfold oLingers at h
  refine sX0_lingers_0 ha (x_isWalker hw hI ?_)
  rw [i64]
  refine zbr (fun c => ⟨_, rfl, by have h := h σ xSc.refl; rw [if_neg c] at h; exact h⟩) (fun c => x_is hw hI (fun σ1 r1 p1 f1 => ?_))
  have h := h σ1 f1
  have hw1 := hw.sc f1
  rw [if_pos c] at h
  obtain ⟨e, hl⟩ := okN c
  refine loopN (N := w 0) (I := fun k => AW 21 [some (zR 0 0), some (zI a), some (zI (nI (obNum (liC (fun t => pl w (obAs w) t a.toNatClampNeg)) k))), some (zI (nI (k + 1)))] [] σ1) ?_ (fun k hk ih => ?_) 0 (Nat.zero_le _)
  · refine sX0_lingers_21 ha ?_
    rw [hw1.2.1.1]
    exact zltN (by omega) (by omega) (fun _ => ⟨_, rfl, h⟩) (fun c => absurd c (by omega))
  · refine sX0_lingers_21 ha ?_
    rw [hw1.2.1.1]
    refine zltN (by omega) (by omega) (fun c => absurd c (by omega)) (fun _ => x_hat hI r1 e rfl hl (by omega) (x_inOut hI hPo (zbr (fun c2 => ?_) (fun c2 => ?_))))
    · rw [obNum_f (c := liC (fun t => pl w (obAs w) t a.toNatClampNeg)) (by simp [liC, c2]), c1, nI_add]; exact ih
    · rw [nI_sub1]
      refine x_hat hI r1 e rfl hl (by omega) (x_hat hI r1 e rfl hl (by omega) ⟨fun c3 => ?_, fun c3 => ?_⟩)
      · rw [obNum_t (c := liC (fun t => pl w (obAs w) t a.toNatClampNeg)) (by simp [liC, c2, c3.symm]), c1, nI_add]; exact ih
      · rw [obNum_f (c := liC (fun t => pl w (obAs w) t a.toNatClampNeg)) (by simp [liC]; exact fun _ q => c3 q.symm), c1, nI_add]; exact ih
/-- guests -/
def obGuests (w : Nat → Nat) (P : obP) (t i : Nat) : Nat := obCnt (obHere w P t (nI (10 + i))) 16
theorem obCnt_le (s n : Nat) : obCnt s n ≤ n := by
  induction n with
  | zero => exact Nat.le_refl _
  | succ n ih => have := Nat.mod_lt (s / 2 ^ n) (show 0 < 2 by decide); simp only [obCnt]; omega
theorem m_guestsOf {G : zG} {d : Nat} {w : Nat → Nat} {P : obP} {σ : zS} {i t : Nat} {x y : Int32} {K : Int32 → zS → Prop} (hw : wM w σ) (hI : obInv w) (hr : mRan w P σ) (hx : x = nI i) (hy : y = nI t) (ht : t ≤ w 0) (h : K (nI (obGuests w P t i)) σ) : zCallI zcl Zm G (d + 2) mX6_guestsOf [zR 0 0, zI x, zI y] σ K := by
  refine zmeth VX6_ok pX6_guestsOf rfl (by decide) (Nat.le_of_ble_eq_true rfl) (fun AW ha => ?_)
  have e : (10 : Int32) + x = nI (10 + i) := by rw [hx, c10, nI_add]
  refine sX6_guestsOf_0 ha ?_
  rw [e]
  exact m_hereOf hw hI hr hy ht (m_bits rfl (Nat.lt_trans (obHere_lt hI) (by decide)) ⟨_, rfl, h⟩)
def oGuests (w : Nat → Nat) (a t : Int32) : Int32 := if hrOk w t ∧ inOk w a then nI (obGuests w (obAs w) t.toNatClampNeg a.toNatClampNeg) else -2
theorem m_guests {G : zG} {d : Nat} {w : Nat → Nat} {σ : zS} {a t : Int32} {K : Int32 → zS → Prop} (hw : wM w σ) (hI : obInv w) (h : ∀ σ', mSc σ σ' → K (oGuests w a t) σ') : zCallI zcl Zm G (d + 8) mX6_guests [zR 0 0, zI a, zI t] σ K := by
  refine zmeth VX6_ok pX6_guests rfl (by decide) (Nat.le_of_ble_eq_true rfl) (fun AW ha => ?_)
  have hb := hI.b
  refine sX6_guests_0 ha (m_asksHour hw hI (fun σ1 r1 p1 f1 => ?_))
  have h := h σ1 f1
  unfold oGuests at h
  refine zbr (fun c => ⟨_, rfl, by rw [if_neg (fun q => c q.1)] at h; exact h⟩) (fun c => m_isInn (hw.sc f1) hI ?_)
  rw [i64]
  refine zbr (fun c2 => ⟨_, rfl, by rw [if_neg (fun q => c2 q.2)] at h; exact h⟩) (fun c2 => ?_)
  obtain ⟨e, hl⟩ := okH hI c
  obtain ⟨e2, hl2⟩ := okN c2
  rw [if_pos ⟨c, c2⟩] at h
  exact m_guestsOf (hw.sc f1) hI r1 e2 e hl ⟨_, rfl, h⟩
theorem x_guests {G : zG} {d : Nat} {w : Nat → Nat} {σ : zS} {a t : Int32} {K : Int32 → zS → Prop} (hw : wX w σ) (hI : obInv w) (h : ∀ σ', xSc σ σ' → K (oGuests w a t) σ') : zCallI zcl Zx G (d + 9) mX0_guests [zR 0 0, zI a, zI t] σ K := by
  refine zmeth VX0_ok pX0_guests rfl (by decide) (Nat.le_of_ble_eq_true rfl) (fun AW ha => ?_)
  have hb := hI.b
  have h0 := h σ xSc.refl
  unfold oGuests at h0 h
  refine sX0_guests_0 ha (x_isInn hw hI (zbr (fun c => ⟨_, rfl, by rw [if_neg (fun q => c q.2)] at h0; exact h0⟩) (fun c => x_isHour hw hI ?_)))
  rw [i64]
  refine zbr (fun c2 => ⟨_, rfl, by rw [if_neg (fun q => c2 q.1)] at h0; exact h0⟩) (fun c2 => x_is hw hI (fun σ1 r1 p1 f1 => ?_))
  have h := h σ1 f1
  obtain ⟨e, hl⟩ := okH hI c2
  obtain ⟨e2, hl2⟩ := okN c
  rw [if_pos ⟨c2, c⟩] at h
  have e3 : (10 : Int32) + a = nI (10 + a.toNatClampNeg) := by rw [c10, ← nI_add, ← e2]
  rw [e3]
  exact x_hereIn (hw.sc f1) hI r1 e hl (x_size rfl (obHere_lt hI) ⟨_, rfl, h⟩)
/-- the first hour in which it is full -/
def oFull (w : Nat → Nat) (a : Int32) : Int32 := if inOk w a then pI (obFst (fun t => decide (obGuests w (obAs w) t a.toNatClampNeg = obRoom w a.toNatClampNeg)) (w 0 + 1) 0) else -2
theorem m_full {G : zG} {d : Nat} {w : Nat → Nat} {σ : zS} {a : Int32} {K : Int32 → zS → Prop} (hw : wM w σ) (hI : obInv w) (h : ∀ σ', mSc σ σ' → K (oFull w a) σ') : zCallI zcl Zm G (d + 8) mX6_full [zR 0 0, zI a] σ K := by
  refine zmeth VX6_ok pX6_full rfl (by decide) (Nat.le_of_ble_eq_true rfl) (fun AW ha => ?_)
  have hb := hI.b
  refine sX6_full_0 ha (m_asksHeath hw hI (fun σ1 r1 p1 f1 => m_isInn (hw.fr f1) hI ?_))
  have h := h σ1 f1.wk
  have hw1 : wM w σ1 := hw.fr f1
  unfold oFull at h
  rw [i64]
  refine zbr (fun c => ⟨_, rfl, by rw [if_neg c] at h; exact h⟩) (fun c => ?_)
  rw [if_pos c] at h
  obtain ⟨e, hl⟩ := okN c
  have e3 : (10 : Int32) + a = nI (10 + a.toNatClampNeg) := by rw [c10, ← nI_add, ← e]
  refine loopF (N := w 0 + 1) (K := fun q => K (pI q) σ1) (I := fun k => AW 19 [some (zR 0 0), some (zI a), some (zI (nI k))] [] σ1) h (fun h1 => ?_) (fun k hk h1 h2 => ?_)
  · exact sX6_full_19 ha (m_hours hw1 (zltN (by omega) (by omega) (fun _ => ⟨_, rfl, h1⟩) (fun c => absurd c (by omega))))
  · refine sX6_full_19 ha (m_hours hw1 (zltN (by omega) (by omega) (fun c => absurd c (by omega)) (fun _ => m_guestsOf hw1 hI r1 e rfl (by omega) ⟨zix _ e3 (by omega), ?_⟩)))
    rw [zcl_n _ e3, hw1 _ (by omega)]
    have h9 := hI.room (i := a.toNatClampNeg) (by omega)
    have h16 : obGuests w (obAs w) k a.toNatClampNeg ≤ 16 := obCnt_le _ _
    refine zeqN (by omega) (by unfold obRoom at h9; omega) (fun c2 => ⟨_, rfl, h1 (decide_eq_true c2)⟩) (fun c2 => ?_)
    rw [c1, nI_add]; exact h2 (decide_eq_false c2)
theorem x_full {G : zG} {d : Nat} {w : Nat → Nat} {σ : zS} {a : Int32} {K : Int32 → zS → Prop} (hw : wX w σ) (hI : obInv w) (h : ∀ σ', xSc σ σ' → K (oFull w a) σ') : zCallI zcl Zx G (d + 9) mX0_full [zR 0 0, zI a] σ K := by
  refine zmeth VX0_ok pX0_full rfl (by decide) (Nat.le_of_ble_eq_true rfl) (fun AW ha => ?_)
  have hb := hI.b
  unfold oFull at h
  refine sX0_full_0 ha (x_isInn hw hI (zbr (fun c => ⟨_, rfl, by have h := h σ xSc.refl; rw [if_neg c] at h; exact h⟩) (fun c => x_is hw hI (fun σ1 r1 p1 f1 => ?_))))
  have h := h σ1 f1
  have hw1 := hw.sc f1
  rw [if_pos c] at h
  obtain ⟨e, hl⟩ := okN c
  have e3 : (10 : Int32) + a = nI (10 + a.toNatClampNeg) := by rw [c10, ← nI_add, ← e]
  refine loopF (N := w 0 + 1) (K := fun q => K (pI q) σ1) (I := fun k => AW 18 [some (zR 0 0), some (zI a), some (zI (nI k))] [] σ1) h (fun h1 => ?_) (fun k hk h1 h2 => ?_)
  · refine sX0_full_18 ha ?_
    rw [hw1.2.1.1]
    exact zltN (by omega) (by omega) (fun _ => ⟨_, rfl, h1⟩) (fun c => absurd c (by omega))
  · refine sX0_full_18 ha ?_
    rw [hw1.2.1.1, e3]
    refine zltN (by omega) (by omega) (fun c => absurd c (by omega)) (fun _ => x_hereIn hw1 hI r1 rfl (by omega) (x_size rfl (obHere_lt hI) ⟨zix _ e (by omega), ?_⟩))
    rw [hw1.2.2.2.1 _ (by omega)]
    have h9 := hI.room (i := a.toNatClampNeg) (by omega)
    have h16 : obGuests w (obAs w) k a.toNatClampNeg ≤ 16 := obCnt_le _ _
    refine zeqN (Nat.lt_of_le_of_lt h16 (by decide)) (by omega) (fun c2 => ⟨_, rfl, h1 (decide_eq_true c2)⟩) (fun c2 => ?_)
    rw [c1, nI_add]; exact h2 (decide_eq_false c2)
/-- who is within -/
def obIns (w : Nat → Nat) (P : obP) (t : Nat) : Nat := obSet (fun i => plIn (pl w P t i)) (w 7)
theorem obIns_lt {w : Nat → Nat} {P : obP} {t : Nat} (hI : obInv w) : obIns w P t < 256 :=
  Nat.lt_of_lt_of_le (obSet_lt _ _) (show 2 ^ w 7 ≤ 2 ^ 8 from Nat.pow_le_pow_right (by decide) (by have := hI.b; omega))
theorem m_insideAt {G : zG} {d : Nat} {w : Nat → Nat} {P : obP} {σ : zS} {t : Nat} {y : Int32} {K : Int32 → zS → Prop} (hw : wM w σ) (hI : obInv w) (hPo : obPok w P) (hr : mRan w P σ) (hy : y = nI t) (ht : t ≤ w 0) (h : K (nI (obIns w P t)) σ) : zCallI zcl Zm G (d + 2) mX6_insideAt [zR 0 0, zI y] σ K := by
  refine zmeth VX6_ok pX6_insideAt rfl (by decide) (Nat.le_of_ble_eq_true rfl) (fun AW ha => ?_)
  have hb := hI.b
  refine sX6_insideAt_0 ha (loopN (N := w 7) (I := fun k => AW 4 [some (zR 0 0), some (zI y), some (zI (nI (obSet (fun i => plIn (pl w P t i)) k))), some (zI (nI k))] [] σ) ?_ (fun k hk ih => ?_) 0 (Nat.zero_le _))
  · exact sX6_insideAt_4 ha (m_walkers hw (zltN (by omega) (by omega) (fun c => absurd c (by omega)) (fun _ => ⟨_, rfl, h⟩)))
  · refine sX6_insideAt_4 ha (m_walkers hw (zltN (by omega) (by omega) (fun _ => m_isInside hI hPo hr rfl hy hk ht (zbr (fun c => ?_) (fun c => ?_))) (fun c => absurd hk (Nat.not_lt.mpr c))))
    · rw [obSet_f (c := fun i => plIn (pl w P t i)) (by simpa using c), c1, nI_add]; exact ih
    · rw [obSet_t (c := fun i => plIn (pl w P t i)) c (by omega), c1, nI_add]; exact ih
theorem x_inside {G : zG} {d : Nat} {w : Nat → Nat} {P : obP} {σ : zS} {t : Nat} {y : Int32} {K : Int32 → zS → Prop} (hw : wX w σ) (hI : obInv w) (hPo : obPok w P) (hr : xRan w P σ) (hy : y = nI t) (ht : t ≤ w 0) (h : K (nI (obIns w P t)) σ) : zCallI zcl Zx G (d + 2) mX3_inside [zR 2 0, zI y] σ K := by
  refine zmeth VX3_ok pX3_inside rfl (by decide) (Nat.le_of_ble_eq_true rfl) (fun AW ha => ?_)
  have hb := hI.b
  refine sX3_inside_0 ha (loopN (N := w 7) (I := fun k => AW 4 [some (zR 2 0), some (zI y), some (zI (nI (obSet (fun i => plIn (pl w P t i)) k))), some (zI (nI k))] [] σ) ?_ (fun k hk ih => ?_) 0 (Nat.zero_le _))
  · exact sX3_inside_4 ha (x_many hw (zltN (by omega) (by omega) (fun c => absurd c (by omega)) (fun _ => ⟨_, rfl, h⟩)))
  · refine sX3_inside_4 ha (x_many hw (zltN (by omega) (by omega) (fun _ => x_hat hI hr rfl hy hk ht (zpl10 (pl31 hI hPo) (fun c => ?_) (fun c => ?_))) (fun c => absurd hk (Nat.not_lt.mpr c))))
    · rw [obSet_f (c := fun i => plIn (pl w P t i)) c, c1, nI_add]; exact ih
    · rw [obSet_t (c := fun i => plIn (pl w P t i)) c (by omega), c1, nI_add]; exact ih
def oInside (w : Nat → Nat) (t : Int32) : Int32 := if hrOk w t then nI (obIns w (obAs w) t.toNatClampNeg) else -2
theorem m_inside {G : zG} {d : Nat} {w : Nat → Nat} {σ : zS} {t : Int32} {K : Int32 → zS → Prop} (hw : wM w σ) (hI : obInv w) (h : ∀ σ', mSc σ σ' → K (oInside w t) σ') : zCallI zcl Zm G (d + 8) mX6_inside [zR 0 0, zI t] σ K := by
  refine zmeth VX6_ok pX6_inside rfl (by decide) (Nat.le_of_ble_eq_true rfl) (fun AW ha => ?_)
  refine sX6_inside_0 ha (m_asksHour hw hI (fun σ1 r1 p1 f1 => ?_))
  have h := h σ1 f1
  unfold oInside at h
  refine zbr (fun c => ⟨_, rfl, by rw [if_neg c] at h; exact h⟩) (fun c => ?_)
  rw [if_pos c] at h
  obtain ⟨e, hl⟩ := okH hI c
  exact m_insideAt (hw.sc f1) hI (obAs_ok hI) r1 e hl ⟨_, rfl, h⟩
theorem x_insideQ {G : zG} {d : Nat} {w : Nat → Nat} {σ : zS} {t : Int32} {K : Int32 → zS → Prop} (hw : wX w σ) (hI : obInv w) (h : ∀ σ', xSc σ σ' → K (oInside w t) σ') : zCallI zcl Zx G (d + 9) mX0_inside [zR 0 0, zI t] σ K := by
  refine zmeth VX0_ok pX0_inside rfl (by decide) (Nat.le_of_ble_eq_true rfl) (fun AW ha => ?_)
  unfold oInside at h
  refine sX0_inside_0 ha (x_isHour hw hI ?_)
  rw [i64]
  refine zbr (fun c => ⟨_, rfl, by have h := h σ xSc.refl; rw [if_neg c] at h; exact h⟩) (fun c => x_is hw hI (fun σ1 r1 p1 f1 => ?_))
  have h := h σ1 f1
  rw [if_pos c] at h
  obtain ⟨e, hl⟩ := okH hI c
  exact x_inside (hw.sc f1) hI (obAs_ok hI) r1 e hl ⟨_, rfl, h⟩
def oOutside (w : Nat → Nat) (t : Int32) : Int32 := if hrOk w t then nI (obSet (fun i => plOut (pl w (obAs w) t.toNatClampNeg i)) (w 7)) else -2
theorem m_outside {G : zG} {d : Nat} {w : Nat → Nat} {σ : zS} {t : Int32} {K : Int32 → zS → Prop} (hw : wM w σ) (hI : obInv w) (h : ∀ σ', mSc σ σ' → K (oOutside w t) σ') : zCallI zcl Zm G (d + 8) mX6_outside [zR 0 0, zI t] σ K := by
  refine zmeth VX6_ok pX6_outside rfl (by decide) (Nat.le_of_ble_eq_true rfl) (fun AW ha => ?_)
  have hb := hI.b
  have hPo := obAs_ok hI
  refine sX6_outside_0 ha (m_asksHour hw hI (fun σ1 r1 p1 f1 => ?_))
  have h := h σ1 f1
  have hw1 := hw.sc f1
  unfold oOutside at h
  refine zbr (fun c => ⟨_, rfl, by rw [if_neg c] at h; exact h⟩) (fun c => ?_)
  rw [if_pos c] at h
  obtain ⟨e, hl⟩ := okH hI c
  refine loopN (N := w 7) (I := fun k => AW 15 [some (zR 0 0), some (zI t), some (zI (nI (obSet (fun i => plOut (pl w (obAs w) t.toNatClampNeg i)) k))), some (zI (nI k))] [] σ1) ?_ (fun k hk ih => ?_) 0 (Nat.zero_le _)
  · exact sX6_outside_15 ha (m_walkers hw1 (zltN (by omega) (by omega) (fun c => absurd c (by omega)) (fun _ => ⟨_, rfl, h⟩)))
  · refine sX6_outside_15 ha (m_walkers hw1 (zltN (by omega) (by omega) (fun _ => m_placeOf hI r1 rfl e hk hl (m_inOut hI hPo (zbr (fun c => ?_) (fun c => ?_)))) (fun c => absurd hk (Nat.not_lt.mpr c))))
    · rw [obSet_f (c := fun i => plOut (pl w (obAs w) t.toNatClampNeg i)) (by simpa using c), c1, nI_add]; exact ih
    · rw [obSet_t (c := fun i => plOut (pl w (obAs w) t.toNatClampNeg i)) c (by omega), c1, nI_add]; exact ih
theorem x_outside {G : zG} {d : Nat} {w : Nat → Nat} {σ : zS} {t : Int32} {K : Int32 → zS → Prop} (hw : wX w σ) (hI : obInv w) (h : ∀ σ', xSc σ σ' → K (oOutside w t) σ') : zCallI zcl Zx G (d + 9) mX0_outside [zR 0 0, zI t] σ K := by
  refine zmeth VX0_ok pX0_outside rfl (by decide) (Nat.le_of_ble_eq_true rfl) (fun AW ha => ?_)
  have hb := hI.b
  have hPo := obAs_ok hI
  unfold oOutside at h
  refine sX0_outside_0 ha (x_isHour hw hI ?_)
  rw [i64]
  refine zbr (fun c => ⟨_, rfl, by have h := h σ xSc.refl; rw [if_neg c] at h; exact h⟩) (fun c => x_is hw hI (fun σ1 r1 p1 f1 => ?_))
  have h := h σ1 f1
  have hw1 := hw.sc f1
  rw [if_pos c] at h
  obtain ⟨e, hl⟩ := okH hI c
  refine loopN (N := w 7) (I := fun k => AW 21 [some (zR 0 0), some (zI t), some (zI (nI (obSet (fun i => plOut (pl w (obAs w) t.toNatClampNeg i)) k))), some (zI (nI k))] [] σ1) ?_ (fun k hk ih => ?_) 0 (Nat.zero_le _)
  · exact sX0_outside_21 ha (x_many hw1 (zltN (by omega) (by omega) (fun c => absurd c (by omega)) (fun _ => ⟨_, rfl, h⟩)))
  · refine sX0_outside_21 ha (x_many hw1 (zltN (by omega) (by omega) (fun _ => x_hat hI r1 rfl e hk hl (x_inOut hI hPo (zbr (fun c => ?_) (fun c => ?_)))) (fun c => absurd hk (Nat.not_lt.mpr c))))
    · rw [obSet_f (c := fun i => plOut (pl w (obAs w) t.toNatClampNeg i)) (by simpa using c), c1, nI_add]; exact ih
    · rw [obSet_t (c := fun i => plOut (pl w (obAs w) t.toNatClampNeg i)) c (by omega), c1, nI_add]; exact ih
