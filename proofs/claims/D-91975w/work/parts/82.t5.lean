/-! WHAT WAS SEEN: may, ask, leaves, laws -/
/-- how many below n -/
def obCo (c : Nat → Bool) : Nat → Nat
  | 0 => 0
  | n + 1 => obCo c n + (if c n = true then 1 else 0)
theorem obCo_le (c : Nat → Bool) (n : Nat) : obCo c n ≤ n := by
  induction n with
  | zero => exact Nat.le_refl _
  | succ n ih => unfold obCo; split <;> omega
def slMay (w : Nat → Nat) (q : obQ) (p : Nat) : Nat := obSet (fun k => slSo w (obWith w p k) q) (obMany w p)
def slEq (w : Nat → Nat) (p s t i a b : Nat) : Bool := decide (s / 2 ^ a % 2 = 1 ∧ s / 2 ^ b % 2 = 1 ∧ pl w (obWith w p a) t i = pl w (obWith w p b) t i)
def slWorst (w : Nat → Nat) (p s t i : Nat) : Nat := obMax (fun a => obCo (slEq w p s t i a) 4) 4
def slAskS (w : Nat → Nat) (p s i t : Nat) (r : Option Nat × Nat) : Option Nat × Nat := if slWorst w p s t i < r.2 then (some (100 * i + t), slWorst w p s t i) else r
def slAskH (w : Nat → Nat) (p s i : Nat) : Nat → Option Nat × Nat → Option Nat × Nat
  | 0, r => r
  | t + 1, r => slAskS w p s i t (slAskH w p s i t r)
def slAskW (w : Nat → Nat) (p s : Nat) : Nat → Option Nat × Nat
  | 0 => (none, obCnt s 16)
  | i + 1 => slAskH w p s i (w 0 + 1) (slAskW w p s i)
def slAsk (w : Nat → Nat) (p s : Nat) : Option Nat × Nat := slAskW w p s (w 7)
theorem slWorst_le {w : Nat → Nat} {p s t i : Nat} : slWorst w p s t i ≤ 4 := obMax_le (fun k => obCo_le _ 4) 4
theorem slAskS_b {w : Nat → Nat} {p s i t : Nat} {r : Option Nat × Nat} (h : r.2 ≤ 16 ∧ ∀ x, r.1 = some x → x < 2 ^ 31) (hi : i < 8) (ht : t ≤ 16) : (slAskS w p s i t r).2 ≤ 16 ∧ ∀ x, (slAskS w p s i t r).1 = some x → x < 2 ^ 31 := by
  unfold slAskS
  have := slWorst_le (w := w) (p := p) (s := s) (t := t) (i := i)
  split
  · exact ⟨by show slWorst w p s t i ≤ 16; omega, fun x e => by cases e; omega⟩
  · exact h
theorem slAskH_b {w : Nat → Nat} {p s i : Nat} {r : Option Nat × Nat} (h : r.2 ≤ 16 ∧ ∀ x, r.1 = some x → x < 2 ^ 31) (hi : i < 8) : ∀ t, t ≤ 17 → (slAskH w p s i t r).2 ≤ 16 ∧ ∀ x, (slAskH w p s i t r).1 = some x → x < 2 ^ 31 := by
  intro t
  induction t with
  | zero => intro _; exact h
  | succ t ih => intro ht; exact slAskS_b (ih (by omega)) hi (by omega)
theorem slAskW_b {w : Nat → Nat} {p s : Nat} (h0 : w 0 ≤ 16) : ∀ i, i ≤ 8 → (slAskW w p s i).2 ≤ 16 ∧ ∀ x, (slAskW w p s i).1 = some x → x < 2 ^ 31 := by
  intro i
  induction i with
  | zero => intro _; exact ⟨obCnt_le s 16, fun x e => by cases e⟩
  | succ i ih => intro hi; exact slAskH_b (ih (by omega)) (by omega) _ (by omega)
/-- the places of all walkers and hours behind the roads told so far -/
def mBy (w : Nat → Nat) (p k t i : Nat) (σ : zS) : Prop := ∀ k' t' i', i' < w 7 → t' ≤ w 0 → (k' < k ∨ (k' = k ∧ (t' < t ∨ (t' = t ∧ i' < i)))) → gA σ 31 0 ((k' * 17 + t') * 8 + i') = pI (pl w (obWith w p k') t' i')
section TOO
variable {G : zG} {d : Nat} {S : oZ} {σ : zS} {w : Nat → Nat} {q : obQ} {s : Nat}
theorem m_cellOf {k t i : Nat} {x y z : Int32} {K : Int32 → zS → Prop} (hx : x = nI k) (hy : y = nI i) (hz : z = nI t) (h : K (nI ((k * 17 + t) * 8 + i)) σ) : zCallI zcl Zm G d mX6_cellOf [zI x, zI y, zI z] σ K := by
  refine zmeth VX6_ok pX6_cellOf rfl (by decide) (Nat.le_of_ble_eq_true rfl) (fun AW hA => ?_)
  refine sX6_cellOf_0 hA ⟨_, rfl, ?_⟩
  rw [hx, hy, hz, show (17 : Int32) = nI 17 from rfl, c8, pk_mul, nI_add, pk_mul, nI_add]
  exact h
theorem m_mayOf {p : Nat} {x y : Int32} {K : Int32 → zS → Prop} (hw : wM w σ) (hI : obInv w) (hP : mPar (obAs w) σ) (hx : x = nI s) (hs : s < 4) (hq : mSl1 s σ (some q)) (hn : q.2.1 ≤ 60) (hy : slWhyQ w q = 0) (hp : y = nI p) (hp4 : p < w 4) (hK : ∀ σ', mBy w p (obMany w p) 0 0 σ' → mSc σ σ' → K (nI (slMay w q p)) σ') : zCallI zcl Zm G (d + 7) mX6_mayOf [zR 0 0, zI x, zI y] σ K := by
  refine zmeth VX6_ok pX6_mayOf rfl (by decide) (Nat.le_of_ble_eq_true rfl) (fun AW hA => ?_)
  have hb := hI.b
  have h4 := hI.many (show p < 7 by omega)
  refine sX6_mayOf_0 hA ?_
  have fq : ∀ σ2, mSc σ σ2 → mSl1 s σ2 (some q) := fun σ2 f => by
    unfold mSl1 at hq ⊢
    rw [f.A 37, f.A 38, f.B 39]; exact hq
  -- roads
  have L5 : ∀ m k (o5 o6 : Option zV) (σ2 : zS), k + m = obMany w p → mSc σ σ2 → (∃ v, mPar (obWith w p v) σ2) → mBy w p k 0 0 σ2 → AW 5 [some (zR 0 0), some (zI x), some (zI y), some (zI (nI (obSet (fun k => slSo w (obWith w p k) q) k))), some (zI (nI k)), o5, o6] [] σ2 := by
    intro m
    induction m with
    | zero =>
      intro k o5 o6 σ2 hk hf hv hB
      obtain rfl : k = obMany w p := by omega
      refine sX6_mayOf_5 hA (m_roadMany (hw.sc hf) hp (by omega) ?_)
      exact zltN (by omega) (by omega) (fun z => absurd z (by omega)) (fun _ => ⟨_, rfl, hK σ2 hB hf⟩)
    | succ m ih =>
      intro k o5 o6 σ2 hk hf hv hB
      refine sX6_mayOf_5 hA (m_roadMany (hw.sc hf) hp (by omega) ?_)
      refine zltN (by omega) (by omega) (fun _ => ⟨zix _ hp (by omega), ?_⟩) (fun z => absurd z (by omega))
      rw [zcl_n _ hp]
      obtain ⟨v, hv⟩ := hv
      have hPo := obWith_ok hI (show k < obMany w p by omega)
      have g3 : mSc σ (uA σ2 15 0 (upd (gA σ2 15 0) p (nI k))) := zFr.uA hf 15 _
      have hP3 : mPar (obWith w p k) (uA σ2 15 0 (upd (gA σ2 15 0) p (nI k))) := by
        refine ⟨hv.1, hv.2.1, hv.2.2.1, fun j hj => ?_, hv.2.2.2.2⟩
        show upd (gA σ2 15 0) p (nI k) j = nI (fU (obArm w) p k j)
        by_cases z : j = p
        · subst z; rw [pk_us, fU_s]
        · rw [pk_un z, fU_n z]
          have := hv.2.2.2.1 j hj
          rw [this]
          show nI (fU (obArm w) p v j) = _
          rw [fU_n z]
      -- walkers of an hour
      have L57 : ∀ (b : Int32) m2 t i (σ3 : zS), i + m2 = w 7 → t ≤ w 0 → mSc σ σ3 → mRan w (obWith w p k) σ3 → mPar (obWith w p k) σ3 → mBy w p k t i σ3 → (∀ (σ4 : zS), mSc σ σ4 → mRan w (obWith w p k) σ4 → mPar (obWith w p k) σ4 → mBy w p k (t + 1) 0 σ4 → ∀ o6, AW 45 [some (zR 0 0), some (zI x), some (zI y), some (zI b), some (zI (nI k)), some (zI (nI (t + 1))), o6] [] σ4) → AW 57 [some (zR 0 0), some (zI x), some (zI y), some (zI b), some (zI (nI k)), some (zI (nI t)), some (zI (nI i))] [] σ3 := by
        intro b m2
        induction m2 with
        | zero =>
          intro t i σ3 hi ht hf3 hr3 hp3 hB3 nx
          obtain rfl : i = w 7 := by omega
          refine sX6_mayOf_57 hA (m_walkers (hw.sc hf3) ?_)
          refine zltN (by omega) (by omega) (fun z => absurd z (by omega)) (fun _ => ?_)
          rw [c1, nI_add]
          refine nx σ3 hf3 hr3 hp3 (fun k' t' i' hi' ht' hh => hB3 k' t' i' hi' ht' (by omega)) _
        | succ m2 ih2 =>
          intro t i σ3 hi ht hf3 hr3 hp3 hB3 nx
          refine sX6_mayOf_57 hA (m_walkers (hw.sc hf3) ?_)
          refine zltN (by omega) (by omega) (fun _ => ?_) (fun z => absurd z (by omega))
          refine m_cellOf (k := k) (t := t) (i := i) rfl rfl rfl (m_placeOf hI hr3 (i := i) (t := t) rfl rfl (by omega) ht ⟨zix _ rfl (by omega), ?_⟩)
          rw [zcl_n _ rfl, c1, nI_add]
          have f4 : zFr [] [] [31] [] σ3 (uA σ3 31 0 (upd (gA σ3 31 0) ((k * 17 + t) * 8 + i) (pI (pl w (obWith w p k) t i)))) := zFr.refl.uA 31 _
          refine ih2 t (i + 1) _ (by omega) ht (hf3.trans f4.wk) (hr3.fr f4) (hp3.fr f4) (fun k' t' i' hi' ht' hh => ?_) nx
          show upd (gA σ3 31 0) ((k * 17 + t) * 8 + i) _ ((k' * 17 + t') * 8 + i') = _
          by_cases z : k' = k ∧ t' = t ∧ i' = i
          · obtain ⟨rfl, rfl, rfl⟩ := z; rw [pk_us]
          · rw [pk_un (by omega)]
            exact hB3 k' t' i' hi' ht' (by omega)
      -- hours
      have L45 : ∀ (c : Bool) m2 t (o6 : Option zV) (σ3 : zS), slSo w (obWith w p k) q = c → t + m2 = w 0 + 1 → mSc σ σ3 → mRan w (obWith w p k) σ3 → mPar (obWith w p k) σ3 → mBy w p k t 0 σ3 → AW 45 [some (zR 0 0), some (zI x), some (zI y), some (zI (nI (obSet (fun k => slSo w (obWith w p k) q) (k + 1)))), some (zI (nI k)), some (zI (nI t)), o6] [] σ3 := by
        intro c m2
        induction m2 with
        | zero =>
          intro t o6 σ3 hc ht hf3 hr3 hp3 hB3
          obtain rfl : t = w 0 + 1 := by omega
          refine sX6_mayOf_45 hA (m_hours (hw.sc hf3) ?_)
          refine zltN (by omega) (by omega) (fun _ => ?_) (fun z => absurd z (by omega))
          rw [c1, nI_add]
          exact ih (k + 1) _ _ σ3 (by omega) hf3 ⟨k, hp3⟩ (fun k' t' i' hi' ht' hh => hB3 k' t' i' hi' ht' (by omega))
        | succ m2 ih2 =>
          intro t o6 σ3 hc ht hf3 hr3 hp3 hB3
          refine sX6_mayOf_45 hA (m_hours (hw.sc hf3) ?_)
          refine zltN (by omega) (by omega) (fun z => absurd z (by omega)) (fun _ => ?_)
          exact L57 _ (w 7) t 0 σ3 (by omega) (by omega) hf3 hr3 hp3 hB3 (fun σ4 q1 q2 q3 q4 o => ih2 (t + 1) o σ4 hc (by omega) q1 q2 q3 q4)
      refine m_isSeen (hw.sc g3) hI hP3 hPo hx hs (fq _ g3) hn hy (fun σ4 r4 p4 f4 => ?_)
      have hB4 : mBy w p k 0 0 σ4 := by
        intro k' t' i' hi' ht' hh
        rw [f4.A 31]
        exact hB k' t' i' hi' ht' hh
      have f4 : mSc (uA σ2 15 0 (upd (gA σ2 15 0) p (nI k))) σ4 := f4.wk
      refine zbr (fun c => ?_) (fun c => ?_)
      · rw [obSet_f (c := fun k => slSo w (obWith w p k) q) (k := k) (by simpa using c)]
        exact L45 _ (w 0 + 1) 0 _ σ4 rfl (by omega) (g3.trans f4) r4 p4 hB4
      · rw [obSet_t (c := fun k => slSo w (obWith w p k) q) (k := k) c (by omega)]
        exact L45 _ (w 0 + 1) 0 _ σ4 rfl (by omega) (g3.trans f4) r4 p4 hB4
  exact L5 (obMany w p) 0 _ _ σ (by omega) mSc.refl ⟨obArm w p, hP.1, hP.2.1, hP.2.2.1, fun j hj => by
    rw [hP.2.2.2.1 j hj]
    show nI (obArm w j) = nI (fU (obArm w) p (obArm w p) j)
    by_cases z : j = p
    · subst z; rw [fU_s]
    · rw [fU_n z], hP.2.2.2.2⟩ (fun k' t' i' hi' ht' hh => absurd hh (by omega))
theorem m_askMay {a b : Int32} {K : Int32 → zS → Prop} (h : mZ S σ) (hS : oOk S) (hK : ∀ σ', mSc σ σ' → ((if poOk S.1 b then slWhy S a else -2) = 0 → mPar (obAs S.1) σ') → K (if poOk S.1 b then slWhy S a else -2) σ') : zCallI zcl Zm G (d + 4) mX6_askMay [zR 0 0, zI a, zI b] σ K := by
  refine zmeth VX6_ok pX6_askMay rfl (by decide) (Nat.le_of_ble_eq_true rfl) (fun AW hA => ?_)
  refine sX6_askMay_0 hA (m_isPost h.1 hS.1 ?_)
  rw [i64]
  refine zbr (c := poOk S.1 b) (fun c => ⟨_, rfl, ?_⟩) (fun c => m_askSeen h hS (fun σ1 f1 p1 => ⟨_, rfl, ?_⟩))
  · rw [if_neg c] at hK; exact hK σ mSc.refl (fun q => absurd q (by decide))
  · rw [if_pos c] at hK; exact hK σ1 f1 p1
theorem slWhy_or (S : oZ) (a : Int32) : slWhy S a = 0 ∨ slWhy S a = -2 ∨ slWhy S a = -6 := by
  unfold slWhy
  split
  · split
    · exact Or.inr (Or.inr rfl)
    · unfold slWhyQ
      split
      · split
        · exact Or.inl rfl
        · exact Or.inr (Or.inl rfl)
      · exact Or.inr (Or.inl rfl)
  · exact Or.inr (Or.inl rfl)
theorem slWhy_q {S : oZ} {a : Int32} (h : slWhy S a = 0) : (slIs a ∧ 0 < S.1 9) ∧ ∃ q, S.2.2.2.2.2 a.toNatClampNeg = some q ∧ slWhyQ S.1 q = 0 := by
  unfold slWhy at h
  by_cases c : slIs a ∧ 0 < S.1 9
  · rw [if_pos c] at h
    refine ⟨c, ?_⟩
    cases e : S.2.2.2.2.2 a.toNatClampNeg with
    | none => rw [e] at h; exact absurd (show (-6 : Int32) = 0 from h) (by decide)
    | some q => rw [e] at h; exact ⟨q, rfl, h⟩
  · rw [if_neg c] at h; exact absurd h (by decide)
abbrev slMayQ (S : oZ) (a b : Int32) : Int32 := if poOk S.1 b then slWhy S a else -2
theorem slMayQ_n {S : oZ} {a b : Int32} : (slMayQ S a b < 0 ∧ ¬ slMayQ S a b = 0) ∨ (slMayQ S a b = 0 ∧ poOk S.1 b ∧ slWhy S a = 0) := by
  unfold slMayQ
  by_cases c : poOk S.1 b
  · rw [if_pos c]
    rcases slWhy_or S a with e | e | e
    · exact Or.inr ⟨e, c, e⟩
    · rw [e]; exact Or.inl (by decide)
    · rw [e]; exact Or.inl (by decide)
  · rw [if_neg c]; exact Or.inl (by decide)
def slQ (S : oZ) (a : Int32) : obQ := (S.2.2.2.2.2 a.toNatClampNeg).getD (0, 0, fun _ => 0)
def oMay (S : oZ) (a b : Int32) : Int32 := if slMayQ S a b = 0 then nI (slMay S.1 (slQ S a) b.toNatClampNeg) else slMayQ S a b
def oAsk (S : oZ) (a b : Int32) : Int32 := if slMayQ S a b = 0 then pI (slAsk S.1 b.toNatClampNeg (slMay S.1 (slQ S a) b.toNatClampNeg)).1 else slMayQ S a b
def oLeaves (S : oZ) (a b : Int32) : Int32 := if slMayQ S a b = 0 then nI (slAsk S.1 b.toNatClampNeg (slMay S.1 (slQ S a) b.toNatClampNeg)).2 else slMayQ S a b
theorem m_mayQ {a b : Int32} {K : Int32 → zS → Prop} (h : mZ S σ) (hS : oOk S) (h0 : slMayQ S a b = 0) (hP : mPar (obAs S.1) σ) (hK : ∀ σ', mBy S.1 b.toNatClampNeg (obMany S.1 b.toNatClampNeg) 0 0 σ' → mSc σ σ' → K (nI (slMay S.1 (slQ S a) b.toNatClampNeg)) σ') : zCallI zcl Zm G (d + 7) mX6_mayOf [zR 0 0, zI a, zI b] σ K := by
  have hb := hS.1.b
  rcases slMayQ_n (S := S) (a := a) (b := b) with z | ⟨-, z1, z2⟩
  · exact absurd h0 z.2
  obtain ⟨⟨z3, z4⟩, q, z5, z6⟩ := slWhy_q z2
  obtain ⟨e1, l1⟩ := okN' (a := a) (n := 3) z3
  obtain ⟨e2, l2⟩ := okN z1
  have e3 : slQ S a = q := by unfold slQ; rw [z5]; rfl
  have hs := h.2.2.2.2 _ (show a.toNatClampNeg < 4 by omega)
  rw [z5] at hs
  rw [e3] at hK
  exact m_mayOf h.1 hS.1 hP e1 (by omega) hs (hS.2.2.2.2 _ q z5).2.1 z6 e2 l2 hK
theorem m_may {a b : Int32} {K : Int32 → zS → Prop} (h : mZ S σ) (hS : oOk S) (hK : ∀ σ', mSc σ σ' → K (oMay S a b) σ') : zCallI zcl Zm G (d + 8) mX6_may [zR 0 0, zI a, zI b] σ K := by
  refine zmeth VX6_ok pX6_may rfl (by decide) (Nat.le_of_ble_eq_true rfl) (fun AW hA => ?_)
  unfold oMay at hK
  refine sX6_may_0 hA (m_askMay h hS (fun σ1 f1 p1 => ?_))
  rcases slMayQ_n (S := S) (a := a) (b := b) with z | ⟨z, -⟩
  · rw [if_neg z.2] at hK
    exact ⟨fun _ => ⟨_, rfl, hK σ1 f1⟩, fun y => absurd z.1 y⟩
  · rw [if_pos z] at hK
    refine ⟨fun y => absurd y (by rw [show (if poOk S.1 b then slWhy S a else -2) = 0 from z]; decide), fun _ => ?_⟩
    exact m_mayQ (h.sc f1) hS z (p1 z) (fun σ2 _ f2 => ⟨_, rfl, hK σ2 (f1.trans f2)⟩)
theorem bit01 (s k : Nat) : s / 2 ^ k % 2 = 0 ∨ s / 2 ^ k % 2 = 1 := by omega
theorem m_worstOf {p i t : Nat} {x y z : Int32} {s : Nat} {K : Int32 → zS → Prop} (hI : obInv w) (hx : x = nI s) (hs : s < 2 ^ obMany w p) (hp : p < 7) (hy : y = nI i) (hz : z = nI t) (hi : i < w 7) (ht : t ≤ w 0) (hB : mBy w p (obMany w p) 0 0 σ) (hK : K (nI (slWorst w p s t i)) σ) : zCallI zcl Zm G (d + 1) mX6_worstOf [zR 0 0, zI x, zI y, zI z] σ K := by
  refine zmeth VX6_ok pX6_worstOf rfl (by decide) (Nat.le_of_ble_eq_true rfl) (fun AW hA => ?_)
  have hb := hI.b
  have h4 := hI.many hp
  have hs31 : s < 2 ^ 31 := Nat.lt_of_lt_of_le hs (Nat.pow_le_pow_right (by decide) (by omega))
  have inS : ∀ a, s / 2 ^ a % 2 = 1 → a < obMany w p := by
    intro a ha
    by_cases c : a < obMany w p
    · exact c
    · exfalso
      have : s / 2 ^ a = 0 := Nat.div_eq_of_lt (Nat.lt_of_lt_of_le hs (Nat.pow_le_pow_right (by decide) (by omega)))
      rw [this] at ha
      exact absurd ha (by decide)
  refine sX6_worstOf_0 hA ?_
  have L6 : ∀ m a (o6 o7 : Option zV), a + m = 4 → AW 6 [some (zR 0 0), some (zI x), some (zI y), some (zI z), some (zI (nI (obMax (fun a => obCo (slEq w p s t i a) 4) a))), some (zI (nI a)), o6, o7] [] σ := by
    intro m
    induction m with
    | zero =>
      intro a o6 o7 ha
      obtain rfl : a = 4 := by omega
      exact sX6_worstOf_6 hA ⟨fun q => absurd q (by decide), fun _ => ⟨_, rfl, hK⟩⟩
    | succ m ih =>
      intro a o6 o7 ha
      refine sX6_worstOf_6 hA ⟨fun _ => ?_, fun q => absurd (nI_lt (a := a) (b := 4) (by omega) (by decide)) q⟩
      have L18 : ∀ m2 b, b + m2 = 4 → AW 18 [some (zR 0 0), some (zI x), some (zI y), some (zI z), some (zI (nI (obMax (fun a => obCo (slEq w p s t i a) 4) a))), some (zI (nI a)), some (zI (nI (obCo (slEq w p s t i a) b))), some (zI (nI b))] [] σ := by
        intro m2
        induction m2 with
        | zero =>
          intro b hb2
          obtain rfl : b = 4 := by omega
          have q1 := obCo_le (slEq w p s t i a) 4
          have q2 := obMax_le (f := fun a => obCo (slEq w p s t i a) 4) (fun k => obCo_le _ 4) a
          refine sX6_worstOf_18 hA ⟨fun q => absurd q (by decide), fun _ => z_max rfl rfl (by omega) (by omega) ?_⟩
          have := ih (a + 1) (some (zI (nI (obCo (slEq w p s t i a) 4)))) (some (zI (nI 4))) (by omega)
          rw [c1, nI_add]
          exact this
        | succ m2 ih2 =>
          intro b hb2
          refine sX6_worstOf_18 hA ⟨fun _ => ?_, fun q => absurd (nI_lt (a := b) (b := 4) (by omega) (by decide)) q⟩
          have n2 := ih2 (b + 1) (by omega)
          unfold obCo at n2
          have no : ¬ slEq w p s t i a b = true → AW 18 [some (zR 0 0), some (zI x), some (zI y), some (zI z), some (zI (nI (obMax (fun a => obCo (slEq w p s t i a) 4) a))), some (zI (nI a)), some (zI (nI (obCo (slEq w p s t i a) b) + (0 : Int32))), some (zI (nI b + (1 : Int32)))] [] σ := fun c => by
            rw [if_neg c] at n2
            rw [c1, nI_add, Int32.add_zero]
            exact n2
          refine m_bit hx rfl hs31 (by omega) ?_
          refine ⟨fun ca => m_bit hx rfl hs31 (by omega) ⟨fun cb => ?_, fun cb => no (fun q => cb ?_)⟩, fun ca => no (fun q => ca ?_)⟩
          · have ca : s / 2 ^ a % 2 = 1 := (nI_eq (by omega) (by decide)).mp ca
            have cb : s / 2 ^ b % 2 = 1 := (nI_eq (by omega) (by decide)).mp cb
            have la := inS a ca
            have lb := inS b cb
            refine m_cellOf (k := a) (t := t) (i := i) rfl hy hz ⟨zix _ rfl (by omega), m_cellOf (k := b) (t := t) (i := i) rfl hy hz ⟨zix _ rfl (by omega), ?_⟩⟩
            rw [zcl_n _ rfl, zcl_n _ rfl, hB a t i hi ht (by omega), hB b t i hi ht (by omega), pI_inj (fun q hq => by have := pl_lt hI (obWith_ok hI la) hq; omega) (fun q hq => by have := pl_lt hI (obWith_ok hI lb) hq; omega)]
            refine ⟨fun ce => ?_, fun ce => no (fun q => ce (of_decide_eq_true q).2.2)⟩
            rw [if_pos (show slEq w p s t i a b = true from decide_eq_true ⟨ca, cb, ce⟩)] at n2
            rw [c1, nI_add, nI_add]
            exact n2
          · exact congrArg nI (of_decide_eq_true q).2.1
          · exact congrArg nI (of_decide_eq_true q).1
      exact L18 4 0 rfl
  exact L6 4 0 _ _ rfl
theorem m_askOf {p : Nat} {x : Int32} {s : Nat} {K : Int32 → zS → Prop} (hw : wM w σ) (hI : obInv w) (hx : x = nI s) (hs : s < 2 ^ obMany w p) (hp : p < 7) (hB : mBy w p (obMany w p) 0 0 σ) (hK : ∀ σ', gI σ' 0 32 0 = nI (slAsk w p s).2 → zFr [32] [] [] [] σ σ' → K (pI (slAsk w p s).1) σ') : zCallI zcl Zm G (d + 2) mX6_askOf [zR 0 0, zI x] σ K := by
  refine zmeth VX6_ok pX6_askOf rfl (by decide) (Nat.le_of_ble_eq_true rfl) (fun AW hA => ?_)
  have hb := hI.b
  have h4 := hI.many hp
  have hs31 : s < 2 ^ 31 := Nat.lt_of_lt_of_le hs (Nat.pow_le_pow_right (by decide) (by omega))
  refine sX6_askOf_0 hA (m_bits hx hs31 ?_)
  have L12 : ∀ m i (o4 o5 : Option zV) (σ2 : zS), i + m = w 7 → zFr [32] [] [] [] σ σ2 → gI σ2 0 32 0 = nI (slAskW w p s i).2 → AW 12 [some (zR 0 0), some (zI x), some (zI (pI (slAskW w p s i).1)), some (zI (nI i)), o4, o5] [] σ2 := by
    intro m
    induction m with
    | zero =>
      intro i o4 o5 σ2 hi hf h32
      obtain rfl : i = w 7 := by omega
      refine sX6_askOf_12 hA (m_walkers (hw.fr hf) ?_)
      exact zltN (by omega) (by omega) (fun z => absurd z (by omega)) (fun _ => ⟨_, rfl, hK σ2 h32 hf⟩)
    | succ m ih =>
      intro i o4 o5 σ2 hi hf h32
      refine sX6_askOf_12 hA (m_walkers (hw.fr hf) ?_)
      refine zltN (by omega) (by omega) (fun _ => ?_) (fun z => absurd z (by omega))
      have B0 := slAskW_b (w := w) (p := p) (s := s) (by omega) i (by omega)
      have L23 : ∀ m2 t (o5 : Option zV) (σ3 : zS), t + m2 = w 0 + 1 → zFr [32] [] [] [] σ σ3 → gI σ3 0 32 0 = nI (slAskH w p s i t (slAskW w p s i)).2 → AW 23 [some (zR 0 0), some (zI x), some (zI (pI (slAskH w p s i t (slAskW w p s i)).1)), some (zI (nI i)), some (zI (nI t)), o5] [] σ3 := by
        intro m2
        induction m2 with
        | zero =>
          intro t o5 σ3 ht hf3 h3
          obtain rfl : t = w 0 + 1 := by omega
          refine sX6_askOf_23 hA (m_hours (hw.fr hf3) ?_)
          refine zltN (by omega) (by omega) (fun _ => ?_) (fun z => absurd z (by omega))
          rw [c1, nI_add]
          exact ih (i + 1) _ _ σ3 (by omega) hf3 h3
        | succ m2 ih2 =>
          intro t o5 σ3 ht hf3 h3
          refine sX6_askOf_23 hA (m_hours (hw.fr hf3) ?_)
          refine zltN (by omega) (by omega) (fun z => absurd z (by omega)) (fun _ => ?_)
          have B1 := slAskH_b (w := w) (p := p) (s := s) (i := i) B0 (by omega) t (by omega)
          have wl := slWorst_le (w := w) (p := p) (s := s) (t := t) (i := i)
          have hB3 : mBy w p (obMany w p) 0 0 σ3 := fun k' t' i' hi' ht' hh => by rw [hf3.A 31]; exact hB k' t' i' hi' ht' hh
          refine m_worstOf hI hx hs hp (i := i) (t := t) rfl rfl (by omega) (by omega) hB3 ?_
          rw [h3, c1, nI_add, c100, pk_mul, nI_add]
          have n2 := ih2 (t + 1)
          unfold slAskH slAskS at n2
          refine zltN (by omega) (by omega) (fun c => ?_) (fun c => ?_)
          · rw [if_pos c] at n2
            exact n2 _ _ (by omega) (hf3.uI 32 _) rfl
          · rw [if_neg (by omega)] at n2
            exact n2 _ σ3 (by omega) hf3 h3
      exact L23 (w 0 + 1) 0 _ σ2 (by omega) hf h32
  exact L12 (w 7) 0 _ _ _ (by omega) (zFr.refl.uI 32 _) rfl
theorem slMay_lt {w : Nat → Nat} {q : obQ} {p : Nat} : slMay w q p < 2 ^ obMany w p := obSet_lt _ _
theorem m_ask {a b : Int32} {K : Int32 → zS → Prop} (h : mZ S σ) (hS : oOk S) (hK : ∀ σ', mSc σ σ' → K (oAsk S a b) σ') : zCallI zcl Zm G (d + 8) mX6_ask [zR 0 0, zI a, zI b] σ K := by
  refine zmeth VX6_ok pX6_ask rfl (by decide) (Nat.le_of_ble_eq_true rfl) (fun AW hA => ?_)
  have hb := hS.1.b
  unfold oAsk at hK
  refine sX6_ask_0 hA (m_askMay h hS (fun σ1 f1 p1 => ?_))
  rcases slMayQ_n (S := S) (a := a) (b := b) with z | ⟨z, z1, -⟩
  · rw [if_neg z.2] at hK
    exact ⟨fun _ => ⟨_, rfl, hK σ1 f1⟩, fun y => absurd z.1 y⟩
  · rw [if_pos z] at hK
    have l2 := (okN z1).2
    refine ⟨fun y => absurd y (by rw [show (if poOk S.1 b then slWhy S a else -2) = 0 from z]; decide), fun _ => ?_⟩
    refine m_mayQ (h.sc f1) hS z (p1 z) (fun σ2 b2 f2 => m_askOf ((h.1.sc f1).sc f2) hS.1 rfl slMay_lt (by omega) b2 (fun σ3 _ f3 => ⟨_, rfl, hK σ3 ((f1.trans f2).trans f3.wk)⟩))
theorem m_leaves {a b : Int32} {K : Int32 → zS → Prop} (h : mZ S σ) (hS : oOk S) (hK : ∀ σ', mSc σ σ' → K (oLeaves S a b) σ') : zCallI zcl Zm G (d + 8) mX6_leaves [zR 0 0, zI a, zI b] σ K := by
  refine zmeth VX6_ok pX6_leaves rfl (by decide) (Nat.le_of_ble_eq_true rfl) (fun AW hA => ?_)
  have hb := hS.1.b
  unfold oLeaves at hK
  refine sX6_leaves_0 hA (m_askMay h hS (fun σ1 f1 p1 => ?_))
  rcases slMayQ_n (S := S) (a := a) (b := b) with z | ⟨z, z1, -⟩
  · rw [if_neg z.2] at hK
    exact ⟨fun _ => ⟨_, rfl, hK σ1 f1⟩, fun y => absurd z.1 y⟩
  · rw [if_pos z] at hK
    have l2 := (okN z1).2
    refine ⟨fun y => absurd y (by rw [show (if poOk S.1 b then slWhy S a else -2) = 0 from z]; decide), fun _ => ?_⟩
    refine m_mayQ (h.sc f1) hS z (p1 z) (fun σ2 b2 f2 => m_askOf ((h.1.sc f1).sc f2) hS.1 rfl slMay_lt (by omega) b2 (fun σ3 e3 f3 => ⟨_, rfl, ?_⟩))
    rw [e3]
    exact hK σ3 ((f1.trans f2).trans f3.wk)
/-- under which laws was it so -/
def oLaws (S : oZ) (a : Int32) : Int32 := if slWhy S a = 0 then nI (obSet (fun l => slSo S.1 (obBy S.1 l) (slQ S a)) 4) else slWhy S a
theorem m_laws {a : Int32} {K : Int32 → zS → Prop} (h : mZ S σ) (hS : oOk S) (hK : ∀ σ', mSc σ σ' → K (oLaws S a) σ') : zCallI zcl Zm G (d + 8) mX6_laws [zR 0 0, zI a] σ K := by
  refine zmeth VX6_ok pX6_laws rfl (by decide) (Nat.le_of_ble_eq_true rfl) (fun AW hA => ?_)
  have hb := hS.1.b
  unfold oLaws at hK
  refine sX6_laws_0 hA (m_askSeen h hS (fun σ1 f1 p1 => ?_))
  rcases slWhy_or S a with z | z | z
  · rw [if_pos z] at hK
    obtain ⟨⟨z3, z4⟩, q, z5, z6⟩ := slWhy_q z
    have e3 : slQ S a = q := by unfold slQ; rw [z5]; rfl
    rw [e3] at hK
    obtain ⟨e1, l1⟩ := okN' (a := a) (n := 3) z3
    have hn := (hS.2.2.2.2 _ q z5).2.1
    have hp := p1 z
    refine ⟨fun y => absurd y (by rw [z]; decide), fun _ => ?_⟩
    have loop : ∀ m l (b : Int32) (σ2 : zS), l + m = 4 → mSc σ σ2 → mPar (obBy S.1 l) σ2 → AW 19 [some (zR 0 0), some (zI a), some (zI b), some (zI (nI (obSet (fun l => slSo S.1 (obBy S.1 l) q) l)))] [] σ2 := by
      intro m
      induction m with
      | zero =>
        intro l b σ2 hl hf hp2
        obtain rfl : l = 4 := by omega
        refine sX6_laws_19 hA ?_
        rw [hp2.1]
        exact ⟨fun q => absurd (show nI 4 < (4 : Int32) from q) (by decide), fun _ => ⟨_, rfl, hK σ2 hf⟩⟩
      | succ m ih =>
        intro l b σ2 hl hf hp2
        have hs := (h.sc hf).2.2.2.2 _ (show a.toNatClampNeg < 4 by omega)
        rw [z5] at hs
        refine sX6_laws_19 hA ⟨fun _ => ?_, fun q => absurd (by rw [hp2.1]; exact nI_lt (a := l) (b := 4) (by omega) (by decide)) q⟩
        refine m_isSeen ((h.sc hf).1) hS.1 hp2 (obBy_ok hS.1 (by omega)) e1 (by omega) hs hn z6 (fun σ3 r3 p3 f3 => ?_)
        have e4 : gI σ3 0 17 0 = nI l := p3.1
        rw [e4, c1, nI_add]
        have g4 : mSc σ (uI σ3 0 17 0 (nI (l + 1))) := zFr.uI (hf.trans f3.wk) 17 _
        refine zbr (fun c => ?_) (fun c => ?_)
        · rw [obSet_f (c := fun l => slSo S.1 (obBy S.1 l) q) (k := l) (by simpa using c)]
          exact ih (l + 1) _ _ (by omega) g4 ⟨rfl, p3.2⟩
        · rw [← c1, obSet_t (c := fun l => slSo S.1 (obBy S.1 l) q) (k := l) c (by omega)]
          exact ih (l + 1) _ _ (by omega) g4 ⟨rfl, p3.2⟩
    exact loop 4 0 _ _ rfl (zFr.uI f1 17 _) ⟨rfl, hp.2⟩
  · rw [if_neg (by rw [z]; decide)] at hK
    exact ⟨fun _ => ⟨_, rfl, hK σ1 f1⟩, fun y => absurd (by rw [z]; decide) y⟩
  · rw [if_neg (by rw [z]; decide)] at hK
    exact ⟨fun _ => ⟨_, rfl, hK σ1 f1⟩, fun y => absurd (by rw [z]; decide) y⟩
end TOO
