/-! THE MODEL: all hours; what every question begins with -/
def mQ (R : obR) (σ : zS) : Prop := agr 7 (gA σ 20 0) R.1 ∧ agp 8 (gA σ 21 0) R.2.1 ∧ agr 28 (gA σ 25 0) R.2.2.1 ∧ agr 8 (gA σ 26 0) R.2.2.2.1 ∧ agr 4 (gA σ 27 0) R.2.2.2.2.1 ∧ agr 4 (gA σ 28 0) R.2.2.2.2.2.1
/-- how many were sent in the hour s: as a set -/
def obSent (w : Nat → Nat) (P : obP) (s : Nat) : Nat := (obGo w P s (obAt w P s)).2.2.2.2.2.2
def mHist (w : Nat → Nat) (P : obP) (n : Nat) (σ : zS) : Prop := ∀ s, s < n → (∀ i, i < w 7 → gA σ 22 0 (8 * s + i) = pI ((obAt w P s).2.1 i)) ∧ ∀ p, p < 7 → gA σ 23 0 (7 * s + p) = nI ((obAt w P s).1 p)
def mSent (w : Nat → Nat) (P : obP) (n : Nat) (σ : zS) : Prop := ∀ s, s < n → gA σ 24 0 s = nI (obSent w P s)
/-- all hours have been gone through -/
def mRan (w : Nat → Nat) (P : obP) (σ : zS) : Prop := mHist w P (w 0 + 1) σ ∧ mSent w P (w 0) σ ∧ mQ (obAt w P (w 0)) σ
theorem mRan.fr {w : Nat → Nat} {P : obP} {I L A B : List Nat} {σ σ' : zS} (h : mRan w P σ) (hf : zFr I L A B σ σ') (a : A.all (fun x => !(Nat.ble 20 x && Nat.ble x 28)) = true := by decide) : mRan w P σ' := by
  have g : ∀ k, 20 ≤ k → k ≤ 28 → gA σ' k 0 = gA σ k 0 := by
    intro k h1 h2
    refine hf.A k (fun q => ?_)
    have := List.all_eq_true.mp a k q
    rw [Nat.ble_eq_true_of_le h1, Nat.ble_eq_true_of_le h2] at this
    exact absurd this (by decide)
  unfold mRan mHist mSent mQ at h ⊢
  rw [g 20 (by decide) (by decide), g 21 (by decide) (by decide), g 22 (by decide) (by decide), g 23 (by decide) (by decide), g 24 (by decide) (by decide), g 25 (by decide) (by decide), g 26 (by decide) (by decide), g 27 (by decide) (by decide), g 28 (by decide) (by decide)]
  exact h
theorem agr_s {i : Nat} {f : Nat → Int32} {g : Nat → Nat} {x : Int32} (h : agr i f g) (hx : x = nI (g i)) : agr (i + 1) (upd f i x) g := by
  intro j hj
  by_cases e : j = i
  · subst e; rw [pk_us, hx]
  · rw [pk_un e]; exact h j (by omega)
theorem agp_s {i : Nat} {f : Nat → Int32} {g : Nat → Option Nat} {x : Int32} (h : agp i f g) (hx : x = pI (g i)) : agp (i + 1) (upd f i x) g := by
  intro j hj
  by_cases e : j = i
  · subst e; rw [pk_us, hx]
  · rw [pk_un e]; exact h j (by omega)
/-- who has come, of the first i -/
def obPl (w : Nat → Nat) (P : obP) (t : Nat) (R : obR) (i : Nat) : Nat → Option Nat := fun j => if j < i ∧ P.2.2.2.2 j = t then some (obWp w j) else R.2.1 j
theorem obArr_pl {w : Nat → Nat} {P : obP} {t : Nat} {R : obR} : obArr w P t R = (R.1, obPl w P t R (w 7), R.2.2) := rfl
theorem obArr_at {w : Nat → Nat} {P : obP} {t i : Nat} {R : obR} (hi : i < w 7) : (obArr w P t R).2.1 i = if P.2.2.2.2 i = t then some (obWp w i) else R.2.1 i := by
  show (if i < w 7 ∧ _ then _ else _) = _
  by_cases c : P.2.2.2.2 i = t
  · rw [if_pos ⟨hi, c⟩, if_pos c]
  · rw [if_neg (fun z => c z.2), if_neg c]
theorem obPl_t {w : Nat → Nat} {P : obP} {t i : Nat} {R : obR} {f : Nat → Int32} (c : P.2.2.2.2 i = t) (h : agp 8 f (obPl w P t R i)) : agp 8 (upd f i (nI (obWp w i))) (obPl w P t R (i + 1)) := by
  intro j hj
  unfold obPl
  by_cases e : j = i
  · subst e; rw [pk_us, if_pos ⟨by omega, c⟩]; rfl
  · rw [pk_un e, h j hj]
    unfold obPl
    by_cases q : j < i ∧ P.2.2.2.2 j = t
    · rw [if_pos q, if_pos ⟨by omega, q.2⟩]
    · rw [if_neg q, if_neg (fun z => q ⟨by omega, z.2⟩)]
theorem obPl_f {w : Nat → Nat} {P : obP} {t i : Nat} {R : obR} {f : Nat → Int32} (c : ¬ P.2.2.2.2 i = t) (h : agp 8 f (obPl w P t R i)) : agp 8 f (obPl w P t R (i + 1)) := by
  intro j hj
  rw [h j hj]
  unfold obPl
  by_cases q : j < i ∧ P.2.2.2.2 j = t
  · rw [if_pos q, if_pos ⟨by omega, q.2⟩]
  · rw [if_neg q, if_neg]
    rintro ⟨z1, z2⟩
    by_cases e : j = i
    · subst e; exact c z2
    · exact q ⟨by omega, z2⟩
abbrev mAll : List Nat := [20, 21, 22, 23, 24, 25, 26, 27, 28]
theorem m_goAll {G : zG} {d : Nat} {w : Nat → Nat} {P : obP} {σ : zS} {K : zS → Prop} (hw : wM w σ) (hI : obInv w) (hP : mPar P σ) (hPo : obPok w P) (h : ∀ σ', mRan w P σ' → zFr [] [] mAll [] σ σ' → K σ') : zCallV zcl Zm G (d + 5) mX6_goAll [zR 0 0] σ K := by
  refine zmeth VX6_ok pX6_goAll rfl (by decide) (Nat.le_of_ble_eq_true rfl) (fun AW ha => ?_)
  have hb := hI.b
  refine sX6_goAll_0 ha ?_
  have loopT : ∀ n t (Rm : obR) (o : Option zV) (σ2 : zS), t + n = w 0 → zFr [] [] mAll [] σ σ2 → obAt w P t = obArr w P t Rm → obRok w Rm → mQ Rm σ2 → mHist w P t σ2 → mSent w P t σ2 → AW 104 [some (zR 0 0), some (zI (nI t)), o] [] σ2 := by
    intro n
    induction n using Nat.strongRecOn with
    | ind n ih =>
      intro t Rm o σ2 ht hf hAt hRo hQ hH hS
      refine sX6_goAll_104 ha (m_hours (hw.fr hf) (zltN (by omega) (by omega) (fun q => absurd q (by omega)) (fun _ => ?_)))
      have hok := obAt_ok hI hPo t
      -- arms of the hour, then the hour itself
      have loopP : ∀ k p (σ3 : zS), p + k = 7 → zFr [] [] mAll [] σ σ3 → mQ (obAt w P t) σ3 → mHist w P t σ3 → mSent w P t σ3 → (∀ i, i < w 7 → gA σ3 22 0 (8 * t + i) = pI ((obAt w P t).2.1 i)) → (∀ q, q < p → gA σ3 23 0 (7 * t + q) = nI ((obAt w P t).1 q)) → AW 174 [some (zR 0 0), some (zI (nI t)), some (zI (nI p))] [] σ3 := by
        intro k
        induction k with
        | zero =>
          intro p σ3 hp hf3 hQ3 hH3 hS3 h22 h23
          obtain rfl : p = 7 := by omega
          have hH4 : mHist w P (t + 1) σ3 := by
            intro s hs
            by_cases e : s = t
            · subst e; exact ⟨h22, h23⟩
            · exact hH3 s (by omega)
          refine sX6_goAll_174 ha ⟨fun q => absurd q (by decide), fun _ => m_hours (hw.fr hf3) (zeqN (by omega) (by omega) (fun c => ?_) (fun c => ?_))⟩
          · refine ⟨rfl, h σ3 ⟨?_, ?_, ?_⟩ hf3⟩
            · rw [← c]; exact hH4
            · rw [← c]; exact hS3
            · rw [← c]; exact hQ3
          · refine ⟨zix t rfl (by omega), ?_⟩
            rw [zcl_n t rfl]
            obtain ⟨b1, b2, b3, b4, b5, b6⟩ := hQ3
            have fz : zFr [] [] [24] [] σ3 (uA σ3 24 0 (upd (gA σ3 24 0) t (0 : Int32))) := zFr.refl.uA 24 _
            refine m_goHour (R := obAt w P t) ((hw.fr hf3).fr fz) hI ((hP.fr hf3).fr fz) hPo ⟨b1, b2, b3, b4, b5, b6, by show upd _ t _ t = _; rw [pk_us]; rfl⟩ hok rfl (by omega) (fun σ4 h4 f4 s4 => ?_)
            rw [c1, nI_add]
            obtain ⟨d1, d2, d3, d4, d5, d6, d7⟩ := h4
            refine ih (n - 1) (by omega) (t + 1) (obGo w P t (obAt w P t)) _ σ4 (by omega) ((hf3.trans fz.wk).trans f4.wk) rfl (obGo_ok hI hok) ⟨d1, d2, d3, d4, d5, d6⟩ ?_ ?_
            · unfold mHist
              rw [f4.A 22, f4.A 23]
              exact hH4
            · intro s hs
              by_cases e : s = t
              · subst e; exact d7
              · rw [s4 s e]
                show upd _ t _ s = _
                rw [pk_un e]
                exact hS3 s (by omega)
        | succ k ihk =>
          intro p σ3 hp hf3 hQ3 hH3 hS3 h22 h23
          have e7 : (7 : Int32) * nI t + nI p = nI (7 * t + p) := by rw [c7, pk_mul, nI_add]
          refine sX6_goAll_174 ha ⟨fun _ => ⟨zix p rfl (by omega), zix _ e7 (by omega), ?_⟩, fun q => absurd (nI_lt (a := p) (b := 7) (by omega) (by decide)) q⟩
          rw [zcl_n p rfl, zcl_n _ e7, hQ3.1 p (by omega), c1, nI_add]
          refine ihk (p + 1) _ (by omega) (hf3.uA 23 _) hQ3 (fun s hs => ⟨(hH3 s hs).1, fun q hq => ?_⟩) hS3 h22 (fun q hq => ?_)
          · show upd _ (7 * t + p) _ (7 * s + q) = _
            rw [pk_un (by omega)]
            exact (hH3 s hs).2 q hq
          · show upd _ (7 * t + p) _ (7 * t + q) = _
            by_cases e : q = p
            · subst e; rw [pk_us]
            · rw [pk_un (by omega)]; exact h23 q (by omega)
      -- who comes
      have loopI : ∀ k i (σ3 : zS), i + k = w 7 → zFr [] [] mAll [] σ σ3 → mQ (Rm.1, obPl w P t Rm i, Rm.2.2) σ3 → mHist w P t σ3 → mSent w P t σ3 → (∀ j, j < i → gA σ3 22 0 (8 * t + j) = pI ((obAt w P t).2.1 j)) → AW 114 [some (zR 0 0), some (zI (nI t)), some (zI (nI i))] [] σ3 := by
        intro k
        induction k with
        | zero =>
          intro i σ3 hi hf3 hQ3 hH3 hS3 h22
          refine sX6_goAll_114 ha (m_walkers (hw.fr hf3) (zltN (by omega) (by omega) (fun q => absurd q (by omega)) (fun _ => loopP 7 0 σ3 rfl hf3 ?_ hH3 hS3 (fun j hj => h22 j (by omega)) (fun q hq => absurd hq (by omega)))))
          rw [hAt, obArr_pl, show w 7 = i by omega]
          exact hQ3
        | succ k ihk =>
          intro i σ3 hi hf3 hQ3 hH3 hS3 h22
          have e8 : (8 : Int32) * nI t + nI i = nI (8 * t + i) := by rw [c8, pk_mul, nI_add]
          have e56 : (56 : Int32) + (2 : Int32) * nI i = nI (56 + 2 * i) := by rw [c56, c2, pk_mul, nI_add]
          have hcome := hPo.2.2.2.2 i (by omega)
          obtain ⟨b1, b2, b3, b4, b5, b6⟩ := hQ3
          refine sX6_goAll_114 ha (m_walkers (hw.fr hf3) (zltN (by omega) (by omega) (fun _ => ⟨zix i rfl (by omega), ?_⟩) (fun q => absurd q (by omega))))
          rw [zcl_n i rfl, (hP.fr hf3).2.2.2.2 i (by omega)]
          refine zeqN hcome (by omega) (fun c => ⟨zix _ e56 (by omega), zix i rfl (by omega), zix i rfl (by omega), zix _ e8 (by omega), ?_⟩) (fun c => ⟨zix i rfl (by omega), zix _ e8 (by omega), ?_⟩)
          · rw [zcl_n _ e8, zcl_n _ e56, (hw.fr hf3) _ (by omega), pk_us, c1, nI_add]
            refine ihk (i + 1) _ (by omega) ((hf3.uA 21 _).uA 22 _) ⟨b1, obPl_t c b2, b3, b4, b5, b6⟩ (fun s hs => ⟨fun j hj => ?_, (hH3 s hs).2⟩) hS3 (fun j hj => ?_)
            · show upd (gA σ3 22 0) (8 * t + i) _ (8 * s + j) = _
              rw [pk_un (by omega)]
              exact (hH3 s hs).1 j hj
            · show upd (gA σ3 22 0) (8 * t + i) _ (8 * t + j) = _
              by_cases e : j = i
              · subst e
                rw [pk_us, hAt, obArr_at (by omega), if_pos c]; rfl
              · rw [pk_un (by omega)]; exact h22 j (by omega)
          · rw [zcl_n _ e8, b2 i (by omega), c1, nI_add]
            refine ihk (i + 1) _ (by omega) (hf3.uA 22 _) ⟨b1, obPl_f c b2, b3, b4, b5, b6⟩ (fun s hs => ⟨fun j hj => ?_, (hH3 s hs).2⟩) hS3 (fun j hj => ?_)
            · show upd (gA σ3 22 0) (8 * t + i) _ (8 * s + j) = _
              rw [pk_un (by omega)]
              exact (hH3 s hs).1 j hj
            · show upd (gA σ3 22 0) (8 * t + i) _ (8 * t + j) = _
              by_cases e : j = i
              · subst e
                rw [pk_us, hAt, obArr_at (by omega), if_neg c]
                show pI (obPl w P t Rm j j) = _
                unfold obPl
                rw [if_neg (fun z => absurd z.1 (by omega))]
              · rw [pk_un (by omega)]; exact h22 j (by omega)
      refine loopI (w 7) 0 σ2 (by omega) hf ?_ hH hS (fun j hj => absurd hj (by omega))
      obtain ⟨b1, b2, b3, b4, b5, b6⟩ := hQ
      refine ⟨b1, fun j hj => ?_, b3, b4, b5, b6⟩
      show _ = pI (obPl w P t Rm 0 j)
      unfold obPl
      rw [if_neg (fun z => absurd z.1 (by omega))]
      exact b2 j hj
  have loopD : ∀ n i (o : Option zV) (σ2 : zS), i + n = 8 → zFr [] [] mAll [] σ σ2 → agr 7 (gA σ2 20 0) P.2.2.2.1 → agr 28 (gA σ2 25 0) (fun _ => 0) → agr 4 (gA σ2 27 0) (fun _ => 0) → agr 4 (gA σ2 28 0) (fun _ => 0) → agp i (gA σ2 21 0) (fun _ => none) → agr i (gA σ2 26 0) (fun _ => 0) → AW 76 [some (zR 0 0), some (zI (nI i)), o] [] σ2 := by
    intro n
    induction n with
    | zero =>
      intro i o σ2 hi hf e1 e2 e3 e4 e5 e6
      obtain rfl : i = 8 := by omega
      refine sX6_goAll_76 ha ⟨fun q => absurd q (by decide), fun _ => ?_⟩
      have hz : obRok w (P.2.2.2.1, fun _ => none, fun _ => 0, fun _ => 0, fun _ => 0, fun _ => 0, 0) := by
        refine ⟨hPo.2.2.2.1, ?_, ?_⟩
        · intro i p h; cases h
        · intro j _; exact Nat.zero_le _
      exact loopT (w 0) 0 (P.2.2.2.1, fun _ => none, fun _ => 0, fun _ => 0, fun _ => 0, fun _ => 0, 0) o σ2 (by omega) hf rfl hz ⟨e1, e5, e2, e6, e3, e4⟩ (fun s hs => absurd hs (by omega)) (fun s hs => absurd hs (by omega))
    | succ n ih =>
      intro i o σ2 hi hf e1 e2 e3 e4 e5 e6
      refine sX6_goAll_76 ha ⟨fun _ => ⟨zix i rfl (by omega), zix i rfl (by omega), ?_⟩, fun q => absurd (nI_lt (a := i) (b := 8) (by omega) (by decide)) q⟩
      rw [zcl_n i rfl, c1, nI_add]
      exact ih (i + 1) o _ (by omega) ((hf.uA 21 _).uA 26 _) e1 e2 e3 e4 (agp_s e5 rfl) (agr_s e6 rfl)
  have loopC : ∀ n i (o : Option zV) (σ2 : zS), i + n = 4 → zFr [] [] mAll [] σ σ2 → agr 7 (gA σ2 20 0) P.2.2.2.1 → agr 28 (gA σ2 25 0) (fun _ => 0) → agr i (gA σ2 27 0) (fun _ => 0) → agr i (gA σ2 28 0) (fun _ => 0) → AW 49 [some (zR 0 0), some (zI (nI i)), o] [] σ2 := by
    intro n
    induction n with
    | zero =>
      intro i o σ2 hi hf e1 e2 e3 e4
      obtain rfl : i = 4 := by omega
      exact sX6_goAll_49 ha ⟨fun q => absurd q (by decide), fun _ => loopD 8 0 o σ2 rfl hf e1 e2 e3 e4 (fun j hj => absurd hj (by omega)) (fun j hj => absurd hj (by omega))⟩
    | succ n ih =>
      intro i o σ2 hi hf e1 e2 e3 e4
      refine sX6_goAll_49 ha ⟨fun _ => ⟨zix i rfl (by omega), zix i rfl (by omega), ?_⟩, fun q => absurd (nI_lt (a := i) (b := 4) (by omega) (by decide)) q⟩
      rw [zcl_n i rfl, c1, nI_add]
      exact ih (i + 1) o _ (by omega) ((hf.uA 27 _).uA 28 _) e1 e2 (agr_s e3 rfl) (agr_s e4 rfl)
  have loopB : ∀ n i (o : Option zV) (σ2 : zS), i + n = 28 → zFr [] [] mAll [] σ σ2 → agr 7 (gA σ2 20 0) P.2.2.2.1 → agr i (gA σ2 25 0) (fun _ => 0) → AW 28 [some (zR 0 0), some (zI (nI i)), o] [] σ2 := by
    intro n
    induction n with
    | zero =>
      intro i o σ2 hi hf e1 e2
      obtain rfl : i = 28 := by omega
      exact sX6_goAll_28 ha ⟨fun q => absurd q (by decide), fun _ => loopC 4 0 o σ2 rfl hf e1 e2 (fun j hj => absurd hj (by omega)) (fun j hj => absurd hj (by omega))⟩
    | succ n ih =>
      intro i o σ2 hi hf e1 e2
      refine sX6_goAll_28 ha ⟨fun _ => ⟨zix i rfl (by omega), ?_⟩, fun q => absurd (nI_lt (a := i) (b := 28) (by omega) (by decide)) q⟩
      rw [zcl_n i rfl, c1, nI_add]
      exact ih (i + 1) o _ (by omega) (hf.uA 25 _) e1 (agr_s e2 rfl)
  have loopA : ∀ n i (o : Option zV) (σ2 : zS), i + n = 7 → zFr [] [] mAll [] σ σ2 → agr i (gA σ2 20 0) P.2.2.2.1 → AW 2 [some (zR 0 0), some (zI (nI i)), o] [] σ2 := by
    intro n
    induction n with
    | zero =>
      intro i o σ2 hi hf e1
      obtain rfl : i = 7 := by omega
      exact sX6_goAll_2 ha ⟨fun q => absurd q (by decide), fun _ => loopB 28 0 o σ2 rfl hf e1 (fun j hj => absurd hj (by omega))⟩
    | succ n ih =>
      intro i o σ2 hi hf e1
      refine sX6_goAll_2 ha ⟨fun _ => ⟨zix i rfl (by omega), zix i rfl (by omega), ?_⟩, fun q => absurd (nI_lt (a := i) (b := 7) (by omega) (by decide)) q⟩
      rw [zcl_n i rfl, c1, nI_add, (hP.fr hf).2.2.2.1 i (by omega)]
      exact ih (i + 1) o _ (by omega) (hf.uA 20 _) (agr_s e1 rfl)
  exact loopA 7 0 _ σ rfl zFr.refl (fun j hj => absurd hj (by omega))
abbrev mAsk : List Nat := [15, 16, 20, 21, 22, 23, 24, 25, 26, 27, 28]
theorem m_asksHeath {G : zG} {d : Nat} {w : Nat → Nat} {σ : zS} {K : Int32 → zS → Prop} (hw : wM w σ) (hI : obInv w) (h : ∀ σ', mRan w (obAs w) σ' → mPar (obAs w) σ' → zFr [17, 18, 19] [] mAsk [] σ σ' → K (bI (0 < w 9)) σ') : zCallI zcl Zm G (d + 6) mX6_asksHeath [zR 0 0] σ K := by
  refine zmeth VX6_ok pX6_asksHeath rfl (by decide) (Nat.le_of_ble_eq_true rfl) (fun AW ha => ?_)
  refine sX6_asksHeath_0 ha (m_asItIs hw (fun σ1 p1 f1 => m_goAll (hw.fr f1) hI p1 (obAs_ok hI) (fun σ2 r2 f2 => m_isHeath ((hw.fr f1).fr f2) hI ⟨bI_01 _, _, rfl, ?_⟩)))
  exact h σ2 r2 (p1.fr f2) (zFr.trans f1.wk f2.wk)
