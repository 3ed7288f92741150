/-! THE COMPONENT: as it is, all hours -/
def xHist (w : Nat → Nat) (P : obP) (n : Nat) (σ : zS) : Prop := ∀ s, s < n → (∀ i, i < w 7 → gA σ 25 0 (8 * s + i) = pI ((obAt w P s).2.1 i)) ∧ ∀ p, p < w 4 → gA σ 26 0 (7 * s + p) = if obMany w p = 0 then -1 else nI ((obAt w P s).1 p)
def xSent (w : Nat → Nat) (P : obP) (n : Nat) (σ : zS) : Prop := ∀ s, s < n → gA σ 28 0 s = nI (obSent w P s)
def xRan (w : Nat → Nat) (P : obP) (σ : zS) : Prop := xHist w P (w 0 + 1) σ ∧ xSent w P (w 0) σ ∧ xQ w (obAt w P (w 0)) σ
theorem xRan.fr {w : Nat → Nat} {P : obP} {I : List (Nat × Nat)} {A : List Nat} {σ σ' : zS} (h : xRan w P σ) (hf : xFr I A σ σ') (a : A.all (fun x => !(Nat.ble 24 x && Nat.ble x 32)) = true := by decide) : xRan w P σ' := by
  have g : ∀ k, 24 ≤ k → k ≤ 32 → gA σ' k 0 = gA σ k 0 := by
    intro k h1 h2
    refine hf.A k 0 (fun q => ?_)
    have := List.all_eq_true.mp a k q
    rw [Nat.ble_eq_true_of_le h1, Nat.ble_eq_true_of_le h2] at this
    exact absurd this (by decide)
  unfold xRan xHist xSent xQ at h ⊢
  rw [g 24 (by decide) (by decide), g 25 (by decide) (by decide), g 26 (by decide) (by decide), g 27 (by decide) (by decide), g 28 (by decide) (by decide), g 29 (by decide) (by decide), g 31 (by decide) (by decide), g 32 (by decide) (by decide)]
  exact h
theorem x_fill27 {G : zG} {d : Nat} {σ : zS} {K : zS → Prop} (h : ∀ σ', agr 28 (gA σ' 27 0) (fun _ => 0) → xFr [] [27] σ σ' → K σ') : zCallV zcl Zx G d mJ12_fill [zR 27 0, zI (0 : Int32)] σ K := by
  refine zmeth VJ12_ok pJ12_fill rfl (by decide) (Nat.le_of_ble_eq_true rfl) (fun AW ha => ?_)
  refine sJ12_fill_27_0 ha ⟨by decide, ?_⟩
  have loop : ∀ m i (σ2 : zS), i + m = 28 → xFr [] [27] σ σ2 → agr i (gA σ2 27 0) (fun _ => 0) → AW 5 [some (zR 27 0), some (zI (0 : Int32)), some (zI (nI i)), some (zI (28 : Int32))] [] σ2 := by
    intro m
    induction m with
    | zero =>
      intro i σ2 hi hf h0
      obtain rfl : i = 28 := by omega
      exact sJ12_fill_27_5 ha ⟨fun q => absurd q (by decide), fun _ => ⟨rfl, h σ2 h0 hf⟩⟩
    | succ m ih =>
      intro i σ2 hi hf h0
      refine sJ12_fill_27_5 ha ⟨fun _ => ⟨zix i rfl (by omega), ?_⟩, fun q => absurd (nI_lt (a := i) (b := 28) (by omega) (by decide)) q⟩
      rw [zcl_n i rfl, c1, nI_add]
      exact ih (i + 1) _ (by omega) (hf.uA 27 _) (agr_s h0 rfl)
  exact loop 28 0 σ rfl xFr.refl (fun j hj => absurd hj (by omega))
theorem x_fill28 {G : zG} {d : Nat} {σ : zS} {K : zS → Prop} (h : ∀ σ', agr 16 (gA σ' 28 0) (fun _ => 0) → xFr [] [28] σ σ' → K σ') : zCallV zcl Zx G d mJ12_fill [zR 28 0, zI (0 : Int32)] σ K := by
  refine zmeth VJ12_ok pJ12_fill rfl (by decide) (Nat.le_of_ble_eq_true rfl) (fun AW ha => ?_)
  refine sJ12_fill_28_0 ha ⟨by decide, ?_⟩
  have loop : ∀ m i (σ2 : zS), i + m = 16 → xFr [] [28] σ σ2 → agr i (gA σ2 28 0) (fun _ => 0) → AW 5 [some (zR 28 0), some (zI (0 : Int32)), some (zI (nI i)), some (zI (16 : Int32))] [] σ2 := by
    intro m
    induction m with
    | zero =>
      intro i σ2 hi hf h0
      obtain rfl : i = 16 := by omega
      exact sJ12_fill_28_5 ha ⟨fun q => absurd q (by decide), fun _ => ⟨rfl, h σ2 h0 hf⟩⟩
    | succ m ih =>
      intro i σ2 hi hf h0
      refine sJ12_fill_28_5 ha ⟨fun _ => ⟨zix i rfl (by omega), ?_⟩, fun q => absurd (nI_lt (a := i) (b := 16) (by omega) (by decide)) q⟩
      rw [zcl_n i rfl, c1, nI_add]
      exact ih (i + 1) _ (by omega) (hf.uA 28 _) (agr_s h0 rfl)
  exact loop 16 0 σ rfl xFr.refl (fun j hj => absurd hj (by omega))
theorem x_fill29 {G : zG} {d : Nat} {σ : zS} {K : zS → Prop} (h : ∀ σ', agr 8 (gA σ' 29 0) (fun _ => 0) → xFr [] [29] σ σ' → K σ') : zCallV zcl Zx G d mJ12_fill [zR 29 0, zI (0 : Int32)] σ K := by
  refine zmeth VJ12_ok pJ12_fill rfl (by decide) (Nat.le_of_ble_eq_true rfl) (fun AW ha => ?_)
  refine sJ12_fill_29_0 ha ⟨by decide, ?_⟩
  have loop : ∀ m i (σ2 : zS), i + m = 8 → xFr [] [29] σ σ2 → agr i (gA σ2 29 0) (fun _ => 0) → AW 5 [some (zR 29 0), some (zI (0 : Int32)), some (zI (nI i)), some (zI (8 : Int32))] [] σ2 := by
    intro m
    induction m with
    | zero =>
      intro i σ2 hi hf h0
      obtain rfl : i = 8 := by omega
      exact sJ12_fill_29_5 ha ⟨fun q => absurd q (by decide), fun _ => ⟨rfl, h σ2 h0 hf⟩⟩
    | succ m ih =>
      intro i σ2 hi hf h0
      refine sJ12_fill_29_5 ha ⟨fun _ => ⟨zix i rfl (by omega), ?_⟩, fun q => absurd (nI_lt (a := i) (b := 8) (by omega) (by decide)) q⟩
      rw [zcl_n i rfl, c1, nI_add]
      exact ih (i + 1) _ (by omega) (hf.uA 29 _) (agr_s h0 rfl)
  exact loop 8 0 σ rfl xFr.refl (fun j hj => absurd hj (by omega))
theorem x_fill31 {G : zG} {d : Nat} {σ : zS} {K : zS → Prop} (h : ∀ σ', agr 4 (gA σ' 31 0) (fun _ => 0) → xFr [] [31] σ σ' → K σ') : zCallV zcl Zx G d mJ12_fill [zR 31 0, zI (0 : Int32)] σ K := by
  refine zmeth VJ12_ok pJ12_fill rfl (by decide) (Nat.le_of_ble_eq_true rfl) (fun AW ha => ?_)
  refine sJ12_fill_31_0 ha ⟨by decide, ?_⟩
  have loop : ∀ m i (σ2 : zS), i + m = 4 → xFr [] [31] σ σ2 → agr i (gA σ2 31 0) (fun _ => 0) → AW 5 [some (zR 31 0), some (zI (0 : Int32)), some (zI (nI i)), some (zI (4 : Int32))] [] σ2 := by
    intro m
    induction m with
    | zero =>
      intro i σ2 hi hf h0
      obtain rfl : i = 4 := by omega
      exact sJ12_fill_31_5 ha ⟨fun q => absurd q (by decide), fun _ => ⟨rfl, h σ2 h0 hf⟩⟩
    | succ m ih =>
      intro i σ2 hi hf h0
      refine sJ12_fill_31_5 ha ⟨fun _ => ⟨zix i rfl (by omega), ?_⟩, fun q => absurd (nI_lt (a := i) (b := 4) (by omega) (by decide)) q⟩
      rw [zcl_n i rfl, c1, nI_add]
      exact ih (i + 1) _ (by omega) (hf.uA 31 _) (agr_s h0 rfl)
  exact loop 4 0 σ rfl xFr.refl (fun j hj => absurd hj (by omega))
theorem x_fill32 {G : zG} {d : Nat} {σ : zS} {K : zS → Prop} (h : ∀ σ', agr 4 (gA σ' 32 0) (fun _ => 0) → xFr [] [32] σ σ' → K σ') : zCallV zcl Zx G d mJ12_fill [zR 32 0, zI (0 : Int32)] σ K := by
  refine zmeth VJ12_ok pJ12_fill rfl (by decide) (Nat.le_of_ble_eq_true rfl) (fun AW ha => ?_)
  refine sJ12_fill_32_0 ha ⟨by decide, ?_⟩
  have loop : ∀ m i (σ2 : zS), i + m = 4 → xFr [] [32] σ σ2 → agr i (gA σ2 32 0) (fun _ => 0) → AW 5 [some (zR 32 0), some (zI (0 : Int32)), some (zI (nI i)), some (zI (4 : Int32))] [] σ2 := by
    intro m
    induction m with
    | zero =>
      intro i σ2 hi hf h0
      obtain rfl : i = 4 := by omega
      exact sJ12_fill_32_5 ha ⟨fun q => absurd q (by decide), fun _ => ⟨rfl, h σ2 h0 hf⟩⟩
    | succ m ih =>
      intro i σ2 hi hf h0
      refine sJ12_fill_32_5 ha ⟨fun _ => ⟨zix i rfl (by omega), ?_⟩, fun q => absurd (nI_lt (a := i) (b := 4) (by omega) (by decide)) q⟩
      rw [zcl_n i rfl, c1, nI_add]
      exact ih (i + 1) _ (by omega) (hf.uA 32 _) (agr_s h0 rfl)
  exact loop 4 0 σ rfl xFr.refl (fun j hj => absurd hj (by omega))
/-- all hours: arms as they stand, all else as told -/
abbrev xAll : List Nat := [24, 25, 26, 27, 28, 29, 31, 32]
theorem x_goes {G : zG} {d : Nat} {w : Nat → Nat} {P : obP} {σ : zS} {K : Nat → zS → Prop} (hw : wX w σ) (hI : obInv w) (hP : xPar w P σ) (hPo : obPok w P) (hA : agr (w 4) (gA σ 24 0) P.2.2.2.1) (h : ∀ σ', xRan w P σ' → xFr [] xAll σ σ' → K 0 σ') : zCallR zcl Zx G (d + 7) mX3_goes [zR 2 0] σ 2 K := by
  refine zmeth VX3_ok pX3_goes rfl (by decide) (Nat.le_of_ble_eq_true rfl) (fun AW ha => ?_)
  have hb := hI.b
  refine sX3_goes_0 ha (x_fill27 fun σ1 h1 f1 => x_fill28 fun σ2 h2 f2 => x_fill29 fun σ3 h3 f3 => x_fill31 fun σ4 h4 f4 => x_fill32 fun σ5 h5 f5 => ?_)
  have hf0 : xFr [] xAll σ σ5 := (((((f1.wk (A' := xAll) (I' := [])).trans f2.wk).trans f3.wk).trans f4.wk).trans f5.wk)
  have hA5 : agr (w 4) (gA σ5 24 0) P.2.2.2.1 := by rw [f5.A 24 0, f4.A 24 0, f3.A 24 0, f2.A 24 0, f1.A 24 0]; exact hA
  have h27 : agr 28 (gA σ5 27 0) (fun _ => 0) := by rw [f5.A 27 0, f4.A 27 0, f3.A 27 0, f2.A 27 0]; exact h1
  have h28 : agr 16 (gA σ5 28 0) (fun _ => 0) := by rw [f5.A 28 0, f4.A 28 0, f3.A 28 0]; exact h2
  have h29 : agr 8 (gA σ5 29 0) (fun _ => 0) := by rw [f5.A 29 0, f4.A 29 0]; exact h3
  have h31 : agr 4 (gA σ5 31 0) (fun _ => 0) := by rw [f5.A 31 0]; exact h4
  -- the hours, from t on; Rm is the state ahead of who comes
  have loopT : ∀ n t (Rm : obR) (o : Option zV) (σ2 : zS), t + n = w 0 → xFr [] xAll σ σ2 → obAt w P t = obArr w P t Rm → obRok w Rm → xQ w Rm σ2 → (t = 0 ∨ ∀ i, i < w 7 → gA σ2 25 0 (8 * t + i) = pI (Rm.2.1 i)) → (t = 0 → ∀ i, Rm.2.1 i = none) → xHist w P t σ2 → xSent w P t σ2 → (∀ s, t ≤ s → s < 16 → gA σ2 28 0 s = 0) → AW 42 [some (zR 2 0), some (zI (nI t)), o] [] σ2 := by
    intro n
    induction n using Nat.strongRecOn with
    | ind n ih =>
      intro t Rm o σ2 ht hf hAt hRo hQ hrow hnone hH hS hz
      have hok := obAt_ok hI hPo t
      refine sX3_goes_42 ha ?_
      rw [(hw.fr hf).2.1.1]
      refine zltN (by omega) (by omega) (fun q => absurd q (by omega)) (fun _ => ?_)
      -- arms
      have loopP : ∀ k p (σ3 : zS), p + k = w 4 → xFr [] xAll σ σ3 → xQ w (obAt w P t) σ3 → xHist w P t σ3 → xSent w P t σ3 → (∀ s, t ≤ s → s < 16 → gA σ3 28 0 s = 0) → (∀ i, i < w 7 → gA σ3 25 0 (8 * t + i) = pI ((obAt w P t).2.1 i)) → (∀ q, q < p → gA σ3 26 0 (7 * t + q) = if obMany w q = 0 then -1 else nI ((obAt w P t).1 q)) → AW 131 [some (zR 2 0), some (zI (nI t)), some (zI (nI p))] [] σ3 := by
        intro k
        induction k with
        | zero =>
          intro p σ3 hp hf3 hQ3 hH3 hS3 hz3 h25 h26
          have hH4 : xHist w P (t + 1) σ3 := by
            intro s hs
            by_cases e : s = t
            · subst e; exact ⟨h25, fun q hq => h26 q (by omega)⟩
            · exact hH3 s (by omega)
          refine sX3_goes_131 ha (x_posts (hw.fr hf3) (zltN (by omega) (by omega) (fun q => absurd q (by omega)) (fun _ => ?_)))
          rw [(hw.fr hf3).2.1.1]
          refine zltN (by omega) (by omega) (fun c => ?_) (fun c => ?_)
          · refine x_passes (R := obAt w P t) (hw.fr hf3) hI (hP.fr hf3) hPo hQ3 hok h25 (hz3 t (by omega) (by omega)) rfl c (fun σ4 q4 row4 old4 se4 so4 f4 => ?_)
            rw [c1, nI_add]
            refine ih (n - 1) (by omega) (t + 1) (obGo w P t (obAt w P t)) _ σ4 (by omega) (hf3.trans f4.wk) rfl (obGo_ok hI hok) q4 (Or.inr row4) (fun q => by omega) ?_ ?_ ?_
            · intro s hs
              refine ⟨fun i hi => ?_, fun q hq => ?_⟩
              · rw [old4 _ (by omega)]; exact (hH4 s hs).1 i hi
              · rw [f4.A 26 0]; exact (hH4 s hs).2 q hq
            · intro s hs
              by_cases e : s = t
              · subst e; exact se4
              · rw [so4 s e]; exact hS3 s (by omega)
            · intro s h1 h2
              rw [so4 s (by omega)]; exact hz3 s (by omega) h2
          · obtain rfl : t = w 0 := by omega
            refine sX3_goes_42 ha ?_
            rw [(hw.fr hf3).2.1.1, c1, nI_add]
            refine zltN (by omega) (by omega) (fun _ => ⟨_, rfl, h σ3 ⟨hH4, hS3, hQ3⟩ hf3⟩) (fun q => absurd q (by omega))
        | succ k ihk =>
          intro p σ3 hp hf3 hQ3 hH3 hS3 hz3 h25 h26
          have e7 : (7 : Int32) * nI t + nI p = nI (7 * t + p) := by rw [c7, pk_mul, nI_add]
          have h4 := hI.many (show p < 7 by omega)
          have next : ∀ x, x = (if obMany w p = 0 then -1 else nI ((obAt w P t).1 p)) → AW 131 [some (zR 2 0), some (zI (nI t)), some (zI (nI p + (1 : Int32)))] [] (uA σ3 26 0 (upd (gA σ3 26 0) (7 * t + p) x)) := by
            intro x hx
            rw [c1, nI_add]
            refine ihk (p + 1) _ (by omega) (hf3.uA 26 _) hQ3 (fun s hs => ⟨(hH3 s hs).1, fun q hq => ?_⟩) hS3 hz3 h25 (fun q hq => ?_)
            · show upd _ (7 * t + p) _ (7 * s + q) = _
              rw [pk_un (by omega)]
              exact (hH3 s hs).2 q hq
            · show upd _ (7 * t + p) _ (7 * t + q) = _
              by_cases e : q = p
              · subst e; rw [pk_us, hx]
              · rw [pk_un (by omega)]; exact h26 q (by omega)
          refine sX3_goes_131 ha (x_posts (hw.fr hf3) (zltN (by omega) (by omega) (fun _ => x_postOf (hw.fr hf3) hI (p := p) rfl (by omega) ⟨Nat.lt_of_lt_of_eq (by omega) (hw.fr hf3).C0.symm, ?_⟩) (fun q => absurd q (by omega))))
          rw [(hw.fr hf3).many (by omega), ← nI_0]
          refine zeqN (by omega) (by decide) (fun c => ⟨zix _ e7 (by omega), ?_⟩) (fun c => ⟨zix p rfl (by omega), zix _ e7 (by omega), ?_⟩)
          · rw [zcl_n _ e7]; exact next _ (by rw [if_pos c])
          · rw [zcl_n _ e7, zcl_n p rfl, hQ3.1 p (by omega)]; exact next _ (by rw [if_neg c])
      -- who comes
      have loopI : ∀ k i (σ3 : zS), i + k = w 7 → xFr [] xAll σ σ3 → xQ w Rm σ3 → xHist w P t σ3 → xSent w P t σ3 → (∀ s, t ≤ s → s < 16 → gA σ3 28 0 s = 0) → (∀ j, j < i → gA σ3 25 0 (8 * t + j) = pI ((obAt w P t).2.1 j)) → (t = 0 ∨ ∀ j, i ≤ j → j < w 7 → gA σ3 25 0 (8 * t + j) = pI (Rm.2.1 j)) → AW 58 [some (zR 2 0), some (zI (nI t)), some (zI (nI i))] [] σ3 := by
        intro k
        induction k with
        | zero =>
          intro i σ3 hi hf3 hQ3 hH3 hS3 hz3 h25 hr3
          refine sX3_goes_58 ha (x_many (hw.fr hf3) (zltN (by omega) (by omega) (fun q => absurd q (by omega)) (fun _ => loopP (w 4) 0 σ3 (by omega) hf3 ?_ hH3 hS3 hz3 (fun j hj => h25 j (by omega)) (fun q hq => absurd hq (by omega)))))
          rw [hAt]; exact hQ3
        | succ k ihk =>
          intro i σ3 hi hf3 hQ3 hH3 hS3 hz3 h25 hr3
          have e8 : (8 : Int32) * nI t + nI i = nI (8 * t + i) := by rw [c8, pk_mul, nI_add]
          have hcome := (hP.fr hf3).2.2.2 i (by omega) t (by omega)
          have hat : (obAt w P t).2.1 i = if P.2.2.2.2 i = t then some (obWp w i) else Rm.2.1 i := by rw [hAt]; exact obArr_at (by omega)
          -- a cell of the row is written
          have put : ∀ x q, q = 8 * t + i → x = pI ((obAt w P t).2.1 i) → AW 58 [some (zR 2 0), some (zI (nI t)), some (zI (nI i + (1 : Int32)))] [] (uA σ3 25 0 (upd (gA σ3 25 0) q x)) := by
            intro x q hq hx
            subst hq
            rw [c1, nI_add]
            refine ihk (i + 1) _ (by omega) (hf3.uA 25 _) hQ3 (fun s hs => ⟨fun j hj => ?_, (hH3 s hs).2⟩) hS3 hz3 (fun j hj => ?_) ?_
            · show upd _ (8 * t + i) _ (8 * s + j) = _
              rw [pk_un (by omega)]; exact (hH3 s hs).1 j hj
            · show upd _ (8 * t + i) _ (8 * t + j) = _
              by_cases e : j = i
              · subst e; rw [pk_us, hx]
              · rw [pk_un (by omega)]; exact h25 j (by omega)
            · rcases hr3 with h0 | h0
              · exact Or.inl h0
              · refine Or.inr (fun j h1 h2 => ?_)
                show upd _ (8 * t + i) _ (8 * t + j) = _
                rw [pk_un (by omega)]; exact h0 j (by omega) h2
          -- nothing is written
          have stay : gA σ3 25 0 (8 * t + i) = pI ((obAt w P t).2.1 i) → AW 58 [some (zR 2 0), some (zI (nI t)), some (zI (nI i + (1 : Int32)))] [] σ3 := by
            intro hx
            rw [c1, nI_add]
            refine ihk (i + 1) _ (by omega) hf3 hQ3 hH3 hS3 hz3 (fun j hj => ?_) ?_
            · by_cases e : j = i
              · subst e; exact hx
              · exact h25 j (by omega)
            · rcases hr3 with h0 | h0
              · exact Or.inl h0
              · exact Or.inr (fun j h1 h2 => h0 j (by omega) h2)
          -- who doesn't come
          have no : ¬ P.2.2.2.2 i = t → ((nI t = 0 → (vp_in (nI i) 136 ∧ AW 58 [some (zR 2 0), some (zI (nI t)), some (zI (nI i + (1 : Int32)))] [] (uA σ3 25 0 (upd (gA σ3 25 0) i (-1 : Int32))))) ∧ (¬ nI t = 0 → AW 58 [some (zR 2 0), some (zI (nI t)), some (zI (nI i + (1 : Int32)))] [] σ3)) := by
            intro c
            rw [if_neg c] at hat
            rw [← nI_0]
            refine zeqN (by omega) (by decide) (fun c0 => ⟨zix i rfl (by omega), put _ _ (by omega) ?_⟩) (fun c0 => stay ?_)
            · rw [hat, hnone c0]; rfl
            · rcases hr3 with h0 | h0
              · exact absurd h0 c0
              · rw [h0 i (by omega) (by omega), hat]
          refine sX3_goes_58 ha (x_many (hw.fr hf3) (zltN (by omega) (by omega) (fun _ => ⟨zix i rfl (by omega), ?_⟩) (fun q => absurd q (by omega))))
          rw [zcl_n i rfl]
          refine ⟨fun c => ⟨fun c2 => ?_, fun c2 => ?_⟩, fun c => ?_⟩
          · exact no (fun q => (hcome.mpr q).2 c2)
          · have hc : P.2.2.2.2 i = t := hcome.mp ⟨c, c2⟩
            refine x_walkerOf (hw.fr hf3) hI (p := i) rfl (by omega) ⟨Nat.lt_of_lt_of_eq (by omega) (hw.fr hf3).C1.symm, zix _ e8 (by omega), ?_⟩
            rw [zcl_n _ e8]
            refine put _ _ rfl ?_
            rw [hat, if_pos hc, ((hw.fr hf3).2.2.2.2.2.1 i (by omega)).1]; rfl
          · exact no (fun q => c (hcome.mpr q).1)
      exact loopI (w 7) 0 σ2 (by omega) hf hQ hH hS hz (fun j hj => absurd hj (by omega)) (by
        rcases hrow with h0 | h0
        · exact Or.inl h0
        · exact Or.inr (fun j _ h2 => h0 j h2))
  have hz0 : obRok w (P.2.2.2.1, fun _ => none, fun _ => 0, fun _ => 0, fun _ => 0, fun _ => 0, 0) := by
    refine ⟨hPo.2.2.2.1, ?_, ?_⟩
    · intro i p h; cases h
    · intro j _; exact Nat.zero_le _
  exact loopT (w 0) 0 (P.2.2.2.1, fun _ => none, fun _ => 0, fun _ => 0, fun _ => 0, fun _ => 0, 0) none σ5 (by omega) hf0 rfl hz0 ⟨hA5, h27, h29, h31, h5⟩ (Or.inl rfl) (fun _ _ => rfl) (fun s hs => absurd hs (by omega)) (fun s hs => absurd hs (by omega)) (fun s _ h2 => h28 s h2)
