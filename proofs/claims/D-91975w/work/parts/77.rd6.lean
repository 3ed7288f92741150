/-! THE TWIN READS: a heath -/
theorem rL.inv {b : Nat} {w : Nat → Nat} (h : rL b w) (hb : b ≤ 1000) : obInv w := by
  obtain ⟨⟨⟨a0, a1, a2, a3, a4, a5, a6, a7, a8⟩, b1, c, d, e, g⟩, h2, h3, h4⟩ := h
  refine ⟨⟨a0, a1, a2, a3, a4, a5, a6, a7, by omega, by omega⟩, fun i hi => (b1 i hi).1, c, fun p k hp hk => ?_, e, g, fun k hk => absurd hk (by omega), fun z j _ => h2 z j, h3⟩
  have := (c p hp).1
  exact (d p k hp (by omega)).1 hk
/-- what a call answers, the heath that stands behind it -/
def oRead : pX → Int32
  | .inl s => nI (s.2 9)
  | .inr _ => -4
def wRead (w : Nat → Nat) : pX → Nat → Nat
  | .inl s => s.2
  | .inr _ => w
/-- the fault told behind it -/
def fRead : pX → zS → Prop
  | .inl _, σ => gI σ 0 12 0 = 0 ∧ gI σ 0 13 0 = -1
  | .inr f, σ => gI σ 0 12 0 = nI f.1 ∧ gI σ 0 13 0 = nI f.2
def rInit : pS := ((0, 0, 0, 0), fun _ => 0)
theorem rL_0 (b : Nat) : rL b (fun _ => 0) := by
  refine ⟨⟨by decide, fun i hi => ⟨Nat.zero_le _, fun _ => rfl⟩, fun p hp => ⟨Nat.zero_le _, fun q => absurd q (Nat.lt_irrefl 0), fun _ => rfl⟩, fun p k hp hk => ⟨fun q => absurd q (Nat.not_lt_zero k), fun _ => rfl⟩, fun i hi => absurd hi (Nat.not_lt_zero i), fun i hi => Nat.zero_le _⟩, fun _ _ => rfl, fun q => absurd rfl q, Nat.zero_le _⟩
theorem xLines_inr {T : Nat → Int32} {n f : Nat} {g : Nat × Nat} : xLines T n f (.inr g) = .inr g := by cases f <;> rfl
/-- a heath that was read -/
theorem xLines_ok {T : Nat → Int32} {n : Nat} : ∀ f (s : pS), pOk n s → rL s.1.2.1 s.2 → ∀ s', xLines T n f (.inl s) = .inl s' → pOk n s' ∧ rL s'.1.2.1 s'.2 := by
  intro f
  induction f with
  | zero => intro s h1 h2 s' e; cases e; exact ⟨h1, h2⟩
  | succ f ih =>
    intro s h1 h2 s' e
    unfold xLines at e
    by_cases c : s.1.2.2.1 = 0
    · rw [if_pos c] at e; cases e; exact ⟨h1, h2⟩
    · rw [if_neg c] at e
      rcases q : xLine T n (.inl s) with s2 | g
      · rw [q] at e
        have := xSt.line h1 h2 s2 q
        exact ih s2 this.1 this.2.1 s' e
      · rw [q, xLines_inr] at e; cases e
theorem xRead_ok {T : Nat → Int32} {n : Nat} {s : pS} (h : xRead T n = .inl s) : pOk n s ∧ rL s.1.2.1 s.2 :=
  xLines_ok _ _ (pTok_ok (T := T) (Nat.zero_le n)).1 (rL_0 _) s h
theorem wRead_inv {T : Nat → Int32} {n : Nat} {w : Nat → Nat} (hn : n ≤ 800) (hI : obInv w) : obInv (wRead w (xRead T n)) := by
  rcases h : xRead T n with s | f
  · obtain ⟨h1, h2⟩ := xRead_ok h
    exact h2.inv (by have := h1.1; have := h1.2.1; omega)
  · exact hI
def hdI : List (Nat × Nat) := [(0, 5), (0, 7), (0, 8), (0, 9), (0, 10), (0, 11), (0, 12), (0, 13)]
theorem m_heath {G : zG} {d : Nat} {T : Nat → Int32} {n : Nat} {w : Nat → Nat} {σ : zS} {K : Int32 → zS → Prop} (hn : n ≤ 800) (hT : isByte T) (h5 : gI σ 0 5 0 = nI n) (h4 : ∀ j, j < n → gA σ 4 0 j = T j) (hs : sOk σ) (hw : wM w σ)
    (hK : ∀ σ', wM (wRead w (xRead T n)) σ' → gI σ' 0 5 0 = 0 → fRead (xRead T n) σ' → xFr hdI [1, 14] σ σ' → K (oRead (xRead T n)) σ') : zCallI zcl Zm G (d + 11) mX6_heath [zR 0 0] σ K := by
  refine zmeth VX6_ok pX6_heath rfl (by decide) (Nat.le_of_ble_eq_true rfl) (fun AW hA => ?_)
  have g0 : xFr hdI [14] σ (uI (uI (uI (uI (uI σ 0 7 0 (gI σ 0 5 0)) 0 5 0 (0 : Int32)) 0 8 0 (0 : Int32)) 0 12 0 (0 : Int32)) 0 13 0 (-1 : Int32)) := ((((xFr.refl.uI 0 7 _).uI 0 5 _).uI 0 8 _).uI 0 12 _).uI 0 13 _
  have c0 : rC T n (uI (uI (uI (uI (uI σ 0 7 0 (gI σ 0 5 0)) 0 5 0 (0 : Int32)) 0 8 0 (0 : Int32)) 0 12 0 (0 : Int32)) 0 13 0 (-1 : Int32)) := ⟨hn, hT, h5, h4, hs⟩
  refine sX6_heath_j_0 hA ?_
  generalize hσ0 : uI (uI (uI (uI (uI σ 0 7 0 (gI σ 0 5 0)) 0 5 0 (0 : Int32)) 0 8 0 (0 : Int32)) 0 12 0 (0 : Int32)) 0 13 0 (-1 : Int32) = σ0 at g0 c0 ⊢
  have i5 : gI σ0 0 5 0 = 0 := by rw [← hσ0]; rfl
  have i8 : gI σ0 0 8 0 = nI 0 := by rw [← hσ0]; rfl
  have i12 : gI σ0 0 12 0 = 0 := by rw [← hσ0]; rfl
  have i13 : gI σ0 0 13 0 = -1 := by rw [← hσ0]; rfl
  -- the end
  have e74 : ∀ (y : pX) (a1 : Int32) (σ2 : zS), rS T n y σ2 → rF σ0 σ2 → xRead T n = y → AW 74 [some (zR 0 0), some (zI a1)] [] σ2 := by
    intro y a1 σ2 h f hy
    rw [hy] at hK
    have f5 : gI σ2 0 5 0 = 0 := by rw [f.I 0 5 0]; exact i5
    have fr2 : xFr hdI [1, 14] σ σ2 := (g0.wk).trans (xFr.wk f)
    refine sX6_heath_j_74 hA (m_good h (fun s e => ⟨fun q => absurd q (by decide), fun _ => ?_⟩) (fun g e => ⟨fun _ => ⟨_, rfl, ?_⟩, fun q => absurd rfl q⟩))
    · subst e
      have ok := (xRead_ok hy)
      have loop : ∀ m i (σ3 : zS), i + m = 102 → xFr [] [1] σ2 σ3 → agr i (gA σ3 1 0) s.2 → AW 86 [some (zR 0 0), some (zI (nI i))] [] σ3 := by
        intro m
        induction m with
        | zero =>
          intro i σ3 hi hf ha
          obtain rfl : i = 102 := by omega
          refine sX6_heath_j_86 hA ⟨fun q => absurd q (by decide), fun _ => ⟨zin_lit rfl, _, rfl, ?_⟩⟩
          rw [ha 9 (by decide)]
          refine hK σ3 ha ?_ ⟨?_, ?_⟩ (fr2.trans hf.wk)
          · rw [hf.I 0 5 0]; exact f5
          · rw [hf.I 0 12 0]; exact h.2.2.1
          · rw [hf.I 0 13 0]; exact h.2.2.2.1
        | succ m ih =>
          intro i σ3 hi hf ha
          refine sX6_heath_j_86 hA ⟨fun _ => ⟨zix i rfl (by omega), zix i rfl (by omega), ?_⟩, fun q => absurd (nI_lt (a := i) (b := 102) (by omega) (by decide)) q⟩
          rw [zcl_n i rfl, c1, nI_add]
          refine ih (i + 1) _ (by omega) (hf.uA 1 _) (agr_s ha ?_)
          rw [hf.A 14 0]
          exact h.2.2.2.2.2 i (by omega)
      exact loop 102 0 σ2 rfl xFr.refl (fun j hj => absurd hj (Nat.not_lt_zero j))
    · subst e
      refine hK σ2 ?_ f5 h.2.2 fr2
      show agr 102 (gA σ2 1 0) w
      rw [f.A 1 0, g0.A 1 0]
      exact hw
  -- the lines
  have e53 : ∀ f (s : pS) (a1 : Int32) (σ2 : zS), rS T n (.inl s) σ2 → rL s.1.2.1 s.2 → n - s.1.2.1 < f → rF σ0 σ2 → xRead T n = xLines T n f (.inl s) → AW 53 [some (zR 0 0), some (zI a1)] [] σ2 := by
    intro f
    induction f with
    | zero => intro s a1 σ2 h hr hf; exact absurd hf (Nat.not_lt_zero _)
    | succ f ih =>
      intro s a1 σ2 h hr hf hF hx
      have p3 := h.2.1.2.2.1
      have p2 := h.2.1.2.1
      have p1 := h.2.1.1
      have h9 := hr.2.2.2
      refine sX6_heath_j_53 hA (m_good h (fun _ _ => ⟨fun q => absurd q (by decide), fun _ => ?_⟩) (fun f e => by cases e))
      rw [h.2.2.2.2.1.2.2.1, ← nI_0]
      unfold xLines at hx
      refine zeqN (by omega) (by decide) (fun c => ?_) (fun c => ?_)
      · rw [if_pos c] at hx
        exact e74 _ _ σ2 h hF hx
      · rw [if_neg c] at hx
        refine m_readLine h hr.1 (by omega) (fun σ3 h3 f3 => ?_)
        rcases hl : xLine T n (.inl s) with s2 | g
        · rw [hl] at h3 hx
          obtain ⟨q1, q2, q3⟩ := xSt.line h.2.1 hr s2 hl
          have := q1.1
          have := q1.2.1
          exact ih s2 a1 σ3 h3 q2 (by omega) (hF.trans f3) hx
        · rw [hl] at h3 hx
          rw [xLines_inr] at hx
          refine sX6_heath_j_53 hA (m_good h3 (fun s e => by cases e) (fun _ _ => ⟨fun _ => e74 _ _ σ3 h3 (hF.trans f3) hx, fun q => absurd rfl q⟩))
  -- the fresh row
  have e30 : ∀ m i (σ2 : zS), i + m = 102 → xFr [] [14] σ0 σ2 → agr i (gA σ2 14 0) (fun _ => 0) → AW 30 [some (zR 0 0), some (zI (nI i))] [] σ2 := by
    intro m
    induction m with
    | zero =>
      intro i σ2 hi hf ha
      obtain rfl : i = 102 := by omega
      refine sX6_heath_j_30 hA ⟨fun q => absurd q (by decide), fun _ => ?_⟩
      have C2 := c0.fr hf
      refine m_advance C2 (a := 0) (by rw [hf.I 0 8 0]; exact i8) (Nat.zero_le _) (fun σ3 ht f3 => ?_)
      have hF : rF σ0 σ3 := (xFr.wk hf).trans (xFr.wk f3)
      have hp := (pTok_ok (T := T) (w := fun _ => 0) (Nat.zero_le n)).1
      refine e53 (n + 2) (pTok T n 0, fun _ => 0) _ σ3 ⟨c0.f hF, hp, ?_, ?_, ht, ?_⟩ (rL_0 _) (by omega) hF rfl
      · rw [f3.I 0 12 0, hf.I 0 12 0]; exact i12
      · rw [f3.I 0 13 0, hf.I 0 13 0]; exact i13
      · rw [f3.A 14 0]; exact ha
    | succ m ih =>
      intro i σ2 hi hf ha
      refine sX6_heath_j_30 hA ⟨fun _ => ⟨zix i rfl (by omega), ?_⟩, fun q => absurd (nI_lt (a := i) (b := 102) (by omega) (by decide)) q⟩
      rw [zcl_n i rfl, c1, nI_add]
      exact ih (i + 1) _ (by omega) (hf.uA 14 _) (agr_s ha rfl)
  exact e30 102 0 σ0 rfl xFr.refl (fun j hj => absurd hj (Nat.not_lt_zero j))
