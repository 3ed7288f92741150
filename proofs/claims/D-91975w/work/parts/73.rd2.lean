/-! THE TWIN READS: states -/
def mRd : pX → zS → Prop
  | .inl s, σ => gI σ 0 12 0 = 0 ∧ gI σ 0 13 0 = -1 ∧ rT s.1 σ ∧ agr 102 (gA σ 14 0) s.2
  | .inr f, σ => gI σ 0 12 0 = nI f.1 ∧ gI σ 0 13 0 = nI f.2
def xPk (n : Nat) : pX → Prop
  | .inl s => pOk n s
  | .inr f => f.1 = 1 ∨ f.1 = 2 ∨ f.1 = 3
/-- a state of reading -/
def rS (T : Nat → Int32) (n : Nat) (x : pX) (σ : zS) : Prop := rC T n σ ∧ xPk n x ∧ mRd x σ
theorem rF.refl {σ : zS} : rF σ σ := xFr.refl
theorem rF.trans {σ σ1 σ2 : zS} (h : rF σ σ1) (h2 : rF σ1 σ2) : rF σ σ2 := xFr.trans h h2
theorem rC.f {T : Nat → Int32} {n : Nat} {σ σ' : zS} (h : rC T n σ) (hf : rF σ σ') : rC T n σ' := h.fr hf
section RD
variable {G : zG} {d : Nat} {T : Nat → Int32} {n : Nat} {x : pX} {σ : zS}
theorem m_good1 {K : Int32 → zS → Prop} (h12 : gI σ 0 12 0 = 0) (h : K 1 σ) : zCallI zcl Zm G d mX6_good [zR 0 0] σ K := by
  refine zmeth VX6_ok pX6_good rfl (by decide) (Nat.le_of_ble_eq_true rfl) (fun AW hA => ?_)
  exact sX6_good_0 hA ⟨fun _ => ⟨Or.inr rfl, _, rfl, h⟩, fun q => absurd h12 q⟩
theorem m_good0 {K : Int32 → zS → Prop} (h12 : ¬ gI σ 0 12 0 = 0) (h : K 0 σ) : zCallI zcl Zm G d mX6_good [zR 0 0] σ K := by
  refine zmeth VX6_ok pX6_good rfl (by decide) (Nat.le_of_ble_eq_true rfl) (fun AW hA => ?_)
  exact sX6_good_0 hA ⟨fun q => absurd q h12, fun _ => ⟨Or.inl rfl, _, rfl, h⟩⟩
theorem rS.bad {f : Nat × Nat} (h : rS T n (.inr f) σ) : ¬ gI σ 0 12 0 = 0 := by
  obtain ⟨-, h1, h2⟩ := h
  rw [h2.1]
  rcases h1 with q | q | q <;> (rw [q]; decide)
/-- is all good? -/
theorem m_good {K : Int32 → zS → Prop} (h : rS T n x σ) (h1 : ∀ s, x = .inl s → K 1 σ) (h0 : ∀ f, x = .inr f → K 0 σ) : zCallI zcl Zm G d mX6_good [zR 0 0] σ K := by
  rcases x with s | f
  · exact m_good1 h.2.2.1 (h1 s rfl)
  · exact m_good0 h.bad (h0 f rfl)
theorem m_errs {K : zS → Prop} {k : Nat} {y : Int32} (hy : y = nI k) (hk : k = 1 ∨ k = 2 ∨ k = 3) (h : rS T n x σ) (hK : ∀ σ', rS T n (xErr k x) σ' → rF σ σ' → K σ') : zCallV zcl Zm G (d + 1) mX6_errs [zR 0 0, zI y] σ K := by
  refine zmeth VX6_ok pX6_errs rfl (by decide) (Nat.le_of_ble_eq_true rfl) (fun AW hA => ?_)
  refine sX6_errs_0 hA (m_good h (fun s e => ?_) (fun f e => ?_))
  · refine ⟨fun q => absurd q (by decide), fun _ => ⟨rfl, ?_⟩⟩
    subst e
    have hf : rF σ (uI (uI σ 0 12 0 y) 0 13 0 (gI σ 0 9 0)) := (xFr.refl.uI 0 12 _).uI 0 13 _
    exact hK _ ⟨h.1.f hf, hk, hy, h.2.2.2.2.1.2.1⟩ hf
  · refine ⟨fun _ => ⟨rfl, ?_⟩, fun q => absurd rfl q⟩
    subst e
    exact hK _ h rF.refl
theorem m_adv {K : zS → Prop} {s : pS} (h : rS T n (.inl s) σ) (hK : ∀ σ', rS T n (.inl (pAdv T n s)) σ' → rF σ σ' → K σ') : zCallV zcl Zm G (d + 1) mX6_advance [zR 0 0] σ K := by
  obtain ⟨h1, h2, h3, h4, h5, h6⟩ := h
  refine m_advance h1 h5.1 h2.1 (fun σ' ht hf => ?_)
  have hF : rF σ σ' := xFr.wk hf
  refine hK σ' ⟨h1.f hF, pAdv_ok h2, ?_, ?_, ht, ?_⟩ hF
  · rw [hf.I 0 12 0]; exact h3
  · rw [hf.I 0 13 0]; exact h4
  · rw [hf.A 14 0]; exact h6
theorem m_is {K : Int32 → zS → Prop} {j : Nat} (hj : j < 13) (h : rS T n x σ) (hK : K (bI (xIs T j x = true)) σ) : zCallI zcl Zm G (d + 4) mX6_is [zR 0 0, zR 97 j] σ K := by
  refine zmeth VX6_ok pX6_is rfl (by decide) (Nat.le_of_ble_eq_true rfl) (fun AW hA => ?_)
  have hs := h.1.2.2.2.2
  have hC : j < gC σ 97 := by rw [hs.1]; exact hj
  have hl := zLn_lt j hj
  have no : K 0 σ → ∀ k, AW 39 [some (zR 0 0), some (zR 97 j), some (zI (0 : Int32)), some (zI (nI k))] [] σ := fun q k =>
    sX6_is_39 hA ⟨hC, s_length_m hs hj ⟨fun _ => ⟨fun _ => ⟨Or.inl rfl, _, rfl, q⟩, fun z => absurd rfl z⟩, fun _ => ⟨Or.inl rfl, _, rfl, q⟩⟩⟩
  refine sX6_is_0 hA (m_good h (fun s e => ?_) (fun f e => ?_))
  · refine ⟨fun q => absurd q (by decide), fun _ => ?_⟩
    subst e
    obtain ⟨h1, h2, h3, h4, ⟨a1, a2, a3, a4⟩, h6⟩ := h
    have hn := h1.1
    have ok := h2
    obtain ⟨p1, p2, p3, p4, p5⟩ := h2
    rw [a3, a1, a2, c1, pk_sub p2]
    rw [show xIs T j (.inl s) = pIs T j s from rfl] at hK
    refine zeqN (by omega) (by decide) (fun c => ⟨hC, s_length_m hs hj (zeqN (by omega) (by omega) (fun c2 => ?_) (fun c2 => ?_))⟩) (fun c => ?_)
    · -- the letters
      have loop : ∀ m k, k + m = zLn j → (∀ i, i < k → T (s.1.2.1 + i) = nI (zCh j i)) → AW 39 [some (zR 0 0), some (zR 97 j), some (zI (1 : Int32)), some (zI (nI k))] [] σ := by
        intro m
        induction m with
        | zero =>
          intro k hk hall
          have yes : pIs T j s = true := decide_eq_true ⟨c, c2, fun i hi => hall i (by omega)⟩
          rw [bI_t yes] at hK
          refine sX6_is_39 hA ⟨hC, s_length_m hs hj ?_⟩
          refine zltN (by omega) (by omega) (fun q => absurd q (by omega)) (fun _ => ⟨Or.inr rfl, _, rfl, hK⟩)
        | succ m ih =>
          intro k hk hall
          refine sX6_is_39 hA ⟨hC, s_length_m hs hj ?_⟩
          refine zltN (by omega) (by omega) (fun _ => ⟨fun q => absurd q (by decide), fun _ => ?_⟩) (fun q => absurd q (by omega))
          have e1 : gI σ 0 9 0 + nI k = nI (s.1.2.1 + k) := by rw [a2, nI_add]
          refine ⟨zix _ e1 (by omega), hC, s_charAt_m hs hj rfl (by omega) ?_⟩
          rw [zcl_n _ e1, h1.2.2.2.1 _ (by omega), c1, nI_add]
          refine ⟨fun q => ih (k + 1) (by omega) (fun i hi => ?_), fun q => ?_⟩
          · by_cases z : i = k
            · subst z; exact q
            · exact hall i (by omega)
          · refine no ?_ (k + 1)
            rw [bI_f (fun z => q ((of_decide_eq_true z).2.2 k (by omega)))] at hK
            exact hK
      exact loop (zLn j) 0 (by omega) (fun i hi => absurd hi (by omega))
    · refine no ?_ 0
      rw [bI_f (fun z => c2 (of_decide_eq_true z).2.1)] at hK
      exact hK
    · refine no ?_ 0
      rw [bI_f (fun z => c (of_decide_eq_true z).1)] at hK
      exact hK
  · subst e
    refine ⟨fun _ => no ?_ 0, fun q => absurd rfl q⟩
    rw [bI_f (show ¬ xIs T j (.inr f) = true from fun q => Bool.false_ne_true q)] at hK
    exact hK
theorem m_takes {K : Int32 → zS → Prop} {j : Nat} (hj : j < 13) (h : rS T n x σ) (hK : ∀ σ', rS T n (xTakes T n j x) σ' → rF σ σ' → K (bI (xIs T j x = true)) σ') : zCallI zcl Zm G (d + 5) mX6_takes [zR 0 0, zR 97 j] σ K := by
  refine zmeth VX6_ok pX6_takes rfl (by decide) (Nat.le_of_ble_eq_true rfl) (fun AW hA => ?_)
  refine sX6_takes_0 hA (m_is hj h ?_)
  unfold xTakes at hK
  refine zbr (fun c => ?_) (fun c => ?_)
  · rw [if_neg c] at hK
    exact ⟨bI_01 _, _, rfl, hK σ h rF.refl⟩
  · rw [if_pos c] at hK
    rcases x with s | f
    · exact m_adv h (fun σ' h' hf => ⟨bI_01 _, _, rfl, hK σ' h' hf⟩)
    · exact absurd c (fun q => Bool.false_ne_true q)
theorem m_expects {K : zS → Prop} {j : Nat} (hj : j < 13) (h : rS T n x σ) (hK : ∀ σ', rS T n (xExp T n j x) σ' → rF σ σ' → K σ') : zCallV zcl Zm G (d + 6) mX6_expects [zR 0 0, zR 97 j] σ K := by
  refine zmeth VX6_ok pX6_expects rfl (by decide) (Nat.le_of_ble_eq_true rfl) (fun AW hA => ?_)
  refine sX6_expects_0 hA (m_takes hj h (fun σ1 h1 f1 => ?_))
  unfold xExp at hK
  unfold xTakes at h1
  refine zbr (fun c => ?_) (fun c => ⟨rfl, ?_⟩)
  · rw [if_neg c] at hK h1
    exact m_errs (k := 1) rfl (Or.inl rfl) h1 (fun σ' h' hf => ⟨rfl, hK σ' h' (f1.trans hf)⟩)
  · rw [if_pos c] at hK h1
    exact hK σ1 h1 f1
theorem m_number {K : Int32 → zS → Prop} {y z : Int32} (h : rS T n x σ) (hK : ∀ σ', rS T n (xNum T n y.toInt z.toInt x).2 σ' → rF σ σ' → K (nI (xNum T n y.toInt z.toInt x).1) σ') : zCallI zcl Zm G (d + 2) mX6_number [zR 0 0, zI y, zI z] σ K := by
  refine zmeth VX6_ok pX6_number rfl (by decide) (Nat.le_of_ble_eq_true rfl) (fun AW hA => ?_)
  have bad : ∀ (f : Nat × Nat) (o : Option zV) (σ1 : zS), rS T n (.inr f) σ1 → K 0 σ1 → AW 47 [some (zR 0 0), some (zI y), some (zI z), o] [] σ1 := fun f o σ1 h1 hk =>
    sX6_number_j_47 hA (m_good h1 (fun s e => by cases e) (fun _ _ => ⟨fun _ => ⟨_, rfl, hk⟩, fun q => absurd rfl q⟩))
  have bad2 : ∀ (f : Nat × Nat) (o : Option zV) (σ1 : zS), rS T n (.inr f) σ1 → K 0 σ1 → AW 20 [some (zR 0 0), some (zI y), some (zI z), o] [] σ1 := fun f o σ1 h1 hk =>
    sX6_number_j_20 hA (m_good h1 (fun s e => by cases e) (fun _ _ => ⟨fun _ => bad f o σ1 h1 hk, fun q => absurd rfl q⟩))
  refine sX6_number_j_0 hA (m_good h (fun s e => ?_) (fun f e => ?_))
  · subst e
    refine ⟨fun q => absurd q (by decide), fun _ => ?_⟩
    have hh := h
    obtain ⟨h1, h2, h3, h4, ⟨a1, a2, a3, a4⟩, h6⟩ := h
    obtain ⟨p1, p2, p3, p4, p5⟩ := h2
    unfold xNum at hK
    dsimp only at hK
    rw [a3, c2]
    refine zeqN (by omega) (by decide) (fun c => ?_) (fun c => ?_)
    · rw [if_pos c] at hK
      refine sX6_number_j_20 hA (m_good hh (fun _ _ => ⟨fun q => absurd q (by decide), fun _ => m_in ?_⟩) (fun f e => by cases e))
      rw [a4 c, i64, i64, i64, nI_toInt (by omega)]
      refine zbr (fun c2 => ?_) (fun c2 => ?_)
      · rw [if_neg c2] at hK
        exact m_errs (k := 2) rfl (Or.inr (Or.inl rfl)) hh (fun σ1 g1 f1 => bad _ _ σ1 g1 (hK σ1 g1 f1))
      · rw [if_pos c2] at hK
        refine sX6_number_j_47 hA (m_good hh (fun _ _ => ⟨fun q => absurd q (by decide), fun _ => m_adv hh (fun σ1 g1 f1 => ⟨_, rfl, ?_⟩)⟩) (fun f e => by cases e))
        rw [a4 c]
        exact hK σ1 g1 f1
    · rw [if_neg c] at hK
      exact m_errs (k := 1) rfl (Or.inl rfl) hh (fun σ1 g1 f1 => bad2 _ _ σ1 g1 (hK σ1 g1 f1))
  · subst e
    exact ⟨fun _ => bad2 f _ σ h (hK σ h rF.refl), fun q => absurd rfl q⟩
theorem m_toldBy {K : Int32 → zS → Prop} {y z : Int32} {j : Nat} (hj : j < 13) (h : rS T n x σ) (hK : ∀ σ', rS T n (xTold T n j y.toInt z.toInt x).2 σ' → rF σ σ' → K (nI (xTold T n j y.toInt z.toInt x).1) σ') : zCallI zcl Zm G (d + 7) mX6_toldBy [zR 0 0, zR 97 j, zI y, zI z] σ K := by
  refine zmeth VX6_ok pX6_toldBy rfl (by decide) (Nat.le_of_ble_eq_true rfl) (fun AW hA => ?_)
  exact sX6_toldBy_0 hA (m_expects hj h (fun σ1 h1 f1 => m_number h1 (fun σ2 h2 f2 => ⟨_, rfl, hK σ2 h2 (f1.trans f2)⟩)))
end RD
