/-! THE MODEL: bits, the arms, the hours -/
theorem wM.fr {w : Nat → Nat} {I L A B : List Nat} {σ σ' : zS} (h : wM w σ) (hf : zFr I L A B σ σ') (h1 : 1 ∉ A := by decide) : wM w σ' := by
  unfold wM
  rw [hf.A 1 h1]
  exact h
theorem m_bit {G : zG} {d : Nat} {σ : zS} {s k : Nat} {x y : Int32} {K : Int32 → zS → Prop} (hx : x = nI s) (hy : y = nI k) (hs : s < 2 ^ 31) (hk : k < 31) (h : K (nI (s / 2 ^ k % 2)) σ) : zCallI zcl Zm G d mX6_bit [zI x, zI y] σ K := by
  refine zmeth VX6_ok pX6_bit rfl (by decide) (Nat.le_of_ble_eq_true rfl) (fun AW ha => ?_)
  refine sX6_bit_0 ha ⟨_, rfl, ?_⟩
  rw [hx, hy, c1, show (nI 1 : Int32) = 1 from rfl, bitN hs hk]; exact h
theorem m_bits {G : zG} {d : Nat} {σ : zS} {s : Nat} {x : Int32} {K : Int32 → zS → Prop} (hx : x = nI s) (hs : s < 2 ^ 31) (h : K (nI (obCnt s 16)) σ) : zCallI zcl Zm G d mX6_bits [zI x] σ K := by
  refine zmeth VX6_ok pX6_bits rfl (by decide) (Nat.le_of_ble_eq_true rfl) (fun AW ha => ?_)
  refine sX6_bits_0 ha ?_
  have loop : ∀ n i, i + n = 16 → AW 4 [some (zI x), some (zI (nI (obCnt s i))), some (zI (nI i))] [] σ := by
    intro n
    induction n with
    | zero =>
      intro i hi
      obtain rfl : i = 16 := by omega
      exact sX6_bits_4 ha ⟨fun q => absurd q (by decide), fun _ => ⟨_, rfl, h⟩⟩
    | succ n ih =>
      intro i hi
      refine sX6_bits_4 ha ⟨fun _ => ?_, fun q => absurd (nI_lt (a := i) (b := 16) (by omega) (by decide)) q⟩
      have := ih (i + 1) (by omega)
      rw [hx] at this ⊢
      rw [bitN hs (by omega), nI_add, c1, nI_add]
      exact this
  exact loop 16 0 rfl
theorem m_isPlace {G : zG} {d : Nat} {w : Nat → Nat} {σ : zS} {p : Int64} {K : Int32 → zS → Prop} (hw : wM w σ) (hI : obInv w) (h : K (bI ((0 ≤ p.toInt ∧ p.toInt < w 4) ∨ (10 ≤ p.toInt ∧ p.toInt < 10 + w 3))) σ) : zCallI zcl Zm G (d + 2) mX6_isPlace [zR 0 0, zL p] σ K := by
  refine zmeth VX6_ok pX6_isPlace rfl (by decide) (Nat.le_of_ble_eq_true rfl) (fun AW ha => ?_)
  have hb := hI.b
  refine sX6_isPlace_0 ha (m_isPost hw hI (zbr (fun c => m_isInn hw hI ?_) (fun c => ⟨Or.inr rfl, _, rfl, ?_⟩)))
  · have e : (0 ≤ (p - 10).toInt ∧ (p - 10).toInt < (w 3 : Int)) ↔ (10 ≤ p.toInt ∧ p.toInt < 10 + w 3) := by
      rw [Int64.toInt_sub, show (10 : Int64).toInt = 10 from rfl]
      have h1 := Int64.toInt_lt p
      have h2 := Int64.le_toInt p
      rw [Int.bmod_def]
      split <;> omega
    refine zbr (fun c2 => ⟨Or.inl rfl, _, rfl, ?_⟩) (fun c2 => ⟨Or.inr rfl, _, rfl, ?_⟩)
    · rw [bI_f (by rw [e] at c2; omega)] at h; exact h
    · rw [bI_t (by rw [e] at c2; omega)] at h; exact h
  · rw [bI_t (Or.inl c)] at h; exact h
theorem m_allPosts {G : zG} {d : Nat} {w : Nat → Nat} {σ : zS} {K : Int32 → zS → Prop} (hw : wM w σ) (hI : obInv w) (h : K (nI (2 ^ w 4 - 1)) σ) : zCallI zcl Zm G (d + 1) mX6_allPosts [zR 0 0] σ K := by
  refine zmeth VX6_ok pX6_allPosts rfl (by decide) (Nat.le_of_ble_eq_true rfl) (fun AW ha => ?_)
  have hb := hI.b
  refine sX6_allPosts_0 ha (m_posts hw ⟨_, rfl, ?_⟩)
  rw [bit1 (by omega), c1, pk_sub (Nat.two_pow_pos _)]; exact h
/-- what is told for a question, as it stands in the scratch -/
def mPar (P : obP) (σ : zS) : Prop := gI σ 0 17 0 = nI P.1 ∧ gI σ 0 18 0 = nI P.2.1 ∧ gI σ 0 19 0 = nI P.2.2.1 ∧ agr 7 (gA σ 15 0) P.2.2.2.1 ∧ agr 8 (gA σ 16 0) P.2.2.2.2
theorem mPar.fr {P : obP} {I L A B : List Nat} {σ σ' : zS} (h : mPar P σ) (hf : zFr I L A B σ σ') (i1 : 17 ∉ I := by decide) (i2 : 18 ∉ I := by decide) (i3 : 19 ∉ I := by decide) (a1 : 15 ∉ A := by decide) (a2 : 16 ∉ A := by decide) : mPar P σ' := by
  unfold mPar
  rw [hf.I 17 i1, hf.I 18 i2, hf.I 19 i3, hf.A 15 a1, hf.A 16 a2]
  exact h
/-- as it is -/
def obAs (w : Nat → Nat) : obP := (w 1, 0, 127, obArm w, obWh w)
theorem obAs_ok {w : Nat → Nat} (hI : obInv w) : obPok w (obAs w) := by
  have hb := hI.b
  refine ⟨hb.2.1, (by show 0 < 2 ^ 16; decide), (by show 127 < 2 ^ 16; decide), fun p hp hm => hI.arm hp hm, fun i hi => ?_⟩
  have := hI.wh hi
  show obWh w i < _
  omega
theorem m_asItIs {G : zG} {d : Nat} {w : Nat → Nat} {σ : zS} {K : zS → Prop} (hw : wM w σ) (h : ∀ σ', mPar (obAs w) σ' → zFr [17, 18, 19] [] [15, 16] [] σ σ' → K σ') : zCallV zcl Zm G (d + 1) mX6_asItIs [zR 0 0] σ K := by
  refine zmeth VX6_ok pX6_asItIs rfl (by decide) (Nat.le_of_ble_eq_true rfl) (fun AW ha => ?_)
  refine sX6_asItIs_0 ha ⟨zin_lit rfl, ?_⟩
  rw [hw 1 (by decide)]
  have loop2 : ∀ n i (σ2 : zS), i + n = 8 → zFr [17, 18, 19] [] [15, 16] [] σ σ2 → gI σ2 0 17 0 = nI (w 1) → gI σ2 0 18 0 = nI 0 → gI σ2 0 19 0 = nI 127 → agr 7 (gA σ2 15 0) (obArm w) → agr i (gA σ2 16 0) (obWh w) → AW 48 [some (zR 0 0), some (zI (nI i))] [] σ2 := by
    intro n
    induction n with
    | zero =>
      intro i σ2 hi hf e1 e2 e3 e4 e5
      obtain rfl : i = 8 := by omega
      exact sX6_asItIs_48 ha ⟨fun q => absurd q (by decide), fun _ => ⟨rfl, h σ2 ⟨e1, e2, e3, e4, e5⟩ hf⟩⟩
    | succ n ih =>
      intro i σ2 hi hf e1 e2 e3 e4 e5
      have e : (56 : Int32) + (2 : Int32) * nI i + (1 : Int32) = nI (57 + 2 * i) := by rw [c56, c2, c1, pk_mul, nI_add, nI_add]; congr 1; omega
      refine sX6_asItIs_48 ha ⟨fun _ => ⟨zix _ e (by omega), zix i rfl (by omega), ?_⟩, fun q => absurd (nI_lt (a := i) (b := 8) (by omega) (by decide)) q⟩
      rw [zcl_n _ e, zcl_n i rfl, (hw.fr hf) _ (by omega), c1, nI_add]
      refine ih (i + 1) _ (by omega) (hf.uA 16 _) e1 e2 e3 e4 (fun j hj => ?_)
      show upd (gA σ2 16 0) i (nI (w (57 + 2 * i))) j = _
      by_cases ej : j = i
      · subst ej; rw [pk_us]; rfl
      · rw [pk_un ej]; exact e5 j (by omega)
  have loop1 : ∀ n i (σ2 : zS), i + n = 7 → zFr [17, 18, 19] [] [15, 16] [] σ σ2 → gI σ2 0 17 0 = nI (w 1) → gI σ2 0 18 0 = nI 0 → gI σ2 0 19 0 = nI 127 → agr i (gA σ2 15 0) (obArm w) → AW 23 [some (zR 0 0), some (zI (nI i))] [] σ2 := by
    intro n
    induction n with
    | zero =>
      intro i σ2 hi hf e1 e2 e3 e4
      obtain rfl : i = 7 := by omega
      exact sX6_asItIs_23 ha ⟨fun q => absurd q (by decide), fun _ => loop2 8 0 σ2 rfl hf e1 e2 e3 e4 (fun j hj => absurd hj (by omega))⟩
    | succ n ih =>
      intro i σ2 hi hf e1 e2 e3 e4
      refine sX6_asItIs_23 ha ⟨fun _ => m_armOf (hw.fr hf) rfl (by omega) ⟨zix i rfl (by omega), ?_⟩, fun q => absurd (nI_lt (a := i) (b := 7) (by omega) (by decide)) q⟩
      rw [zcl_n i rfl, c1, nI_add]
      refine ih (i + 1) _ (by omega) (hf.uA 15 _) e1 e2 e3 (fun j hj => ?_)
      show upd (gA σ2 15 0) i (nI (obArm w i)) j = _
      by_cases ej : j = i
      · subst ej; rw [pk_us]
      · rw [pk_un ej]; exact e4 j (by omega)
  exact loop1 7 0 _ rfl (((zFr.refl.uI 17 _).uI 18 _).uI 19 _) rfl rfl rfl (fun j hj => absurd hj (by omega))
