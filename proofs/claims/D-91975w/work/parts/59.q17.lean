/-! QUESTIONS: rests -/
theorem rk : ∀ k, k < 4 → nI k &&& 1 = nI (k % 2) ∧ nI k >>> ((1 : Int32) &&& 31) = nI (k / 2) ∧ (1 : Int32) - nI (k % 2) = nI (1 - k % 2) ∧ (1 : Int32) - nI (k / 2) = nI (1 - k / 2) ∧ nI k - nI k / 2 * 2 = nI (k % 2) ∧ nI k / 2 = nI (k / 2) := by decide +kernel
abbrev obG1 (w : Nat → Nat) (i j e1 e2 : Nat) : Int32 := obPay (obHome w (obG w i j e1 e2) i) (nI e1)
abbrev obG2 (w : Nat → Nat) (i j e1 e2 : Nat) : Int32 := obPay (obHome w (obG w i j e1 e2) j) (nI e2)
def obRest (w : Nat → Nat) (i j k : Nat) : Bool := !decide (obG1 w i j (k % 2) (k / 2) < obG1 w i j (1 - k % 2) (k / 2)) && !decide (obG2 w i j (k % 2) (k / 2) < obG2 w i j (k % 2) (1 - k / 2))
def oRests (w : Nat → Nat) (a b : Int32) : Int32 := if twOk w a b then nI (obSet (obRest w a.toNatClampNeg b.toNatClampNeg) 4) else -2
theorem m_rests {G : zG} {d : Nat} {w : Nat → Nat} {σ : zS} {a b : Int32} {K : Int32 → zS → Prop} (hw : wM w σ) (hI : obInv w) (h : ∀ σ', mSc σ σ' → K (oRests w a b) σ') : zCallI zcl Zm G (d + 8) mX6_rests [zR 0 0, zI a, zI b] σ K := by
  refine zmeth VX6_ok pX6_rests rfl (by decide) (Nat.le_of_ble_eq_true rfl) (fun AW ha => ?_)
  unfold oRests at h
  refine sX6_rests_0 ha (m_areTwo hw hI (zbr (fun c => ⟨_, rfl, by have h := h σ mSc.refl; rw [if_neg c] at h; exact h⟩) (fun c => ?_)))
  rw [if_pos c] at h
  obtain ⟨e, hl⟩ := okN c.1 (by have := hI.b; omega)
  obtain ⟨e2, hl2⟩ := okN c.2.1 (by have := hI.b; omega)
  have hij : a.toNatClampNeg ≠ b.toNatClampNeg := fun q => c.2.2 (by rw [e, e2, q])
  refine loopN (N := 4) (I := fun k => ∀ o1 o2 o3 σ2, mSc σ σ2 → AW 17 [some (zR 0 0), some (zI a), some (zI b), some (zI (nI (obSet (obRest w a.toNatClampNeg b.toNatClampNeg) k))), some (zI (nI k)), o1, o2, o3] [] σ2) (fun o1 o2 o3 σ2 f2 => ?_) (fun k hk ih o1 o2 o3 σ2 f2 => ?_) 0 (Nat.zero_le _) none none none σ mSc.refl
  · exact sX6_rests_17 ha ⟨fun c => absurd c (by decide), fun _ => ⟨_, rfl, h σ2 f2⟩⟩
  · refine sX6_rests_17 ha ?_
    obtain ⟨k1, k2, k3, k4, -, -⟩ := rk k hk
    rw [k1, k2, k3, k4, c4]
    have h1 : k % 2 ≤ 1 := by omega
    have h2 : k / 2 ≤ 1 := by omega
    refine zltN (by omega) (by omega) (fun _ => ?_) (fun c => absurd c (by omega))
    refine m_getsBy (hw.sc f2) hI e e2 rfl rfl hl hl2 hij h1 h2 (fun σ3 f3 => ?_)
    have g3 : mSc σ σ3 := zFr.trans f2 f3
    refine m_getsBy (hw.sc g3) hI e e2 rfl rfl hl hl2 hij (by omega) h2 (fun σ4 f4 => ?_)
    have g4 : mSc σ σ4 := zFr.trans g3 f4
    rw [if_pos rfl, if_pos rfl]
    have no : ∀ σ9, mSc σ σ9 → obRest w a.toNatClampNeg b.toNatClampNeg k = false → AW 17 [some (zR 0 0), some (zI a), some (zI b), some (zI (nI (obSet (obRest w a.toNatClampNeg b.toNatClampNeg) k) ||| 0)), some (zI (nI k + 1)), some (zI (nI (k % 2))), some (zI (nI (k / 2))), some (zI 0)] [] σ9 := by
      intro σ9 g9 hf
      rw [obSet_f hf, c1, nI_add]; exact ih _ _ _ σ9 g9
    refine ⟨fun c2 => ⟨fun _ => no σ4 g4 (by unfold obRest; rw [decide_eq_true c2]; rfl), fun q => absurd rfl q⟩, fun c2 => ?_⟩
    refine m_getsBy (hw.sc g4) hI e e2 rfl rfl hl hl2 hij h1 h2 (fun σ5 f5 => ?_)
    have g5 : mSc σ σ5 := zFr.trans g4 f5
    refine m_getsBy (hw.sc g5) hI e e2 rfl rfl hl hl2 hij h1 (by omega) (fun σ6 f6 => ?_)
    have g6 : mSc σ σ6 := zFr.trans g5 f6
    rw [if_neg (by decide), if_neg (by decide)]
    refine ⟨fun c3 => ⟨fun _ => no σ6 g6 (by unfold obRest; rw [decide_eq_true c3]; exact Bool.and_false _), fun q => absurd rfl q⟩, fun c3 => ⟨fun q => absurd q (by decide), fun _ => ?_⟩⟩
    rw [obSet_t (c := obRest w a.toNatClampNeg b.toNatClampNeg) (by unfold obRest; rw [decide_eq_false c2, decide_eq_false c3]; rfl) (by omega), c1, nI_add]
    exact ih _ _ _ σ6 g6
theorem x_isRest {G : zG} {d : Nat} {w : Nat → Nat} {σ : zS} {i j k : Nat} {x y a b : Int32} {K : Int32 → zS → Prop} (hw : wX w σ) (hI : obInv w) (hx : x = nI i) (hy : y = nI j) (hk : k < 4) (ha : a = nI (k % 2)) (hb2 : b = nI (k / 2)) (hi : i < w 7) (hj : j < w 7) (hij : i ≠ j) (h : ∀ σ', xSc σ σ' → K (bI (obRest w i j k = true)) σ') : zCallI zcl Zx G (d + 9) mX0_isRest [zR 0 0, zI x, zI y, zI a, zI b] σ K := by
  refine zmeth VX0_ok pX0_isRest rfl (by decide) (Nat.le_of_ble_eq_true rfl) (fun AW hA => ?_)
  obtain ⟨-, -, k3, k4, -, -⟩ := rk k hk
  have hb := hI.b
  have h1 : k % 2 ≤ 1 := by omega
  have h2 : k / 2 ≤ 1 := by omega
  have hji : ¬ nI j = nI i := fun q => hij ((nI_eq (by omega) (by omega)).mp q).symm
  subst hx hy ha hb2
  refine sX0_isRest_0 hA ?_
  rw [k3, k4]
  refine x_getsOf hw hI rfl rfl rfl rfl rfl hi hj hij (by omega) h2 hi (fun σ1 f1 => ?_)
  refine x_getsOf (hw.sc f1) hI rfl rfl rfl rfl rfl hi hj hij h1 h2 hi (fun σ2 f2 => ?_)
  have g2 : xSc σ σ2 := xFr.trans f1 f2
  rw [if_pos rfl, if_pos rfl]
  refine ⟨fun c2 => ⟨Or.inl rfl, _, rfl, ?_⟩, fun c2 => ?_⟩
  · have h := h σ2 g2
    rw [bI_f (by unfold obRest; rw [decide_eq_true c2, Bool.not_true, Bool.false_and]; decide)] at h; exact h
  · refine x_getsOf (hw.sc g2) hI rfl rfl rfl rfl rfl hi hj hij h1 (by omega) hj (fun σ3 f3 => ?_)
    have g3 : xSc σ σ3 := xFr.trans g2 f3
    refine x_getsOf (hw.sc g3) hI rfl rfl rfl rfl rfl hi hj hij h1 h2 hj (fun σ4 f4 => ?_)
    have g4 : xSc σ σ4 := xFr.trans g3 f4
    have h := h σ4 g4
    rw [if_neg hji, if_neg hji]
    refine ⟨fun c3 => ⟨Or.inl rfl, _, rfl, ?_⟩, fun c3 => ⟨Or.inr rfl, _, rfl, ?_⟩⟩
    · rw [bI_f (by unfold obRest; rw [decide_eq_true c3, Bool.not_true, Bool.and_false]; decide)] at h; exact h
    · rw [bI_t (by unfold obRest; rw [decide_eq_false c2, decide_eq_false c3]; rfl)] at h; exact h
theorem x_rests {G : zG} {d : Nat} {w : Nat → Nat} {σ : zS} {a b : Int32} {K : Int32 → zS → Prop} (hw : wX w σ) (hI : obInv w) (h : ∀ σ', xSc σ σ' → K (oRests w a b) σ') : zCallI zcl Zx G (d + 10) mX0_rests [zR 0 0, zI a, zI b] σ K := by
  refine zmeth VX0_ok pX0_rests rfl (by decide) (Nat.le_of_ble_eq_true rfl) (fun AW ha => ?_)
  unfold oRests at h
  refine sX0_rests_0 ha (x_areTwo hw hI (zbr (fun c => ⟨_, rfl, by have h := h σ xSc.refl; rw [if_neg c] at h; exact h⟩) (fun c => ?_)))
  rw [if_pos c] at h
  obtain ⟨e, hl⟩ := okN c.1 (by have := hI.b; omega)
  obtain ⟨e2, hl2⟩ := okN c.2.1 (by have := hI.b; omega)
  have hij : a.toNatClampNeg ≠ b.toNatClampNeg := fun q => c.2.2 (by rw [e, e2, q])
  refine loopN (N := 4) (I := fun k => ∀ σ2, xSc σ σ2 → AW 17 [some (zR 0 0), some (zI a), some (zI b), some (zI (nI (obSet (obRest w a.toNatClampNeg b.toNatClampNeg) k))), some (zI (nI k))] [] σ2) (fun σ2 f2 => ?_) (fun k hk ih σ2 f2 => ?_) 0 (Nat.zero_le _) σ xSc.refl
  · exact sX0_rests_17 ha ⟨fun c => absurd c (by decide), fun _ => ⟨_, rfl, h σ2 f2⟩⟩
  · refine sX0_rests_17 ha ?_
    obtain ⟨-, -, -, -, k5, k6⟩ := rk k hk
    rw [k5, k6, c4]
    refine zltN (by omega) (by omega) (fun _ => ⟨by decide, by decide, x_isRest (hw.sc f2) hI e e2 hk rfl rfl hl hl2 hij (fun σ3 f3 => zbr (fun c2 => ?_) (fun c2 => ?_))⟩) (fun c => absurd c (by omega))
    · rw [obSet_f (c := obRest w a.toNatClampNeg b.toNatClampNeg) (by simpa using c2), c1, nI_add]; exact ih σ3 (xFr.trans f2 f3)
    · rw [obSet_t (c := obRest w a.toNatClampNeg b.toNatClampNeg) c2 (by omega), c1, nI_add]; exact ih σ3 (xFr.trans f2 f3)
