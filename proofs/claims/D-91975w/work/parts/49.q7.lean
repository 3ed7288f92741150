/-! QUESTIONS: nth, round, houses -/
def obNth (w : Nat → Nat) (p : Nat) : Nat → (Nat → Nat) → Int32 → Int32
  | 0, _, v => v
  | n + 1, a, _ => if (obS w a p).1 < 10 then -1 else obNth w p n (obS w a p).2.2 (nI ((obS w a p).1 - 10))
theorem obNth_f {w : Nat → Nat} {p n : Nat} {a : Nat → Nat} {v : Int32} (h : (obS w a p).1 < 10) : obNth w p (n + 1) a v = -1 := if_pos h
theorem obNth_t {w : Nat → Nat} {p n : Nat} {a : Nat → Nat} {v : Int32} (h : ¬ (obS w a p).1 < 10) : obNth w p (n + 1) a v = obNth w p n (obS w a p).2.2 (nI ((obS w a p).1 - 10)) := if_neg h
abbrev upTo20 (b : Int32) : Prop := 1 ≤ b.toInt ∧ b.toInt ≤ 20
theorem ok20 {b : Int32} (h : upTo20 b) : b = nI b.toNatClampNeg ∧ b.toNatClampNeg ≤ 20 ∧ 1 ≤ b.toNatClampNeg := by
  have := okN' (a := b) (n := 20) ⟨by omega, h.2⟩
  refine ⟨this.1, this.2, ?_⟩
  have e := congrArg Int32.toInt this.1
  rw [nI_toInt (by omega)] at e
  omega
def oNth (w : Nat → Nat) (a b : Int32) : Int32 := if poOk w a ∧ upTo20 b then obNth w a.toNatClampNeg b.toNatClampNeg (obArm w) 0 else -2
theorem m_nth {G : zG} {d : Nat} {w : Nat → Nat} {σ : zS} {a b : Int32} {K : Int32 → zS → Prop} (hw : wM w σ) (hI : obInv w) (h : ∀ σ', mSc σ σ' → K (oNth w a b) σ') : zCallI zcl Zm G (d + 4) mX6_nth [zR 0 0, zI a, zI b] σ K := by
  refine zmeth VX6_ok pX6_nth rfl (by decide) (Nat.le_of_ble_eq_true rfl) (fun AW ha => ?_)
  unfold oNth at h
  refine sX6_nth_0 ha (m_isPost hw hI ?_)
  rw [i64]
  refine zbr (fun c => ⟨_, rfl, by have h := h σ mSc.refl; rw [if_neg (fun q => c q.1)] at h; exact h⟩) (fun c => m_in ?_)
  rw [i64]
  refine zbr (c := upTo20 b) (fun c2 => ⟨_, rfl, by have h := h σ mSc.refl; rw [if_neg (fun q => c2 q.2)] at h; exact h⟩) (fun c2 => ?_)
  rw [if_pos ⟨c, c2⟩] at h
  have hb := hI.b
  obtain ⟨e, hl⟩ := okN c
  obtain ⟨e2, hl2, _⟩ := ok20 c2
  refine m_soloBegin hw hI (fun σ1 p1 a1 f1 => ?_)
  have loop : ∀ (n k : Nat) (u : Nat → Nat) (v : Int32) (σ2 : zS), k + n = b.toNatClampNeg → obArmOk w u → agr 7 (gA σ2 20 0) u → ¬ v = -1 → zFr [30] [] [20] [] σ1 σ2 → obNth w a.toNatClampNeg n u v = obNth w a.toNatClampNeg b.toNatClampNeg (obArm w) 0 → AW 33 [some (zR 0 0), some (zI a), some (zI b), some (zI v), some (zI (nI k))] [] σ2 := by
    intro n
    induction n with
    | zero =>
      intro k u v σ2 hk hu hA hv f2 he
      refine sX6_nth_33 ha ?_
      rw [show (nI k < b) = (nI k < nI b.toNatClampNeg) by rw [← e2]]
      have h := h σ2 (zFr.trans f1 f2.wk)
      rw [← he] at h
      exact zltN (by omega) (by omega) (fun c => absurd c (by omega)) (fun _ => ⟨_, rfl, h⟩)
    | succ n ih =>
      intro k u v σ2 hk hu hA hv f2 he
      have h14 := obS_lt hI hu hl
      refine sX6_nth_33 ha ?_
      rw [show (nI k < b) = (nI k < nI b.toNatClampNeg) by rw [← e2]]
      refine zltN (by omega) (by omega) (fun _ => ⟨fun q => absurd q hv, fun _ => m_solo (hw.sc (zFr.trans f1 f2.wk)) hI (p1.fr f2) (obAs_ok hI) e hl hA hu (fun σ3 h2 h3 f3 => ?_)⟩) (fun c => absurd c (by omega))
      rw [c1, nI_add]
      have f4 : zFr [30] [] [20] [] σ1 σ3 := zFr.trans f2 f3
      by_cases c3 : (obS w u a.toNatClampNeg).1 < 10
      · rw [obNth_f c3] at he
        rw [if_pos c3]
        have h := h σ3 (zFr.trans f1 f4.wk)
        rw [← he] at h
        exact sX6_nth_33 ha ⟨fun _ => ⟨fun _ => ⟨_, rfl, h⟩, fun q => absurd rfl q⟩, fun _ => ⟨_, rfl, h⟩⟩
      · rw [obNth_t c3] at he
        rw [if_neg c3]
        exact ih (k + 1) _ _ σ3 (by omega) h14.2 h2 (pI_ne (show (obS w u a.toNatClampNeg).1 - 10 < 2 ^ 31 by omega)) f4 he
  rw [← nI_0] at loop ⊢
  exact loop b.toNatClampNeg 0 (obArm w) _ σ1 (by omega) (armOk0 hI) a1 (by decide) zFr.refl rfl
theorem x_nth {G : zG} {d : Nat} {w : Nat → Nat} {σ : zS} {a b : Int32} {K : Int32 → zS → Prop} (hw : wX w σ) (hI : obInv w) (h : ∀ σ', xSc σ σ' → K (oNth w a b) σ') : zCallI zcl Zx G (d + 8) mX0_nth [zR 0 0, zI a, zI b] σ K := by
  refine zmeth VX0_ok pX0_nth rfl (by decide) (Nat.le_of_ble_eq_true rfl) (fun AW ha => ?_)
  unfold oNth at h
  refine sX0_nth_0 ha (x_isPost hw hI (zbr (fun c => ⟨_, rfl, by have h := h σ xSc.refl; rw [if_neg (fun q => c q.1)] at h; exact h⟩) (fun c => x_in ?_)))
  rw [i64]
  refine zbr (c := upTo20 b) (fun c2 => ⟨_, rfl, by have h := h σ xSc.refl; rw [if_neg (fun q => c2 q.2)] at h; exact h⟩) (fun c2 => ?_)
  rw [if_pos ⟨c, c2⟩] at h
  have hb := hI.b
  obtain ⟨e, hl⟩ := okN c
  obtain ⟨e2, hl2, hl3⟩ := ok20 c2
  refine x_hoursIs hw hI (fun σ1 p1 a1 _ f1 => ?_)
  have loop : ∀ (n k : Nat) (u : Nat → Nat) (v : Int32) (σ2 : zS), k + n = b.toNatClampNeg → obArmOk w u → agr (w 4) (gA σ2 24 0) u → (0 < k → ∃ q, 10 ≤ q ∧ gI σ2 3 0 0 = nI q ∧ v = nI (q - 10)) → xFr [(3, 0), (3, 1)] [24, 27] σ1 σ2 → obNth w a.toNatClampNeg n u v = obNth w a.toNatClampNeg b.toNatClampNeg (obArm w) 0 → AW 33 [some (zR 0 0), some (zI a), some (zI b), some (zI (nI k))] [] σ2 := by
    intro n
    induction n with
    | zero =>
      intro k u v σ2 hk hu hA hv f2 he
      refine sX0_nth_33 ha ?_
      rw [show (nI k < b) = (nI k < nI b.toNatClampNeg) by rw [← e2]]
      have h := h σ2 (xFr.trans f1.wk f2.wk)
      obtain ⟨q, hq, hg, hv2⟩ := hv (by omega)
      have he : v = _ := he
      rw [← he, hv2] at h
      refine zltN (by omega) (by omega) (fun c => absurd c (by omega)) (fun _ => ⟨_, rfl, ?_⟩)
      rw [hg, sub10 hq]; exact h
    | succ n ih =>
      intro k u v σ2 hk hu hA hv f2 he
      have h14 := obS_lt hI hu hl
      refine sX0_nth_33 ha ?_
      rw [show (nI k < b) = (nI k < nI b.toNatClampNeg) by rw [← e2]]
      refine zltN (by omega) (by omega) (fun _ => x_solo (hw.sc (xFr.trans f1.wk f2.wk)) hI (p1.fr f2) (obAs_ok hI) e hl hA hu (fun σ3 h2 h3 _ f3 => x_isIn h3 (Nat.lt_trans h14.1 (by decide)) ?_)) (fun c => absurd c (by omega))
      have f4 : xFr [(3, 0), (3, 1)] [24, 27] σ1 σ3 := xFr.trans f2 f3
      refine zbr (fun c3 => ⟨_, rfl, ?_⟩) (fun c3 => ?_)
      · have h := h σ3 (xFr.trans f1.wk f4.wk)
        rw [obNth_f (Nat.not_le.mp c3)] at he
        rw [← he] at h; exact h
      · rw [obNth_t (Nat.not_lt.mpr c3)] at he
        rw [c1, nI_add]
        exact ih (k + 1) _ _ σ3 (by omega) h14.2 h2 (fun _ => ⟨_, c3, h3, rfl⟩) f4 he
  rw [← nI_0]
  exact loop b.toNatClampNeg 0 (obArm w) 0 σ1 (by omega) (armOk0 hI) a1 (fun q => absurd q (by omega)) xFr.refl rfl
def obRound (w : Nat → Nat) (p : Nat) : Nat → Nat → (Nat → Nat) → Int32
  | 0, _, _ => -1
  | n + 1, k, a => if (obS w a p).1 < 10 then -1 else if nI (obNumb w (obS w a p).2.2 (w 4)).1 = nI (obNumb w (obArm w) (w 4)).1 then nI k else obRound w p n (k + 1) (obS w a p).2.2
theorem obRound_f {w : Nat → Nat} {p n k : Nat} {a : Nat → Nat} (h : (obS w a p).1 < 10) : obRound w p (n + 1) k a = -1 := if_pos h
theorem obRound_e {w : Nat → Nat} {p n k : Nat} {a : Nat → Nat} (h : ¬ (obS w a p).1 < 10) (h2 : nI (obNumb w (obS w a p).2.2 (w 4)).1 = nI (obNumb w (obArm w) (w 4)).1) : obRound w p (n + 1) k a = nI k := (if_neg h).trans (if_pos h2)
theorem obRound_t {w : Nat → Nat} {p n k : Nat} {a : Nat → Nat} (h : ¬ (obS w a p).1 < 10) (h2 : ¬ nI (obNumb w (obS w a p).2.2 (w 4)).1 = nI (obNumb w (obArm w) (w 4)).1) : obRound w p (n + 1) k a = obRound w p n (k + 1) (obS w a p).2.2 := (if_neg h).trans (if_neg h2)
def oRound (w : Nat → Nat) (a : Int32) : Int32 := if poOk w a then obRound w a.toNatClampNeg 60 1 (obArm w) else -2
theorem m_round {G : zG} {d : Nat} {w : Nat → Nat} {σ : zS} {a : Int32} {K : Int32 → zS → Prop} (hw : wM w σ) (hI : obInv w) (h : ∀ σ', mSc σ σ' → K (oRound w a) σ') : zCallI zcl Zm G (d + 4) mX6_round [zR 0 0, zI a] σ K := by
  refine zmeth VX6_ok pX6_round rfl (by decide) (Nat.le_of_ble_eq_true rfl) (fun AW ha => ?_)
  unfold oRound at h
  refine sX6_round_0 ha (m_isPost hw hI ?_)
  rw [i64]
  refine zbr (fun c => ⟨_, rfl, by have h := h σ mSc.refl; rw [if_neg c] at h; exact h⟩) (fun c => ?_)
  rw [if_pos c] at h
  have hb := hI.b
  obtain ⟨e, hl⟩ := okN c
  refine m_soloBegin hw hI (fun σ1 p1 a1 f1 => m_soloSetting (hw.sc f1) hI a1 (fun σ1' f1' => ?_))
  have fb : mSc σ σ1' := zFr.trans f1 f1'.wk
  have pb := p1.fr f1'
  have ab : agr 7 (gA σ1' 20 0) (obArm w) := by rw [f1'.A 20]; exact a1
  have loop : ∀ (n k : Nat) (u : Nat → Nat) (σ2 : zS), k + n = 61 → obArmOk w u → agr 7 (gA σ2 20 0) u → zFr [30] [] [20, 29] [] σ1' σ2 → obRound w a.toNatClampNeg n k u = obRound w a.toNatClampNeg 60 1 (obArm w) → AW 23 [some (zR 0 0), some (zI a), some (zI (nI (obNumb w (obArm w) (w 4)).1)), some (zI (nI k))] [] σ2 := by
    intro n
    induction n with
    | zero =>
      intro k u σ2 hk hu hA f2 he
      refine sX6_round_23 ha ?_
      have h := h σ2 (zFr.trans fb f2.wk)
      rw [← he] at h
      rw [show (60 : Int32) = nI 60 from rfl]
      exact zltN (by omega) (by omega) (fun _ => ⟨_, rfl, h⟩) (fun c => absurd c (by omega))
    | succ n ih =>
      intro k u σ2 hk hu hA f2 he
      have h14 := obS_lt hI hu hl
      refine sX6_round_23 ha ?_
      rw [show (60 : Int32) = nI 60 from rfl]
      refine zltN (by omega) (by omega) (fun c => absurd c (by omega)) (fun _ => m_solo (hw.sc (zFr.trans fb f2.wk)) hI (pb.fr f2) (obAs_ok hI) e hl hA hu (fun σ3 h2 h3 f3 => inn_m h14.1 (fun c3 => ⟨_, rfl, ?_⟩) (fun c3 => m_soloSetting (hw.sc (zFr.trans fb (zFr.trans f2.wk f3.wk))) hI h2 (fun σ4 f4 => ⟨fun c4 => ⟨_, rfl, ?_⟩, fun c4 => ?_⟩))))
      · have h := h σ3 (zFr.trans fb (zFr.trans f2.wk f3.wk))
        rw [obRound_f c3] at he
        rw [← he] at h; exact h
      · have h := h σ4 (zFr.trans fb (zFr.trans f2.wk (zFr.trans f3.wk f4.wk)))
        rw [obRound_e (Nat.not_lt.mpr c3) c4] at he
        rw [← he] at h; exact h
      · rw [obRound_t (Nat.not_lt.mpr c3) c4] at he
        rw [c1, nI_add]
        exact ih (k + 1) _ σ4 (by omega) h14.2 (by rw [f4.A 20]; exact h2) (zFr.trans f2 (zFr.trans f3.wk f4.wk)) he
  exact loop 60 1 (obArm w) σ1' (by omega) (armOk0 hI) ab zFr.refl rfl
theorem x_round {G : zG} {d : Nat} {w : Nat → Nat} {σ : zS} {a : Int32} {K : Int32 → zS → Prop} (hw : wX w σ) (hI : obInv w) (h : ∀ σ', xSc σ σ' → K (oRound w a) σ') : zCallI zcl Zx G (d + 8) mX0_round [zR 0 0, zI a] σ K := by
  refine zmeth VX0_ok pX0_round rfl (by decide) (Nat.le_of_ble_eq_true rfl) (fun AW ha => ?_)
  unfold oRound at h
  refine sX0_round_0 ha (x_isPost hw hI (zbr (fun c => ⟨_, rfl, by have h := h σ xSc.refl; rw [if_neg c] at h; exact h⟩) (fun c => ?_)))
  rw [if_pos c] at h
  have hb := hI.b
  obtain ⟨e, hl⟩ := okN c
  refine x_hoursIs hw hI (fun σ1 p1 a1 _ f1 => x_settingNow (hw.fr f1) hI a1 (fun σ1' f1' => ?_))
  have fb : xSc σ σ1' := xFr.trans f1.wk f1'.wk
  have pb := p1.fr f1'
  have ab : agr (w 4) (gA σ1' 24 0) (obArm w) := by rw [f1'.A 24 0]; exact a1
  have loop : ∀ (n k : Nat) (u : Nat → Nat) (σ2 : zS), k + n = 61 → obArmOk w u → agr (w 4) (gA σ2 24 0) u → xFr [(3, 0), (3, 1)] [24, 26, 27] σ1' σ2 → obRound w a.toNatClampNeg n k u = obRound w a.toNatClampNeg 60 1 (obArm w) → AW 24 [some (zR 0 0), some (zI a), some (zI (nI (obNumb w (obArm w) (w 4)).1)), some (zI (nI k))] [] σ2 := by
    intro n
    induction n with
    | zero =>
      intro k u σ2 hk hu hA f2 he
      refine sX0_round_24 ha ?_
      have h := h σ2 (xFr.trans fb f2.wk)
      rw [← he] at h
      rw [show (60 : Int32) = nI 60 from rfl]
      exact zltN (by omega) (by omega) (fun _ => ⟨_, rfl, h⟩) (fun c => absurd c (by omega))
    | succ n ih =>
      intro k u σ2 hk hu hA f2 he
      have h14 := obS_lt hI hu hl
      refine sX0_round_24 ha ?_
      rw [show (60 : Int32) = nI 60 from rfl]
      refine zltN (by omega) (by omega) (fun c => absurd c (by omega)) (fun _ => x_solo (hw.sc (xFr.trans fb f2.wk)) hI (pb.fr f2) (obAs_ok hI) e hl hA hu (fun σ3 h2 h3 _ f3 => x_isIn h3 (Nat.lt_trans h14.1 (by decide)) (zbr (fun c3 => ⟨_, rfl, ?_⟩) (fun c3 => x_settingNow (hw.sc (xFr.trans fb (xFr.trans f2.wk f3.wk))) hI h2 (fun σ4 f4 => ⟨fun c4 => ⟨_, rfl, ?_⟩, fun c4 => ?_⟩)))))
      · have h := h σ3 (xFr.trans fb (xFr.trans f2.wk f3.wk))
        rw [obRound_f (Nat.not_le.mp c3)] at he
        rw [← he] at h; exact h
      · have h := h σ4 (xFr.trans fb (xFr.trans f2.wk (xFr.trans f3.wk f4.wk)))
        rw [obRound_e (Nat.not_lt.mpr c3) c4] at he
        rw [← he] at h; exact h
      · rw [obRound_t (Nat.not_lt.mpr c3) c4] at he
        rw [c1, nI_add]
        exact ih (k + 1) _ σ4 (by omega) h14.2 (by rw [f4.A 24 0]; exact h2) (xFr.trans f2 (xFr.trans f3.wk f4.wk)) he
  exact loop 60 1 (obArm w) σ1' (by omega) (armOk0 hI) ab xFr.refl rfl
def obHouses (w : Nat → Nat) (p i : Nat) : Nat → (Nat → Nat) → Nat → Int32
  | 0, _, c => nI c
  | n + 1, a, c => if (obS w a p).1 < 10 then -1 else obHouses w p i n (obS w a p).2.2 (c + if (obS w a p).1 = 10 + i then 1 else 0)
theorem obHouses_f {w : Nat → Nat} {p i n c : Nat} {a : Nat → Nat} (h : (obS w a p).1 < 10) : obHouses w p i (n + 1) a c = -1 := if_pos h
theorem obHouses_t {w : Nat → Nat} {p i n c : Nat} {a : Nat → Nat} (h : ¬ (obS w a p).1 < 10) : obHouses w p i (n + 1) a c = obHouses w p i n (obS w a p).2.2 (c + if (obS w a p).1 = 10 + i then 1 else 0) := if_neg h
def oHouses (w : Nat → Nat) (a b i : Int32) : Int32 := if poOk w a ∧ upTo20 b ∧ inOk w i then obHouses w a.toNatClampNeg i.toNatClampNeg b.toNatClampNeg (obArm w) 0 else -2
theorem m_houses {G : zG} {d : Nat} {w : Nat → Nat} {σ : zS} {a b i : Int32} {K : Int32 → zS → Prop} (hw : wM w σ) (hI : obInv w) (h : ∀ σ', mSc σ σ' → K (oHouses w a b i) σ') : zCallI zcl Zm G (d + 4) mX6_houses [zR 0 0, zI a, zI b, zI i] σ K := by
  refine zmeth VX6_ok pX6_houses rfl (by decide) (Nat.le_of_ble_eq_true rfl) (fun AW ha => ?_)
  unfold oHouses at h
  refine sX6_houses_0 ha (m_isPost hw hI ?_)
  rw [i64]
  refine zbr (fun c => ⟨_, rfl, by have h := h σ mSc.refl; rw [if_neg (fun q => c q.1)] at h; exact h⟩) (fun c => m_in ?_)
  rw [i64]
  refine zbr (c := upTo20 b) (fun c2 => ⟨_, rfl, by have h := h σ mSc.refl; rw [if_neg (fun q => c2 q.2.1)] at h; exact h⟩) (fun c2 => m_isInn hw hI ?_)
  rw [i64]
  refine zbr (fun c3 => ⟨_, rfl, by have h := h σ mSc.refl; rw [if_neg (fun q => c3 q.2.2)] at h; exact h⟩) (fun c3 => ?_)
  rw [if_pos ⟨c, c2, c3⟩] at h
  have hb := hI.b
  obtain ⟨e, hl⟩ := okN c
  obtain ⟨e2, hl2, _⟩ := ok20 c2
  obtain ⟨e3, hl3⟩ := okN c3
  refine m_soloBegin hw hI (fun σ1 p1 a1 f1 => ?_)
  have loop : ∀ (n k v : Nat) (u : Nat → Nat) (o : Option zV) (σ2 : zS), k + n = b.toNatClampNeg → obArmOk w u → agr 7 (gA σ2 20 0) u → zFr [30] [] [20] [] σ1 σ2 → obHouses w a.toNatClampNeg i.toNatClampNeg n u v = obHouses w a.toNatClampNeg i.toNatClampNeg b.toNatClampNeg (obArm w) 0 → AW 43 [some (zR 0 0), some (zI a), some (zI b), some (zI i), some (zI (nI v)), some (zI (nI k)), o] [] σ2 := by
    intro n
    induction n with
    | zero =>
      intro k v u o σ2 hk hu hA f2 he
      refine sX6_houses_43 ha ?_
      rw [show (nI k < b) = (nI k < nI b.toNatClampNeg) by rw [← e2]]
      have h := h σ2 (zFr.trans f1 f2.wk)
      rw [← he] at h
      exact zltN (by omega) (by omega) (fun c => absurd c (by omega)) (fun _ => ⟨_, rfl, h⟩)
    | succ n ih =>
      intro k v u o σ2 hk hu hA f2 he
      have h14 := obS_lt hI hu hl
      refine sX6_houses_43 ha ?_
      rw [show (nI k < b) = (nI k < nI b.toNatClampNeg) by rw [← e2]]
      refine zltN (by omega) (by omega) (fun _ => m_solo (hw.sc (zFr.trans f1 f2.wk)) hI (p1.fr f2) (obAs_ok hI) e hl hA hu (fun σ3 h2 h3 f3 => inn_m h14.1 (fun c4 => ⟨_, rfl, ?_⟩) (fun c4 => ?_))) (fun c => absurd c (by omega))
      · have h := h σ3 (zFr.trans f1 (zFr.trans f2.wk f3.wk))
        rw [obHouses_f c4] at he
        rw [← he] at h; exact h
      · rw [obHouses_t (Nat.not_lt.mpr c4)] at he
        have f4 : zFr [30] [] [20] [] σ1 σ3 := zFr.trans f2 f3
        have he2 : (if (obSolo w (obAs w) 600 u a.toNatClampNeg 0).1 < 10 then (-1 : Int32) else nI ((obSolo w (obAs w) 600 u a.toNatClampNeg 0).1 - 10)) = nI ((obS w u a.toNatClampNeg).1 - 10) := if_neg (Nat.not_lt.mpr c4)
        rw [he2, show (nI ((obS w u a.toNatClampNeg).1 - 10) = i) = (nI ((obS w u a.toNatClampNeg).1 - 10) = nI i.toNatClampNeg) by rw [← e3], c1, nI_add, nI_add]
        have c4 : 10 ≤ (obS w u a.toNatClampNeg).1 := c4
        refine zeqN (by omega) (by omega) (fun c5 => ?_) (fun c5 => ?_)
        · rw [if_pos (by omega)] at he
          exact ih (k + 1) _ _ _ σ3 (by omega) h14.2 h2 f4 he
        · rw [if_neg (by omega)] at he
          rw [← nI_0, nI_add]
          exact ih (k + 1) _ _ _ σ3 (by omega) h14.2 h2 f4 he
  rw [← nI_0]
  exact loop b.toNatClampNeg 0 0 (obArm w) _ σ1 (by omega) (armOk0 hI) a1 zFr.refl rfl
theorem x_houses {G : zG} {d : Nat} {w : Nat → Nat} {σ : zS} {a b i : Int32} {K : Int32 → zS → Prop} (hw : wX w σ) (hI : obInv w) (h : ∀ σ', xSc σ σ' → K (oHouses w a b i) σ') : zCallI zcl Zx G (d + 8) mX0_houses [zR 0 0, zI a, zI b, zI i] σ K := by
  refine zmeth VX0_ok pX0_houses rfl (by decide) (Nat.le_of_ble_eq_true rfl) (fun AW ha => ?_)
  unfold oHouses at h
  refine sX0_houses_0 ha (x_isPost hw hI (zbr (fun c => ⟨_, rfl, by have h := h σ xSc.refl; rw [if_neg (fun q => c q.1)] at h; exact h⟩) (fun c => x_in ?_)))
  rw [i64]
  refine zbr (c := upTo20 b) (fun c2 => ⟨_, rfl, by have h := h σ xSc.refl; rw [if_neg (fun q => c2 q.2.1)] at h; exact h⟩) (fun c2 => x_isInn hw hI (zbr (fun c3 => ⟨_, rfl, by have h := h σ xSc.refl; rw [if_neg (fun q => c3 q.2.2)] at h; exact h⟩) (fun c3 => ?_)))
  rw [if_pos ⟨c, c2, c3⟩] at h
  have hb := hI.b
  obtain ⟨e, hl⟩ := okN c
  obtain ⟨e2, hl2, hl4⟩ := ok20 c2
  obtain ⟨e3, hl3⟩ := okN c3
  have e10 : (10 : Int32) + i = nI (10 + i.toNatClampNeg) := by rw [c10, ← nI_add, ← e3]
  refine x_hoursIs hw hI (fun σ1 p1 a1 _ f1 => ?_)
  have loop : ∀ (n k v : Nat) (u : Nat → Nat) (σ2 : zS), k + n = b.toNatClampNeg → obArmOk w u → agr (w 4) (gA σ2 24 0) u → xFr [(3, 0), (3, 1)] [24, 27] σ1 σ2 → obHouses w a.toNatClampNeg i.toNatClampNeg n u v = obHouses w a.toNatClampNeg i.toNatClampNeg b.toNatClampNeg (obArm w) 0 → AW 45 [some (zR 0 0), some (zI a), some (zI b), some (zI i), some (zI (nI v)), some (zI (nI k))] [] σ2 := by
    intro n
    induction n with
    | zero =>
      intro k v u σ2 hk hu hA f2 he
      refine sX0_houses_45 ha ?_
      rw [show (nI k < b) = (nI k < nI b.toNatClampNeg) by rw [← e2]]
      have h := h σ2 (xFr.trans f1.wk f2.wk)
      rw [← he] at h
      exact zltN (by omega) (by omega) (fun c => absurd c (by omega)) (fun _ => ⟨_, rfl, h⟩)
    | succ n ih =>
      intro k v u σ2 hk hu hA f2 he
      have h14 := obS_lt hI hu hl
      refine sX0_houses_45 ha ?_
      rw [show (nI k < b) = (nI k < nI b.toNatClampNeg) by rw [← e2]]
      refine zltN (by omega) (by omega) (fun _ => x_solo (hw.sc (xFr.trans f1.wk f2.wk)) hI (p1.fr f2) (obAs_ok hI) e hl hA hu (fun σ3 h2 h3 _ f3 => x_isIn h3 (Nat.lt_trans h14.1 (by decide)) (zbr (fun c4 => ⟨_, rfl, ?_⟩) (fun c4 => ?_)))) (fun c => absurd c (by omega))
      · have h := h σ3 (xFr.trans f1.wk (xFr.trans f2.wk f3.wk))
        rw [obHouses_f (Nat.not_le.mp c4)] at he
        rw [← he] at h; exact h
      · rw [obHouses_t (Nat.not_lt.mpr c4)] at he
        have f4 : xFr [(3, 0), (3, 1)] [24, 27] σ1 σ3 := xFr.trans f2 f3
        have h3 : gI σ3 3 0 0 = nI (obS w u a.toNatClampNeg).1 := h3
        rw [h3, e10, c1, nI_add, nI_add]
        refine zeqN (by omega) (by omega) (fun c5 => ?_) (fun c5 => ?_)
        · rw [if_pos c5] at he
          exact ih (k + 1) _ _ σ3 (by omega) h14.2 h2 f4 he
        · rw [if_neg c5] at he
          rw [← nI_0, nI_add]
          exact ih (k + 1) _ _ σ3 (by omega) h14.2 h2 f4 he
  rw [← nI_0]
  exact loop b.toNatClampNeg 0 0 (obArm w) σ1 (by omega) (armOk0 hI) a1 xFr.refl rfl
