/-! QUESTIONS: tree, ring, trees: the component; the questions -/
theorem x_byArms {G : zG} {d : Nat} {w a : Nat → Nat} {σ : zS} {p N : Nat} {x y : Int32} {K : Int32 → zS → Prop} (hw : wX w σ) (hI : obInv w) (hA : armFit w a) (h24 : armsX w a σ) (hx : x = nI p) (hy : y = nI N) (hN : N < 8) (hp : p < w 4) (h : K (nI (obIt w a p N)) σ) : zCallI zcl Zx G (d + 4) mX0_byArms [zR 0 0, zI x, zI y] σ K := by
  refine zmeth VX0_ok pX0_byArms rfl (by decide) (Nat.le_of_ble_eq_true rfl) (fun AW ha => ?_)
  have hb := hI.b
  subst hx; subst hy
  have loop : ∀ n, n ≤ N → AW 5 [some (zR 0 0), some (zI (nI p)), some (zI (nI N)), some (zI (nI (obIt w a p n))), some (zI (nI n))] [] σ := by
    refine loopN (N := N) (I := fun n => AW 5 [some (zR 0 0), some (zI (nI p)), some (zI (nI N)), some (zI (nI (obIt w a p n))), some (zI (nI n))] [] σ) ?_ (fun n hn ih => ?_)
    · exact sX0_byArms_5 ha (zltN (by omega) (by omega) (fun c => absurd c (by omega)) (fun _ => ⟨_, rfl, h⟩))
    · have hv := obIt_ok hI hA hp n
      have stop : ¬ (obIt w a p n < 10 ∧ obMany w (obIt w a p n) ≠ 0) → K (nI (obIt w a p n)) σ := fun q => by
        rw [obIt_fix (n := n) (obNx_f q) N (by omega)] at h; exact h
      refine sX0_byArms_5 ha (zltN (by omega) (by omega) (fun _ => ?_) (fun c => absurd hn (Nat.not_lt.mpr c)))
      rw [c10]
      refine zltN (by omega) (by omega) (fun c => ?_) (fun c => ⟨_, rfl, stop (by omega)⟩)
      have hq : obIt w a p n < w 4 := by omega
      have hC := Nat.lt_of_lt_of_eq hq hw.C0.symm
      have h4 := hI.many (show obIt w a p n < 7 by omega)
      refine x_postOf hw hI rfl hq ⟨hC, ?_⟩
      rw [hw.many hq, ← nI_0]
      refine zltN (by omega) (by omega) (fun c2 => x_postOf hw hI rfl hq ⟨hC, zix _ rfl (by omega), hC, ?_⟩) (fun c2 => ⟨_, rfl, stop (by omega)⟩)
      have hm : obMany w (obIt w a p n) ≠ 0 := by omega
      have har := hA _ hq hm
      rw [zcl_n _ rfl, h24 _ hq hm]
      refine ⟨zix _ rfl (by omega), ?_⟩
      rw [zcl_n _ rfl, hw.to hq _ (by omega), c1, nI_add]
      have ih : AW 5 [some (zR 0 0), some (zI (nI p)), some (zI (nI N)), some (zI (nI (obNx w a (obIt w a p n)))), some (zI (nI (n + 1)))] [] σ := ih
      rw [obNx_t c hm] at ih
      exact ih
  have := loop 0 (Nat.zero_le _)
  rw [nI_0] at this
  exact sX0_byArms_0 ha this
theorem x_isTree {G : zG} {d : Nat} {w a : Nat → Nat} {σ : zS} {K : Int32 → zS → Prop} (hw : wX w σ) (hI : obInv w) (hA : armFit w a) (h24 : armsX w a σ) (h : K (bI (obTree w a = true)) σ) : zCallI zcl Zx G (d + 5) mX0_isTree [zR 0 0] σ K := by
  refine zmeth VX0_ok pX0_isTree rfl (by decide) (Nat.le_of_ble_eq_true rfl) (fun AW ha => ?_)
  have hb := hI.b
  have start : ∀ k, k ≤ w 4 → (obAny (badC w a) k = false → AW 2 [some (zR 0 0), some (zI (nI k))] [] σ) := by
    refine loopN (N := w 4) (I := fun k => obAny (badC w a) k = false → AW 2 [some (zR 0 0), some (zI (nI k))] [] σ) (fun hf => ?_) (fun k hk ih hf => ?_)
    · refine sX0_isTree_2 ha (x_posts hw (zltN (by omega) (by omega) (fun c => absurd c (by omega)) (fun _ => ⟨Or.inr rfl, _, rfl, ?_⟩)))
      rw [bI_t (by unfold obTree; rw [hf]; rfl)] at h; exact h
    · have h4 := hI.many (show k < 7 by omega)
      refine sX0_isTree_2 ha (x_posts hw (zltN (by omega) (by omega) (fun _ => x_postOf hw hI rfl hk ⟨Nat.lt_of_lt_of_eq hk hw.C0.symm, ?_⟩) (fun c => absurd hk (Nat.not_lt.mpr c))))
      rw [hw.many hk, ← nI_0]
      refine zltN (by omega) (by omega) (fun c => x_byArms hw hI hA h24 rfl c7 (by omega) hk ?_) (fun c => ?_)
      · have hv := obIt_ok hI hA hk 7
        rw [c10]
        refine zltN (by omega) (by omega) (fun c2 => ⟨Or.inl rfl, _, rfl, ?_⟩) (fun c2 => ?_)
        · have hbad : obAny (badC w a) (w 4) = true := obAny_t.mpr ⟨k, hk, by simp [badC]; omega⟩
          rw [bI_f (by unfold obTree; rw [hbad]; decide)] at h; exact h
        · rw [c1, nI_add]
          exact ih (by simp [obAny, hf, badC]; omega)
      · rw [c1, nI_add]
        exact ih (by simp [obAny, hf, badC]; omega)
  have := start 0 (Nat.zero_le _) rfl
  rw [nI_0] at this
  exact sX0_isTree_0 ha this
theorem z_maxI {Z : zZ} {G : zG} {d : Nat} {x y : Int32} {σ : zS} {K : Int32 → zS → Prop} (h : K (if x < y then y else x) σ) : zCallI zcl Z G d mJ3_max [zI x, zI y] σ K := by
  refine zmethF VJ3_ok pJ3_max rfl pfJ3 (Nat.le_of_ble_eq_true rfl) (fun AW hA => ?_)
  exact zJ3 hA ⟨fun c => ⟨_, rfl, by rw [if_pos c] at h; exact h⟩, fun c => ⟨_, rfl, by rw [if_neg c] at h; exact h⟩⟩
theorem armFit_at {w : Nat → Nat} (hI : obInv w) {P : obP} (hP : obPok w P) (t : Nat) : armFit w (obAt w P t).1 := fun p hp hm => (obAt_ok hI hP t).1 p (by have := hI.b; omega) (by omega)
theorem x_laysArms {G : zG} {d : Nat} {w : Nat → Nat} {σ : zS} {t : Nat} {y : Int32} {K : zS → Prop} (hw : wX w σ) (hI : obInv w) (hy : y = nI t) (ht : t ≤ w 0) (h : ∀ σ', armsX w (obAt w (obAs w) t).1 σ' → xSc σ σ' → K σ') : zCallV zcl Zx G (d + 9) mX0_laysArms [zR 0 0, zI y] σ K := by
  refine zmeth VX0_ok pX0_laysArms rfl (by decide) (Nat.le_of_ble_eq_true rfl) (fun AW ha => ?_)
  have hb := hI.b
  refine sX0_laysArms_0 ha (x_is hw hI (fun σ1 r1 p1 f1 => ?_))
  have hw1 := hw.sc f1
  refine loopN (N := w 4) (I := fun k => ∀ σ2, (∀ p, p < k → obMany w p ≠ 0 → gA σ2 24 0 p = nI ((obAt w (obAs w) t).1 p)) → xFr [] [24] σ1 σ2 → AW 7 [some (zR 0 0), some (zI y), some (zI (nI k))] [] σ2) (fun σ2 h2 f2 => ?_) (fun k hk ih σ2 h2 f2 => ?_) 0 (Nat.zero_le _) σ1 (fun j hj => absurd hj (by omega)) xFr.refl
  · exact sX0_laysArms_7 ha (x_posts (hw1.fr f2) (zltN (by omega) (by omega) (fun c => absurd c (by omega)) (fun _ => ⟨rfl, h σ2 h2 (xFr.trans f1 f2.wk)⟩)))
  · have e : (7 : Int32) * y + nI k = nI (7 * t + k) := by rw [hy, c7, pk_mul, nI_add]
    refine sX0_laysArms_7 ha (x_posts (hw1.fr f2) (zltN (by omega) (by omega) (fun _ => ⟨zix _ e (by omega), z_maxI ⟨zix _ rfl (by omega), ?_⟩⟩) (fun c => absurd hk (Nat.not_lt.mpr c))))
    rw [zcl_n k rfl, c1, nI_add]
    refine ih _ (fun p hp hm => ?_) (xFr.uA f2 24 _)
    show upd (gA σ2 24 0) k _ p = _
    by_cases cp : p = k
    · rw [cp, pk_us, zcl_n _ e, f2.A 26 0, r1.set ht k hk (by rw [← cp]; exact hm)]
      have hlt := armFit_at hI (obAs_ok hI) t k hk (by rw [← cp]; exact hm)
      have h4 := hI.many (show k < 7 by omega)
      rw [← nI_0]
      by_cases z : 0 < (obAt w (obAs w) t).1 k
      · rw [if_pos ((nI_ltI (by omega) (by omega)).mpr z)]
      · rw [if_neg (fun q => z ((nI_ltI (by omega) (by omega)).mp q)), show (obAt w (obAs w) t).1 k = 0 by omega]
    · rw [pk_un cp]; exact h2 p (by omega) hm
def oTree (w : Nat → Nat) (t : Int32) : Int32 := if hrOk w t then bI (obTree w (obAt w (obAs w) t.toNatClampNeg).1 = true) else -2
theorem m_tree {G : zG} {d : Nat} {w : Nat → Nat} {σ : zS} {t : Int32} {K : Int32 → zS → Prop} (hw : wM w σ) (hI : obInv w) (h : ∀ σ', mSc σ σ' → K (oTree w t) σ') : zCallI zcl Zm G (d + 8) mX6_tree [zR 0 0, zI t] σ K := by
  refine zmeth VX6_ok pX6_tree rfl (by decide) (Nat.le_of_ble_eq_true rfl) (fun AW ha => ?_)
  have hb := hI.b
  unfold oTree at h
  refine sX6_tree_0 ha (m_asksHour hw hI (fun σ1 r1 p1 f1 => zbr (fun c => ⟨_, rfl, by have h := h σ1 f1; rw [if_neg c] at h; exact h⟩) (fun c => ?_)))
  rw [if_pos c] at h
  obtain ⟨e, hl⟩ := okH hI c
  refine m_someAt hI r1 e hl (fun σ2 h2 f2 => m_isTree (hw.sc (zFr.trans f1 f2.wk)) hI (armFit_at hI (obAs_ok hI) t.toNatClampNeg) (fun p hp _ => h2 p (by omega)) ?_)
  have h := h σ2 (zFr.trans f1 f2.wk)
  exact zbr (fun c2 => ⟨_, rfl, by rw [bI_f c2] at h; exact h⟩) (fun c2 => ⟨_, rfl, by rw [bI_t c2] at h; exact h⟩)
theorem x_tree {G : zG} {d : Nat} {w : Nat → Nat} {σ : zS} {t : Int32} {K : Int32 → zS → Prop} (hw : wX w σ) (hI : obInv w) (h : ∀ σ', xSc σ σ' → K (oTree w t) σ') : zCallI zcl Zx G (d + 10) mX0_tree [zR 0 0, zI t] σ K := by
  refine zmeth VX0_ok pX0_tree rfl (by decide) (Nat.le_of_ble_eq_true rfl) (fun AW ha => ?_)
  unfold oTree at h
  refine sX0_tree_0 ha (x_isHour hw hI ?_)
  rw [i64]
  refine zbr (fun c => ⟨_, rfl, by have h := h σ xSc.refl; rw [if_neg c] at h; exact h⟩) (fun c => ?_)
  rw [if_pos c] at h
  obtain ⟨e, hl⟩ := okH hI c
  refine x_laysArms hw hI e hl (fun σ1 h1 f1 => x_isTree (hw.sc f1) hI (armFit_at hI (obAs_ok hI) t.toNatClampNeg) h1 ?_)
  have h := h σ1 f1
  exact zbr (fun c2 => ⟨_, rfl, by rw [bI_f c2] at h; exact h⟩) (fun c2 => ⟨_, rfl, by rw [bI_t c2] at h; exact h⟩)
/-- rings -/
def obRing (w a : Nat → Nat) : Nat := obSet (fun p => obAny (ringC w a p) (w 4)) (w 4)
theorem ringC_0 {w a : Nat → Nat} {p k : Nat} (h : ¬ (obMany w p ≠ 0 ∧ obIt w a p (k + 1) = p)) : ringC w a p k = false := by
  unfold ringC
  by_cases c : obMany w p ≠ 0
  · rw [decide_eq_false (show ¬ obIt w a p (k + 1) = p from fun q => h ⟨c, q⟩), Bool.and_false]
  · rw [decide_eq_false c, Bool.false_and]
theorem ringC_1 {w a : Nat → Nat} {p k : Nat} (h : obMany w p ≠ 0) (h2 : obIt w a p (k + 1) = p) : ringC w a p k = true := by
  unfold ringC; rw [decide_eq_true h, decide_eq_true h2]; rfl
theorem acc_t {S p : Nat} {c : Nat → Bool} {n : Nat} (hp : p < 31) (h : c n = true) : nI (S ||| (if obAny c n = true then 2 ^ p else 0)) ||| ((1 : Int32) <<< (nI p &&& 31)) = nI (S ||| (if obAny c (n + 1) = true then 2 ^ p else 0)) := by
  rw [bit1 hp, orN, if_pos (show obAny c (n + 1) = true by simp [obAny, h])]
  congr 1
  split
  · rw [Nat.or_assoc, Nat.or_self]
  · rw [Nat.or_zero]
theorem acc_f {S p : Nat} {c : Nat → Bool} {n : Nat} (h : c n = false) : nI (S ||| (if obAny c n = true then 2 ^ p else 0)) ||| 0 = nI (S ||| (if obAny c (n + 1) = true then 2 ^ p else 0)) := by
  rw [← nI_0, orN, Nat.or_zero]
  simp [obAny, h]
def oRing (w : Nat → Nat) (t : Int32) : Int32 := if hrOk w t then nI (obRing w (obAt w (obAs w) t.toNatClampNeg).1) else -2
theorem m_ring {G : zG} {d : Nat} {w : Nat → Nat} {σ : zS} {t : Int32} {K : Int32 → zS → Prop} (hw : wM w σ) (hI : obInv w) (h : ∀ σ', mSc σ σ' → K (oRing w t) σ') : zCallI zcl Zm G (d + 8) mX6_ring [zR 0 0, zI t] σ K := by
  refine zmeth VX6_ok pX6_ring rfl (by decide) (Nat.le_of_ble_eq_true rfl) (fun AW ha => ?_)
  have hb := hI.b
  unfold oRing at h
  refine sX6_ring_0 ha (m_asksHour hw hI (fun σ1 r1 p1 f1 => zbr (fun c => ⟨_, rfl, by have h := h σ1 f1; rw [if_neg c] at h; exact h⟩) (fun c => ?_)))
  rw [if_pos c] at h
  obtain ⟨e, hl⟩ := okH hI c
  refine m_someAt hI r1 e hl (fun σ2 h2 f2 => ?_)
  have h := h σ2 (zFr.trans f1 f2.wk)
  have hw2 : wM w σ2 := hw.sc (zFr.trans f1 f2.wk)
  have hA := armFit_at hI (obAs_ok hI) t.toNatClampNeg
  generalize (obAt w (obAs w) t.toNatClampNeg).1 = a at h h2 hA
  have h29 : armsM w a σ2 := fun p hp _ => h2 p (by omega)
  unfold obRing at h
  rw [← obSet_congr (fun p hp => ring_eq hI hA hp)] at h
  refine loopN (N := w 4) (I := fun p => ∀ o1 o2, AW 20 [some (zR 0 0), some (zI t), some (zI (nI (obSet (fun p => obAny (ringC w a p) 7) p))), some (zI (nI p)), o1, o2] [] σ2) (fun o1 o2 => ?_) (fun p hp ih o1 o2 => ?_) 0 (Nat.zero_le _) none none
  · exact sX6_ring_20 ha (m_posts hw2 (zltN (by omega) (by omega) (fun c => absurd c (by omega)) (fun _ => ⟨_, rfl, h⟩)))
  · refine sX6_ring_20 ha (m_posts hw2 (zltN (by omega) (by omega) (fun _ => ?_) (fun c => absurd hp (Nat.not_lt.mpr c))))
    have done : ∀ n o1 o2, n ≤ 7 → (∀ k, n ≤ k → ringC w a p k = false) → AW 20 [some (zR 0 0), some (zI t), some (zI (nI (obSet (fun p => obAny (ringC w a p) 7) p ||| (if obAny (ringC w a p) n = true then 2 ^ p else 0)))), some (zI (nI p + 1)), o1, o2] [] σ2 := by
      intro n o1 o2 hn hf
      have ih := ih o1 o2
      simp only [obSet, obAny_stop hn hf] at ih
      rw [c1, nI_add]; exact ih
    have inner : ∀ r n, n + r = 7 → AW 34 [some (zR 0 0), some (zI t), some (zI (nI (obSet (fun p => obAny (ringC w a p) 7) p ||| (if obAny (ringC w a p) n = true then 2 ^ p else 0)))), some (zI (nI p)), some (zI (nI (obIt w a p n))), some (zI (nI n))] [] σ2 := by
      intro r
      induction r with
      | zero =>
        intro n hn
        have ih := ih (some (zI (nI (obIt w a p n)))) (some (zI (nI n)))
        simp only [obSet] at ih
        refine sX6_ring_34 ha ⟨fun c => absurd c (by rw [show n = 7 by omega]; decide), fun _ => ?_⟩
        rw [c1, nI_add, show n = 7 by omega]
        rw [show n = 7 by omega] at ih
        exact ih
      | succ r ihr =>
        intro n hn
        have hv := obIt_ok hI hA hp n
        refine sX6_ring_34 ha ?_
        rw [c7]
        refine zltN (by omega) (by omega) (fun _ => in06 ⟨by omega, by omega⟩ hv (zbr (fun c => ?_) (fun c => m_armGoes hw2 hI hA h29 rfl (by omega) (fun c2 => ?_) (fun c2 => ?_)))) (fun c => absurd c (by omega))
        · refine done n _ _ (by omega) (fun k hk => ringC_0 (fun q => ?_))
          rw [obIt_abs (show n ≤ k + 1 by omega) (by omega)] at q
          omega
        · -- an armless post: -1
          have hf : ∀ k, n ≤ k → ringC w a p k = false := fun k hk => ringC_0 (fun q => by
            rw [obIt_fix (n := n) (obNx_f (by omega)) (k + 1) (by omega)] at q
            obtain ⟨q1, q2⟩ := q
            rw [q2] at c2
            exact q1 c2)
          refine ⟨fun q => absurd q.symm (pI_ne (by omega)), fun _ => ?_⟩
          have hz : ∀ m, m = nI (obSet (fun p => obAny (ringC w a p) 7) p ||| (if obAny (ringC w a p) n = true then 2 ^ p else 0)) ||| 0 → m = nI (obSet (fun p => obAny (ringC w a p) 7) p ||| (if obAny (ringC w a p) n = true then 2 ^ p else 0)) := fun m hm => by rw [hm, ← nI_0, orN, Nat.or_zero]
          rw [hz _ rfl]
          exact sX6_ring_34 ha ⟨fun _ => in06m ⟨fun _ => done n _ _ (by omega) hf, fun q => absurd rfl q⟩, fun _ => done n _ _ (by omega) hf⟩
        · have hv2 := obIt_ok hI hA hp (n + 1)
          have hv2 : obNx w a (obIt w a p n) < w 4 ∨ (10 ≤ obNx w a (obIt w a p n) ∧ obNx w a (obIt w a p n) < 10 + w 3) := hv2
          refine zeqN (by omega) (by omega) (fun c3 => ?_) (fun c3 => ?_)
          · have hm : obMany w p ≠ 0 := by
              intro q0
              have e0 : obIt w a p n = p := obIt_fix (n := 0) (obNx_f (fun q => q.2 q0)) n (Nat.zero_le _)
              exact c2 (by rw [e0]; exact q0)
            rw [acc_t (by omega) (ringC_1 hm c3), c1, nI_add]
            exact ihr (n + 1) (by omega)
          · rw [acc_f (ringC_0 (fun q => c3 q.2)), c1, nI_add]
            exact ihr (n + 1) (by omega)
    have := inner 7 0 (by omega)
    rw [show (if obAny (ringC w a p) 0 = true then 2 ^ p else 0) = 0 from rfl, Nat.or_zero, nI_0] at this
    exact this
theorem x_ring {G : zG} {d : Nat} {w : Nat → Nat} {σ : zS} {t : Int32} {K : Int32 → zS → Prop} (hw : wX w σ) (hI : obInv w) (h : ∀ σ', xSc σ σ' → K (oRing w t) σ') : zCallI zcl Zx G (d + 10) mX0_ring [zR 0 0, zI t] σ K := by
  refine zmeth VX0_ok pX0_ring rfl (by decide) (Nat.le_of_ble_eq_true rfl) (fun AW ha => ?_)
  have hb := hI.b
  unfold oRing at h
  refine sX0_ring_0 ha (x_isHour hw hI ?_)
  rw [i64]
  refine zbr (fun c => ⟨_, rfl, by have h := h σ xSc.refl; rw [if_neg c] at h; exact h⟩) (fun c => ?_)
  rw [if_pos c] at h
  obtain ⟨e, hl⟩ := okH hI c
  refine x_laysArms hw hI e hl (fun σ2 h24 f2 => ?_)
  have h := h σ2 f2
  have hw2 := hw.sc f2
  have hA := armFit_at hI (obAs_ok hI) t.toNatClampNeg
  generalize (obAt w (obAs w) t.toNatClampNeg).1 = a at h h24 hA
  unfold obRing at h
  refine loopN (N := w 4) (I := fun p => ∀ o, AW 21 [some (zR 0 0), some (zI t), some (zI (nI (obSet (fun p => obAny (ringC w a p) (w 4)) p))), some (zI (nI p)), o] [] σ2) (fun o => ?_) (fun p hp ih o => ?_) 0 (Nat.zero_le _) none
  · exact sX0_ring_21 ha (x_posts hw2 (zltN (by omega) (by omega) (fun c => absurd c (by omega)) (fun _ => ⟨_, rfl, h⟩)))
  · refine sX0_ring_21 ha (x_posts hw2 (zltN (by omega) (by omega) (fun _ => ?_) (fun c => absurd hp (Nat.not_lt.mpr c))))
    have h4 := hI.many (show p < 7 by omega)
    have inner := loopN (N := w 4) (I := fun n => AW 32 [some (zR 0 0), some (zI t), some (zI (nI (obSet (fun p => obAny (ringC w a p) (w 4)) p ||| (if obAny (ringC w a p) n = true then 2 ^ p else 0)))), some (zI (nI p)), some (zI (nI (n + 1)))] [] σ2) (by
      refine sX0_ring_32 ha (x_posts hw2 (zltN (by omega) (by omega) (fun _ => ?_) (fun c => absurd c (by omega))))
      have ih := ih (some (zI (nI (w 4 + 1))))
      simp only [obSet] at ih
      rw [c1, nI_add]; exact ih) (fun n hn ihn => by
      refine sX0_ring_32 ha (x_posts hw2 (zltN (by omega) (by omega) (fun c => absurd c (by omega)) (fun _ => x_postOf hw2 hI rfl hp ⟨Nat.lt_of_lt_of_eq hp hw2.C0.symm, ?_⟩)))
      rw [hw2.many hp, ← nI_0]
      have hv2 := obIt_ok hI hA hp (n + 1)
      refine zltN (by omega) (by omega) (fun c => x_byArms hw2 hI hA h24 rfl rfl (by omega) hp (zeqN (by omega) (by omega) (fun c3 => ?_) (fun c3 => ?_))) (fun c => ?_)
      · rw [acc_t (by omega) (ringC_1 (by omega) c3), c1, nI_add]; exact ihn
      · rw [nI_0, acc_f (ringC_0 (fun q => c3 q.2)), c1, nI_add]; exact ihn
      · rw [nI_0, acc_f (ringC_0 (fun q => q.1 (by omega))), c1, nI_add]; exact ihn)
    have := inner 0 (Nat.zero_le _)
    rw [show (if obAny (ringC w a p) 0 = true then 2 ^ p else 0) = 0 from rfl, Nat.or_zero] at this
    exact this
/-- all settings -/
def setArm (w : Nat → Nat) (s p : Nat) : Nat := s / obProd w p % max 1 (obMany w p)
def obHow (c : Nat → Bool) : Nat → Nat
  | 0 => 0
  | n + 1 => obHow c n + (if c n = true then 1 else 0)
theorem obProd_pos {w : Nat → Nat} : ∀ n, 0 < obProd w n := by
  intro n
  induction n with
  | zero => exact Nat.zero_lt_one
  | succ n ih => exact Nat.mul_pos ih (by omega)
theorem obProd_le {w : Nat → Nat} (hI : obInv w) : ∀ n, n ≤ 7 → obProd w n ≤ 4 ^ n := by
  intro n
  induction n with
  | zero => intro _; exact Nat.le_refl _
  | succ n ih =>
    intro h
    have h4 := hI.many (show n < 7 by omega)
    exact Nat.mul_le_mul (ih (by omega)) (by omega)
theorem setArm_fit {w : Nat → Nat} (s : Nat) : armFit w (setArm w s) := fun p _ hm => by
  have := Nat.mod_lt (s / obProd w p) (show 0 < max 1 (obMany w p) by omega)
  unfold setArm; omega
def oTrees (w : Nat → Nat) : Int32 := if 0 < w 9 then (if 4096 < obProd w (w 4) then -3 else nI (obHow (fun s => obTree w (setArm w s)) (obProd w (w 4)))) else -2
theorem m_trees {G : zG} {d : Nat} {w : Nat → Nat} {σ : zS} {K : Int32 → zS → Prop} (hw : wM w σ) (hI : obInv w) (h : ∀ σ', mSc σ σ' → K (oTrees w) σ') : zCallI zcl Zm G (d + 4) mX6_trees [zR 0 0] σ K := by
  refine zmeth VX6_ok pX6_trees rfl (by decide) (Nat.le_of_ble_eq_true rfl) (fun AW ha => ?_)
  have hb := hI.b
  unfold oTrees at h
  refine sX6_trees_0 ha (m_isHeath hw hI (zbr (fun c => ⟨_, rfl, by have h := h σ mSc.refl; rw [if_neg c] at h; exact h⟩) (fun c => m_settingMany hw hI ?_)))
  rw [if_pos c] at h
  have hP := Nat.le_trans (obProd_le hI (w 4) (by omega)) (show 4 ^ w 4 ≤ 4 ^ 7 from Nat.pow_le_pow_right (by decide) (by omega))
  have hP : obProd w (w 4) ≤ 16384 := hP
  rw [show (4096 : Int32) = nI 4096 from rfl]
  refine zltN (by omega) (by omega) (fun c2 => ⟨_, rfl, by have h := h σ mSc.refl; rw [if_pos c2] at h; exact h⟩) (fun c2 => ?_)
  rw [if_neg (Nat.not_lt.mpr c2)] at h
  refine loopN (N := obProd w (w 4)) (I := fun s => ∀ o1 o2 o3 σ2, zFr [] [] [29] [] σ σ2 → AW 29 [some (zR 0 0), some (zI (nI (obProd w (w 4)))), some (zI (nI (obHow (fun s => obTree w (setArm w s)) s))), some (zI (nI s)), o1, o2, o3] [] σ2) (fun o1 o2 o3 σ2 f2 => ?_) (fun s hs ih o1 o2 o3 σ2 f2 => ?_) 0 (Nat.zero_le _) none none none σ zFr.refl
  · exact sX6_trees_29 ha (zltN (by omega) (by omega) (fun c => absurd c (by omega)) (fun _ => ⟨_, rfl, h σ2 f2.wk⟩))
  · refine sX6_trees_29 ha (zltN (by omega) (by omega) (fun _ => ?_) (fun c => absurd hs (Nat.not_lt.mpr c)))
    have inner := loopN (N := w 4) (I := fun p => ∀ o σ3, (∀ j, j < p → gA σ3 29 0 j = nI (setArm w s j)) → zFr [] [] [29] [] σ σ3 → AW 40 [some (zR 0 0), some (zI (nI (obProd w (w 4)))), some (zI (nI (obHow (fun s => obTree w (setArm w s)) s))), some (zI (nI s)), some (zI (nI (s / obProd w p))), some (zI (nI p)), o] [] σ3) (fun o σ3 h3 f3 => by
      refine sX6_trees_40 ha (m_posts (hw.fr f3) (zltN (by omega) (by omega) (fun c => absurd c (by omega)) (fun _ => m_isTree (hw.fr f3) hI (setArm_fit s) (fun p hp _ => h3 p hp) (zbr (fun c3 => ?_) (fun c3 => ?_)))))
      · have ih := ih (some (zI (nI (s / obProd w (w 4))))) (some (zI (nI (w 4)))) o σ3 f3
        simp only [obHow, if_neg c3] at ih
        rw [← nI_0, nI_add, c1, nI_add]; exact ih
      · have ih := ih (some (zI (nI (s / obProd w (w 4))))) (some (zI (nI (w 4)))) o σ3 f3
        simp only [obHow, if_pos c3] at ih
        rw [c1, nI_add, nI_add]; exact ih) (fun p hp ih2 o σ3 h3 f3 => by
      have h4 := hI.many (show p < 7 by omega)
      have hm1 : max 1 (obMany w p) < 2 ^ 31 := by omega
      have hm0 : 0 < max 1 (obMany w p) := by omega
      have hlt : s / obProd w p < 2 ^ 31 := Nat.lt_of_le_of_lt (Nat.div_le_self _ _) (by omega)
      have hne : ¬ nI (max 1 (obMany w p)) = 0 := by rw [← nI_0]; exact fun q => absurd ((nI_eq hm1 (by decide)).mp q) (by omega)
      refine sX6_trees_40 ha (m_posts (hw.fr f3) (zltN (by omega) (by omega) (fun _ => m_roadMany (hw.fr f3) rfl (by omega) (z_max c1 rfl (by omega) (by omega) ⟨hne, zix p rfl (by omega), hne, ?_⟩)) (fun c => absurd hp (Nat.not_lt.mpr c))))
      rw [zcl_n p rfl, modN hlt hm0 hm1, pk_div hlt hm0 hm1, c1, nI_add, Nat.div_div_eq_div_mul]
      refine ih2 _ _ (fun j hj => ?_) (zFr.uA f3 29 _)
      show upd (gA σ3 29 0) p _ j = _
      by_cases cj : j = p
      · rw [cj, pk_us]; rfl
      · rw [pk_un cj]; exact h3 j (by omega))
    have := inner 0 (Nat.zero_le _) o3 σ2 (fun j hj => absurd hj (by omega)) f2
    rw [show s / obProd w 0 = s from Nat.div_one s, nI_0] at this
    exact this
theorem x_trees {G : zG} {d : Nat} {w : Nat → Nat} {σ : zS} {K : Int32 → zS → Prop} (hw : wX w σ) (hI : obInv w) (h : ∀ σ', xSc σ σ' → K (oTrees w) σ') : zCallI zcl Zx G (d + 6) mX0_trees [zR 0 0] σ K := by
  refine zmeth VX0_ok pX0_trees rfl (by decide) (Nat.le_of_ble_eq_true rfl) (fun AW ha => ?_)
  have hb := hI.b
  unfold oTrees at h
  refine sX0_trees_0 ha (x_isHeath hw hI (zbr (fun c => ⟨_, rfl, by have h := h σ xSc.refl; rw [if_neg c] at h; exact h⟩) (fun c => x_settingsOf hw hI ?_)))
  rw [if_pos c] at h
  have hP := Nat.le_trans (obProd_le hI (w 4) (by omega)) (show 4 ^ w 4 ≤ 4 ^ 7 from Nat.pow_le_pow_right (by decide) (by omega))
  have hP : obProd w (w 4) ≤ 16384 := hP
  rw [show (4096 : Int32) = nI 4096 from rfl]
  refine zltN (by omega) (by omega) (fun c2 => ⟨_, rfl, by have h := h σ xSc.refl; rw [if_pos c2] at h; exact h⟩) (fun c2 => x_hoursIs hw hI (fun σ1 p1 a1 _ f1 => ?_))
  rw [if_neg (Nat.not_lt.mpr c2)] at h
  have hw1 : wX w σ1 := hw.fr f1
  refine loopN (N := obProd w (w 4)) (I := fun s => ∀ o1 o2 σ2, xFr [] [24] σ1 σ2 → AW 38 [some (zR 0 0), some (zI (nI (obHow (fun s => obTree w (setArm w s)) s))), some (zI (nI s)), o1, o2] [] σ2) (fun o1 o2 σ2 f2 => ?_) (fun s hs ih o1 o2 σ2 f2 => ?_) 0 (Nat.zero_le _) none none σ1 xFr.refl
  · exact sX0_trees_38 ha (x_settingsOf (hw1.fr f2) hI (zltN (by omega) (by omega) (fun c => absurd c (by omega)) (fun _ => ⟨_, rfl, h σ2 (xFr.trans f1.wk f2.wk)⟩)))
  · refine sX0_trees_38 ha (x_settingsOf (hw1.fr f2) hI (zltN (by omega) (by omega) (fun _ => ?_) (fun c => absurd hs (Nat.not_lt.mpr c))))
    have inner := loopN (N := w 4) (I := fun p => ∀ σ3, (∀ j, j < p → obMany w j ≠ 0 → gA σ3 24 0 j = nI (setArm w s j)) → xFr [] [24] σ1 σ3 → AW 51 [some (zR 0 0), some (zI (nI (obHow (fun s => obTree w (setArm w s)) s))), some (zI (nI s)), some (zI (nI (s / obProd w p))), some (zI (nI p))] [] σ3) (fun σ3 h3 f3 => by
      refine sX0_trees_51 ha (x_posts (hw1.fr f3) (zltN (by omega) (by omega) (fun c => absurd c (by omega)) (fun _ => x_isTree (hw1.fr f3) hI (setArm_fit s) h3 (zbr (fun c3 => ?_) (fun c3 => ?_)))))
      · have ih := ih (some (zI (nI (s / obProd w (w 4))))) (some (zI (nI (w 4)))) σ3 f3
        simp only [obHow, if_neg c3] at ih
        rw [← nI_0, nI_add, c1, nI_add]; exact ih
      · have ih := ih (some (zI (nI (s / obProd w (w 4))))) (some (zI (nI (w 4)))) σ3 f3
        simp only [obHow, if_pos c3] at ih
        rw [c1, nI_add, nI_add]; exact ih) (fun p hp ih2 σ3 h3 f3 => by
      have h4 := hI.many (show p < 7 by omega)
      have hw3 := hw1.fr f3
      have hlt : s / obProd w p < 2 ^ 31 := Nat.lt_of_le_of_lt (Nat.div_le_self _ _) (by omega)
      have hC := Nat.lt_of_lt_of_eq hp hw3.C0.symm
      refine sX0_trees_51 ha (x_posts hw3 (zltN (by omega) (by omega) (fun _ => x_postOf hw3 hI rfl hp ⟨hC, ?_⟩) (fun c => absurd hp (Nat.not_lt.mpr c))))
      rw [hw3.many hp, ← nI_0]
      refine zeqN (by omega) (by omega) (fun c3 => ?_) (fun c3 => ?_)
      · rw [c1, nI_add]
        have := ih2 σ3 (fun j hj hm => by
          by_cases cj : j = p
          · rw [cj] at hm; exact absurd c3 hm
          · exact h3 j (by omega) hm) f3
        rw [show s / obProd w (p + 1) = s / obProd w p by show s / (obProd w p * max 1 (obMany w p)) = _; rw [c3]; simp] at this
        exact this
      · have hm : max 1 (obMany w p) = obMany w p := by omega
        have hne : ¬ nI (obMany w p) = nI 0 := fun q => absurd ((nI_eq (by omega) (by decide)).mp q) (by omega)
        have f4 : xFr [] [24] σ1 (uA σ3 24 0 (upd (gA σ3 24 0) p (nI (s / obProd w p % obMany w p)))) := xFr.uA f3 24 _
        have hw4 := hw1.fr f4
        refine x_postOf hw3 hI rfl hp ⟨hC, ?_⟩
        rw [hw3.many hp]
        refine ⟨hne, zix p rfl (by omega), ?_⟩
        rw [zcl_n p rfl, modN hlt (by omega) (by omega)]
        refine x_postOf hw4 hI rfl hp ⟨Nat.lt_of_lt_of_eq hp hw4.C0.symm, ?_⟩
        rw [hw4.many hp]
        refine ⟨hne, ?_⟩
        rw [pk_div hlt (by omega) (by omega), c1, nI_add, Nat.div_div_eq_div_mul]
        have := ih2 _ (fun j hj hm2 => by
          show upd (gA σ3 24 0) p (nI (s / obProd w p % obMany w p)) j = _
          by_cases cj : j = p
          · rw [cj, pk_us]; unfold setArm; rw [hm]
          · rw [pk_un cj]; exact h3 j (by omega) hm2) f4
        rw [show s / obProd w (p + 1) = s / (obProd w p * obMany w p) by show s / (obProd w p * max 1 (obMany w p)) = _; rw [hm]] at this
        exact this)
    have := inner 0 (Nat.zero_le _) σ2 (fun j hj => absurd hj (by omega)) f2
    rw [show s / obProd w 0 = s from Nat.div_one s, nI_0] at this
    exact this
