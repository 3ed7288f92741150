/-! WHAT WAS SEEN: questions about a slot -/
abbrev plcOk (w : Nat → Nat) (z : Int) : Prop := (0 ≤ z ∧ z < w 4) ∨ (10 ≤ z ∧ z < 10 + w 3)
abbrev obQ : Type := Nat × Nat × (Nat → Int64)
/-- the k-th three is no walker, hour and place -/
def slBad (w : Nat → Nat) (q : obQ) (k : Nat) : Bool := decide (¬ ((0 ≤ (q.2.2 (3 * k)).toInt ∧ (q.2.2 (3 * k)).toInt < w 7) ∧ (0 ≤ (q.2.2 (3 * k + 1)).toInt ∧ (q.2.2 (3 * k + 1)).toInt ≤ w 0) ∧ ((q.2.2 (3 * k + 2)).toInt = -1 ∨ plcOk w (q.2.2 (3 * k + 2)).toInt)))
def slWhyQ (w : Nat → Nat) (q : obQ) : Int32 := if q.2.1 % 3 = 0 then (if (obFst (slBad w q) (q.2.1 / 3) 0).isNone = true then 0 else -2) else -2
def slWhy (S : oZ) (a : Int32) : Int32 := if slIs a ∧ 0 < S.1 9 then (match S.2.2.2.2.2 a.toNatClampNeg with
  | none => -6
  | some q => slWhyQ S.1 q) else -2
/-- the k-th three isn't so -/
def slNo (w : Nat → Nat) (P : obP) (q : obQ) (k : Nat) : Bool := decide (¬ pZ (pl w P (q.2.2 (3 * k + 1)).toInt.toNat (q.2.2 (3 * k)).toInt.toNat) = (q.2.2 (3 * k + 2)).toInt)
def slSo (w : Nat → Nat) (P : obP) (q : obQ) : Bool := (obFst (slNo w P q) (q.2.1 / 3) 0).isNone
theorem slWhyQ_0 {w : Nat → Nat} {q : obQ} (h : slWhyQ w q = 0) : q.2.1 % 3 = 0 ∧ obFst (slBad w q) (q.2.1 / 3) 0 = none := by
  unfold slWhyQ at h
  by_cases c : q.2.1 % 3 = 0
  · rw [if_pos c] at h
    refine ⟨c, ?_⟩
    cases e : obFst (slBad w q) (q.2.1 / 3) 0 with
    | none => rfl
    | some k => rw [e, if_neg (by intro z; cases z)] at h; exact absurd h (by decide)
  · rw [if_neg c] at h; exact absurd h (by decide)
theorem obFst_all {c : Nat → Bool} : ∀ n k, obFst c n k = none → ∀ i, k ≤ i → i < k + n → c i = false := by
  intro n
  induction n with
  | zero => intro k _ i h1 h2; omega
  | succ n ih =>
    intro k h i h1 h2
    unfold obFst at h
    cases e : c k with
    | true => rw [e, if_pos rfl] at h; cases h
    | false =>
      rw [e, if_neg (by decide)] at h
      by_cases z : i = k
      · rw [z]; exact e
      · exact ih (k + 1) h i (by omega) (by omega)
theorem slGood {w : Nat → Nat} {q : obQ} (h : slWhyQ w q = 0) {k : Nat} (hk : 3 * k < q.2.1) : (0 ≤ (q.2.2 (3 * k)).toInt ∧ (q.2.2 (3 * k)).toInt < w 7) ∧ (0 ≤ (q.2.2 (3 * k + 1)).toInt ∧ (q.2.2 (3 * k + 1)).toInt ≤ w 0) := by
  obtain ⟨h1, h2⟩ := slWhyQ_0 h
  have := obFst_all _ _ h2 k (Nat.zero_le _) (by omega)
  have := Classical.not_not.mp (of_decide_eq_false this)
  exact ⟨this.1, this.2.1⟩
theorem lI32 {x : Int64} {n : Nat} (h : 0 ≤ x.toInt ∧ x.toInt ≤ n) (hn : n < 2 ^ 31) : x.toInt32 = nI x.toInt.toNat := by
  apply Int32.toInt_inj.mp
  rw [nI_toInt (by omega), Int64.toInt_toInt32, Int.bmod_eq_of_le (by omega) (by omega)]
  omega
theorem l_1 {x : Int64} : lg_cmp x (-1 : Int64) = 0 ↔ x.toInt = -1 := by
  rw [lc_eq, ← Int64.toInt_inj]; exact Iff.rfl
section TOO
variable {G : zG} {d : Nat} {S : oZ} {σ : zS} {w : Nat → Nat} {q : obQ} {s : Nat}
theorem m_numberAt {i : Nat} {x y : Int32} {K : Int64 → zS → Prop} (hx : x = nI s) (hy : y = nI i) (hs : s < 4) (hi : i < 60) (hq : mSl1 s σ (some q)) (h : K (q.2.2 i) σ) : zCallL zcl Zm G d mX6_numberAt [zR 0 0, zI x, zI y] σ K := by
  refine zmeth VX6_ok pX6_numberAt rfl (by decide) (Nat.le_of_ble_eq_true rfl) (fun AW hA => ?_)
  have e : (60 : Int32) * x + y = nI (60 * s + i) := by rw [hx, hy, show (60 : Int32) = nI 60 from rfl, pk_mul, nI_add]
  refine sX6_numberAt_0 hA ⟨zix _ e (by omega), _, rfl, ?_⟩
  rw [zcl_n _ e, hq.2.2 i hi]; exact h
theorem m_askSeen {a : Int32} {K : Int32 → zS → Prop} (h : mZ S σ) (hS : oOk S) (hK : ∀ σ', mSc σ σ' → (slWhy S a = 0 → mPar (obAs S.1) σ') → K (slWhy S a) σ') : zCallI zcl Zm G (d + 3) mX6_askSeen [zR 0 0, zI a] σ K := by
  refine zmeth VX6_ok pX6_askSeen rfl (by decide) (Nat.le_of_ble_eq_true rfl) (fun AW hA => ?_)
  have hb := hS.1.b
  unfold slWhy at hK
  have no : ¬ (slIs a ∧ 0 < S.1 9) → K (-2) σ := fun z => by
    rw [if_neg z] at hK; exact hK σ mSc.refl (fun q => absurd q (by decide))
  refine sX6_askSeen_0 hA (m_isSlot (zbr (fun c => ⟨_, rfl, no (fun z => c z.1)⟩) (fun c => m_isHeath h.1 hS.1 (zbr (fun cb => ⟨_, rfl, no (fun z => cb z.2)⟩) (fun cb => ?_)))))
  rw [if_pos ⟨c, cb⟩] at hK
  obtain ⟨e1, l1⟩ := okN' (a := a) (n := 3) c
  rw [zcl_n _ e1 (by omega)]
  generalize a.toNatClampNeg = s at e1 l1 hK ⊢
  refine ⟨zix _ e1 (by omega), ?_⟩
  have hs := h.2.2.2.2 s (by omega)
  rcases cs : S.2.2.2.2.2 s with _ | q
  · rw [cs] at hs hK
    exact ⟨fun _ => ⟨_, rfl, hK σ mSc.refl (fun q => absurd (show (-6 : Int32) = 0 from q) (by decide))⟩, fun z => absurd hs z⟩
  rw [cs] at hs hK
  dsimp only at hK
  have ok := (hS.2.2.2.2 s q cs).2.1
  refine ⟨fun z => absurd (hs.1.symm.trans z) (pI_ne (by omega)), fun _ => ⟨zix _ e1 (by omega), by decide, ?_⟩⟩
  rw [hs.1, show nI q.2.1 - nI q.2.1 / (3 : Int32) * (3 : Int32) = nI (q.2.1 % 3) from modN (m := 3) (by omega) (by decide) (by decide), ← nI_0]
  refine zeqN (by omega) (by decide) (fun cd => ?_) (fun cd => ⟨_, rfl, ?_⟩)
  · unfold slWhyQ at hK
    rw [if_pos cd] at hK
    refine loopF (N := q.2.1 / 3) (c := slBad S.1 q) (I := fun k => AW 46 [some (zR 0 0), some (zI a), some (zI (nI (3 * k)))] [] σ) (K := fun o => ∀ σ', mSc σ σ' → ((if o.isNone = true then (0 : Int32) else -2) = 0 → mPar (obAs S.1) σ') → K (if o.isNone = true then 0 else -2) σ') hK (fun hn => ?_) (fun k hk h1 h2 => ?_)
    · refine sX6_askSeen_46 hA ⟨zix _ e1 (by omega), ?_⟩
      rw [zcl_n _ e1, hs.1]
      refine zltN (by omega) (by omega) (fun z => absurd z (by omega)) (fun _ => m_asItIs h.1 (fun σ1 p1 f1 => ⟨_, rfl, ?_⟩))
      exact hn σ1 f1.wk (fun _ => p1)
    · have bad : slBad S.1 q k = true → K (-2) σ := fun z => by
        have := h1 z σ mSc.refl (fun q => absurd (show (-2 : Int32) = 0 from q) (by decide))
        exact this
      refine sX6_askSeen_46 hA ⟨zix _ e1 (by omega), ?_⟩
      rw [zcl_n _ e1, hs.1]
      have i1 : nI (3 * k) + (1 : Int32) = nI (3 * k + 1) := by rw [c1, nI_add]
      have i2 : nI (3 * k) + (2 : Int32) = nI (3 * k + 2) := by rw [c2, nI_add]
      have i3 : nI (3 * k) + (3 : Int32) = nI (3 * (k + 1)) := by rw [c3, nI_add]; rfl
      refine zltN (by omega) (by omega) (fun _ => ?_) (fun z => absurd z (by omega))
      refine m_numberAt e1 rfl (by omega) (by omega) hs (m_isWalker h.1 hS.1 (zbr (fun g1 => ⟨_, rfl, bad (decide_eq_true (fun z => g1 z.1))⟩) (fun g1 => ?_)))
      refine m_numberAt e1 i1 (by omega) (by omega) hs (m_isHour h.1 hS.1 (zbr (fun g2 => ⟨_, rfl, bad (decide_eq_true (fun z => g2 ⟨cb, z.2.1⟩))⟩) (fun g2 => ?_)))
      refine m_numberAt e1 i2 (by omega) (by omega) hs ?_
      rw [l_1]
      refine ⟨fun g3 => ?_, fun g3 => m_numberAt e1 i2 (by omega) (by omega) hs (m_isPlace h.1 hS.1 (zbr (fun g4 => ⟨_, rfl, bad (decide_eq_true (fun z => z.2.2.elim g3 g4))⟩) (fun g4 => ?_)))⟩
      · rw [i3]; exact h2 (decide_eq_false (fun z => z ⟨g1, g2.2, Or.inl g3⟩))
      · rw [i3]; exact h2 (decide_eq_false (fun z => z ⟨g1, g2.2, Or.inr g4⟩))
  · unfold slWhyQ at hK
    rw [if_neg cd] at hK
    exact hK σ mSc.refl (fun q => absurd q (by decide))
theorem m_isSeen {P : obP} {x : Int32} {K : Int32 → zS → Prop} (hw : wM w σ) (hI : obInv w) (hP : mPar P σ) (hPo : obPok w P) (hx : x = nI s) (hs : s < 4) (hq : mSl1 s σ (some q)) (hn : q.2.1 ≤ 60) (hy : slWhyQ w q = 0) (hK : ∀ σ', mRan w P σ' → mPar P σ' → zFr [] [] mAll [] σ σ' → K (bI (slSo w P q = true)) σ') : zCallI zcl Zm G (d + 6) mX6_isSeen [zR 0 0, zI x] σ K := by
  refine zmeth VX6_ok pX6_isSeen rfl (by decide) (Nat.le_of_ble_eq_true rfl) (fun AW hA => ?_)
  have hb := hI.b
  obtain ⟨y1, y2⟩ := slWhyQ_0 hy
  refine sX6_isSeen_0 hA (m_goAll hw hI hP hPo (fun σ1 r1 f1 => ?_))
  have hK := hK σ1 r1 (hP.fr f1) f1
  have hq1 : mSl1 s σ1 (some q) := by
    unfold mSl1 at hq ⊢
    rw [f1.A 37, f1.A 38, f1.B 39]; exact hq
  unfold slSo at hK
  refine loopF (N := q.2.1 / 3) (c := slNo w P q) (I := fun k => AW 6 [some (zR 0 0), some (zI x), some (zI (nI (3 * k)))] [] σ1) (K := fun o => K (bI (o.isNone = true)) σ1) hK (fun hn2 => ?_) (fun k hk h1 h2 => ?_)
  · refine sX6_isSeen_6 hA ⟨zix _ hx (by omega), ?_⟩
    rw [zcl_n _ hx, hq1.1]
    rw [bI_t (show (none : Option Nat).isNone = true from rfl)] at hn2
    exact zltN (by omega) (by omega) (fun z => absurd z (by omega)) (fun _ => ⟨Or.inr rfl, _, rfl, hn2⟩)
  · refine sX6_isSeen_6 hA ⟨zix _ hx (by omega), ?_⟩
    rw [zcl_n _ hx, hq1.1]
    have i1 : nI (3 * k) + (1 : Int32) = nI (3 * k + 1) := by rw [c1, nI_add]
    have i2 : nI (3 * k) + (2 : Int32) = nI (3 * k + 2) := by rw [c2, nI_add]
    have i3 : nI (3 * k) + (3 : Int32) = nI (3 * (k + 1)) := by rw [c3, nI_add]; rfl
    obtain ⟨⟨a1, a2⟩, a3, a4⟩ := slGood hy (show 3 * k < q.2.1 by omega)
    refine zltN (by omega) (by omega) (fun _ => ?_) (fun z => absurd z (by omega))
    refine m_numberAt hx rfl hs (by omega) hq1 (m_numberAt hx i1 hs (by omega) hq1 ?_)
    refine m_placeOf (i := (q.2.2 (3 * k)).toInt.toNat) (t := (q.2.2 (3 * k + 1)).toInt.toNat) hI r1 (lI32 (n := w 7) ⟨a1, by omega⟩ (by omega)) (lI32 (n := w 0) ⟨a3, a4⟩ (by omega)) (by omega) (by omega) ?_
    refine m_numberAt hx i2 hs (by omega) hq1 ?_
    rw [lc_eq, ← Int64.toInt_inj, pI64 (fun p hp => by have := pl_lt hI hPo hp; omega), i3]
    refine ⟨fun z => h2 (decide_eq_false (fun y => y z)), fun z => ⟨Or.inl rfl, _, rfl, ?_⟩⟩
    have := h1 (decide_eq_true z)
    rw [bI_f (by intro z; cases z)] at this
    exact this
end TOO
