/-! THE TWIN READS: arms, walkers, lines, a heath -/
section RD
variable {G : zG} {d : Nat} {T : Nat → Int32} {n : Nat} {x : pX} {σ : zS}
theorem xNum_inr {lo hi : Int} {f : Nat × Nat} : xNum T n lo hi (.inr f) = (0, .inr f) := rfl
theorem m_readArm {K : zS → Prop} {s : pS} (h : rS T n (.inl s) σ) (hr : rInv s.2) (hK : ∀ σ', rS T n (xArm T n (.inl s)) σ' → rF σ σ' → K σ') : zCallV zcl Zm G (d + 8) mX6_readArm [zR 0 0] σ K := by
  refine zmeth VX6_ok pX6_readArm rfl (by decide) (Nat.le_of_ble_eq_true rfl) (fun AW hA => ?_)
  have hb := hr.b
  have hX1 := xSt.post (T := T) (show xSt n 0 (fun w => w = s.2) (.inl s) from ⟨h.2.1, Nat.zero_le _, rfl⟩)
  unfold xArm at hK
  dsimp only at hK
  refine sX6_readArm_0 hA (m_readPost h (fun s1 e => by cases e; omega) (fun σ1 h1 f1 => ?_))
  generalize xPost T n (.inl s) = a at h1 hK hX1 ⊢
  have k14 : (14 : Int32) + (6 : Int32) * nI a.1 = nI (14 + 6 * a.1) := by rw [c14, c6, pk_mul, nI_add]
  have k19 : nI (14 + 6 * a.1) + (1 : Int32) + (4 : Int32) = nI (19 + 6 * a.1) := by rw [c1, c4, nI_add, nI_add]; congr 1; omega
  rw [k14, k19]
  rcases ha : a.2 with s1 | f
  · rw [ha] at h1 hK hX1
    have e1 : s1.2 = s.2 := hX1.2.2.1
    have hp : a.1 < s1.2 4 := hX1.2.2.2
    have p7 : a.1 < 7 := by rw [e1] at hp; omega
    have hm := (hr.2.2.1 a.1 p7).1
    rw [← e1] at hm
    unfold obMany at hm
    refine m_good h1 (fun _ _ => ⟨fun q => absurd q (by decide), fun _ => ⟨zix _ rfl (by omega), ?_⟩⟩) (fun f e => by cases e)
    rw [zcl_n _ rfl, h1.rd (by omega)]
    refine m_numberQ (lo := 0) (hi := (xGet (14 + 6 * a.1) (.inl s1) : Int) - 1) rfl (by rw [toI_1 (by omega)]; rfl) h1 (fun σ2 h2 f2 => ?_)
    generalize xNum T n 0 ((xGet (14 + 6 * a.1) (.inl s1) : Int) - 1) (.inl s1) = b at h2 hK ⊢
    refine m_good h2 (fun s2 e2 => ⟨fun q => absurd q (by decide), fun _ => ⟨zix _ rfl (by omega), zin_lit rfl, zin_lit rfl, rfl, ?_⟩⟩) (fun f e2 => ⟨fun _ => ⟨rfl, ?_⟩, fun q => absurd rfl q⟩)
    · rw [zcl_n _ rfl]
      refine hK _ (h2.row (g := armW a.1 b.1) ((xFr.refl.uA 14 _).uA 14 _) (fun s3 e3 hg => ?_)) (f1.trans f2).put.put
      show agr 102 (upd (upd (gA σ2 14 0) (19 + 6 * a.1) (nI b.1)) 6 (upd (gA σ2 14 0) (19 + 6 * a.1) (nI b.1) 6 + (1 : Int32))) _
      unfold armW
      refine agr.upd (agr.upd hg rfl) ?_
      rw [pk_un (by omega), hg 6 (by decide), c1, nI_add]
    · rw [e2] at hK h2
      exact hK σ2 h2 (f1.trans f2)
  · rw [ha] at h1 hK
    refine m_good h1 (fun s e => by cases e) (fun _ _ => ⟨fun _ => ?_, fun q => absurd rfl q⟩)
    refine m_numberQ rfl rfl h1 (fun σ2 h2 f2 => ?_)
    exact m_good h2 (fun s e => by cases e) (fun _ _ => ⟨fun _ => ⟨rfl, hK σ2 h2 (f1.trans f2)⟩, fun q => absurd rfl q⟩)
theorem xIs_set {g : (Nat → Nat) → (Nat → Nat)} {j : Nat} : xIs T j (xSet g x) = xIs T j x := by rcases x with s | f <;> rfl
theorem xExp_set {g : (Nat → Nat) → (Nat → Nat)} {j : Nat} : xExp T n j (xSet g x) = xSet g (xExp T n j x) := by
  unfold xExp
  rw [xIs_set]
  split
  · rcases x with s | f <;> rfl
  · rcases x with s | f <;> rfl
theorem xNum_set {g : (Nat → Nat) → (Nat → Nat)} {lo hi : Int} : xNum T n lo hi (xSet g x) = ((xNum T n lo hi x).1, xSet g (xNum T n lo hi x).2) := by
  rcases x with s | f
  · unfold xNum xSet
    dsimp only
    by_cases c : s.1.2.2.1 = 2
    · rw [if_pos c, if_pos c]
      by_cases c2 : lo ≤ (s.1.2.2.2 : Int) ∧ (s.1.2.2.2 : Int) ≤ hi
      · rw [if_pos c2, if_pos c2]; rfl
      · rw [if_neg c2, if_neg c2]
    · rw [if_neg c, if_neg c]
  · rfl
theorem xTold_set {g : (Nat → Nat) → (Nat → Nat)} {j : Nat} {lo hi : Int} : xTold T n j lo hi (xSet g x) = ((xTold T n j lo hi x).1, xSet g (xTold T n j lo hi x).2) := by
  unfold xTold
  rw [xExp_set, xNum_set]
theorem xSet_set {g g' : (Nat → Nat) → (Nat → Nat)} : xSet g (xSet g' x) = xSet (fun w => g (g' w)) x := by rcases x with s | f <;> rfl
theorem m_readWalker {K : zS → Prop} {s : pS} (h : rS T n (.inl s) σ) (hr : rInv s.2) (h7 : s.2 7 < 8) (hK : ∀ σ', rS T n (xWalk T n (.inl s)) σ' → rF σ σ' → K σ') : zCallV zcl Zm G (d + 8) mX6_readWalker [zR 0 0] σ K := by
  refine zmeth VX6_ok pX6_readWalker rfl (by decide) (Nat.le_of_ble_eq_true rfl) (fun AW hA => ?_)
  have hb := hr.b
  have hX0 : xSt n 0 (fun w => w = s.2) (.inl s) := ⟨h.2.1, Nat.zero_le _, rfl⟩
  have hX1 := xSt.post (T := T) hX0
  unfold xWalk at hK
  dsimp only at hK
  have k56 : (56 : Int32) + (2 : Int32) * gA σ 14 0 7 = nI (56 + 2 * s.2 7) := by rw [h.rd (by decide), c56, c2, pk_mul, nI_add]
  have k57 : nI (56 + 2 * s.2 7) + (1 : Int32) = nI (57 + 2 * s.2 7) := by rw [c1, nI_add]; congr 1; omega
  refine sX6_readWalker_0 hA ⟨zin_lit rfl, ?_⟩
  rw [k56, k57]
  refine m_readPost h (fun s1 e => by cases e; omega) (fun σ1 h1 f1 => ⟨zix _ rfl (by omega), ?_⟩)
  generalize xPost T n (.inl s) = a at h1 hK hX1 ⊢
  rw [zcl_n _ rfl]
  have h1' := h1.put (k := 56 + 2 * s.2 7) (v := a.1) (fun _ _ => rfl)
  have hX2 := hX1.told (T := T) (j := 12) (lo := 0) (hi := 15)
  refine m_toldQ (lo := 0) (hi := 15) rfl rfl (j := 12) (by decide) h1' (fun σ2 h2 f2 => ⟨zix _ rfl (by omega), zin_lit rfl, zin_lit rfl, rfl, ?_⟩)
  rw [xTold_set] at h2 ⊢
  dsimp only at h2 ⊢
  generalize xTold T n 12 0 15 a.2 = b at h2 hK hX2 ⊢
  rw [zcl_n _ rfl]
  refine hK _ ?_ ((((f1.put).trans f2).put).put)
  rcases hb2 : b.2 with s3 | f
  · rw [hb2] at h2 hX2
    have e3 : s3.2 = s.2 := hX2.2.2.1.1
    have := h2.row (g := fun w => fU (fU w (57 + 2 * s.2 7) b.1) 7 (s.2 7 + 1)) (σ' := uA (uA σ2 14 0 (upd (gA σ2 14 0) (57 + 2 * s.2 7) (nI b.1))) 14 0 (upd (upd (gA σ2 14 0) (57 + 2 * s.2 7) (nI b.1)) 7 (upd (gA σ2 14 0) (57 + 2 * s.2 7) (nI b.1) 7 + (1 : Int32)))) ((xFr.refl.uA 14 _).uA 14 _) (fun s4 e4 hg => ?_)
    · rw [xSet_set] at this
      rw [show xSet (walkW a.1 b.1) (.inl s3) = xSet (fun w => fU (fU (fU w (56 + 2 * s.2 7) a.1) (57 + 2 * s.2 7) b.1) 7 (s.2 7 + 1)) (.inl s3) from ?_]
      · exact this
      · show Sum.inl (s3.1, walkW a.1 b.1 s3.2) = Sum.inl (s3.1, _)
        unfold walkW
        rw [e3]
    · cases e4
      refine agr.upd (agr.upd hg rfl) ?_
      rw [pk_un (by omega), hg 7 (by decide), c1, nI_add]
      show nI (fU s3.2 (56 + 2 * s.2 7) a.1 7 + 1) = _
      rw [fU_n (by omega), e3]
  · rw [hb2] at h2
    exact h2.row (g := id) ((xFr.refl.uA 14 _).uA 14 _) (fun s4 e4 => by cases e4)
/-- is there no room for what is to come? -/
def xFull (T : Nat → Int32) (x : pX) : Prop := (xIs T 4 x = true ∧ xGet 3 x = 4) ∨ (xIs T 5 x = true ∧ xGet 4 x = 7) ∨ (xIs T 6 x = true ∧ xGet 5 x = 16) ∨ (xIs T 7 x = true ∧ xGet 6 x = 8) ∨ (xIs T 8 x = true ∧ xGet 7 x = 8)
theorem m_isFull {K : Int32 → zS → Prop} (h : rS T n x σ) (hr : ∀ s, x = .inl s → rInv s.2) (h1 : xFull T x → K 1 σ) (h0 : ¬ xFull T x → K 0 σ) : zCallI zcl Zm G (d + 5) mX6_isFull [zR 0 0] σ K := by
  refine zmeth VX6_ok pX6_isFull rfl (by decide) (Nat.le_of_ble_eq_true rfl) (fun AW hA => ?_)
  have st : ∀ j k c (A B : Prop), 3 ≤ k → k ≤ 7 → c ≤ 16 → (xIs T j x = true ∧ xGet k x = c → A) → (¬ (xIs T j x = true ∧ xGet k x = c) → B) → ((bI (xIs T j x = true) = 0 → B) ∧ (¬ bI (xIs T j x = true) = 0 → (vp_in (nI k) 102 ∧ ((gA σ 14 0 k = nI c → A) ∧ (¬ gA σ 14 0 k = nI c → B))))) := by
    intro j k c A B k1 k2 hc hA hB
    refine zbr (fun q => hB (fun z => q z.1)) (fun q => ⟨zix k rfl (by omega), ?_⟩)
    rcases x with s | f
    · have := (hr s rfl).b
      have hw : s.2 k ≤ 16 := by
        rcases (show k = 3 ∨ k = 4 ∨ k = 5 ∨ k = 6 ∨ k = 7 by omega) with e | e | e | e | e <;> (subst e; omega)
      rw [h.rd (by omega)]
      exact zeqN (by omega) (by omega) (fun e => hA ⟨q, e⟩) (fun e => hB (fun z => e z.2))
    · exact absurd q (fun q => Bool.false_ne_true q)
  refine sX6_isFull_j_0 hA (m_is (by decide) h (st 4 3 4 _ _ (by decide) (by decide) (by decide) (fun q => ⟨Or.inr rfl, _, rfl, h1 (Or.inl q)⟩) (fun q4 => ?_)))
  refine sX6_isFull_j_19 hA (m_is (by decide) h (st 5 4 7 _ _ (by decide) (by decide) (by decide) (fun q => ⟨Or.inr rfl, _, rfl, h1 (Or.inr (Or.inl q))⟩) (fun q5 => ?_)))
  refine sX6_isFull_j_39 hA (m_is (by decide) h (st 6 5 16 _ _ (by decide) (by decide) (by decide) (fun q => ⟨Or.inr rfl, _, rfl, h1 (Or.inr (Or.inr (Or.inl q)))⟩) (fun q6 => ?_)))
  refine sX6_isFull_j_61 hA (m_is (by decide) h (st 7 6 8 _ _ (by decide) (by decide) (by decide) (fun q => ⟨Or.inr rfl, _, rfl, h1 (Or.inr (Or.inr (Or.inr (Or.inl q))))⟩) (fun q7 => ?_)))
  refine sX6_isFull_j_82 hA (m_is (by decide) h (st 8 7 8 _ _ (by decide) (by decide) (by decide) (fun q => ⟨Or.inr rfl, _, rfl, h1 (Or.inr (Or.inr (Or.inr (Or.inr q))))⟩) (fun q8 => ⟨Or.inl rfl, _, rfl, h0 ?_⟩)))
  rintro (q | q | q | q | q)
  · exact q4 q
  · exact q5 q
  · exact q6 q
  · exact q7 q
  · exact q8 q
/-- a word is one word only -/
theorem xIs_ne {i j : Nat} (h : xIs T i x = true) (hd : i < 13 ∧ j < 13 ∧ zWd.getD i [] ≠ zWd.getD j []) : ¬ xIs T j x = true := by
  rcases x with s | f
  · intro q
    have := pIs_ne (T := T) (s := s) h hd.2.2 hd.1 hd.2.1
    exact Bool.false_ne_true (this.symm.trans q)
  · exact fun _ => Bool.false_ne_true h
def xKnown (T : Nat → Int32) (x : pX) : Prop := xIs T 4 x = true ∨ xIs T 5 x = true ∨ xIs T 6 x = true ∨ xIs T 7 x = true ∨ xIs T 8 x = true
theorem xNext_un (h : ¬ xKnown T x) : xNext T n x = xErr 1 x := by
  unfold xKnown at h
  unfold xNext
  rw [if_neg (fun q => h (Or.inl q)), if_neg (fun q => h (Or.inr (Or.inl q))), if_neg (fun q => h (Or.inr (Or.inr (Or.inl q)))), if_neg (fun q => h (Or.inr (Or.inr (Or.inr (Or.inl q))))), if_neg (fun q => h (Or.inr (Or.inr (Or.inr (Or.inr q)))))]
theorem xNext_full (h : xFull T x) : xNext T n x = xErr 3 x := by
  unfold xNext
  rcases h with q | q | q | q | q
  · rw [if_pos q.1, if_pos q.2]
  · rw [if_neg (xIs_ne q.1 (by decide)), if_pos q.1, if_pos q.2]
  · rw [if_neg (xIs_ne q.1 (by decide)), if_neg (xIs_ne q.1 (by decide)), if_pos q.1, if_pos q.2]
  · rw [if_neg (xIs_ne q.1 (by decide)), if_neg (xIs_ne q.1 (by decide)), if_neg (xIs_ne q.1 (by decide)), if_pos q.1, if_pos q.2]
  · rw [if_neg (xIs_ne q.1 (by decide)), if_neg (xIs_ne q.1 (by decide)), if_neg (xIs_ne q.1 (by decide)), if_neg (xIs_ne q.1 (by decide)), if_pos q.1, if_pos q.2]
theorem m_readNext {K : zS → Prop} {s : pS} (h : rS T n (.inl s) σ) (hr : rInv s.2) (hK : ∀ σ', rS T n (xNext T n (.inl s)) σ' → rF σ σ' → K σ') : zCallV zcl Zm G (d + 9) mX6_readNext [zR 0 0] σ K := by
  refine zmeth VX6_ok pX6_readNext rfl (by decide) (Nat.le_of_ble_eq_true rfl) (fun AW hA => ?_)
  have hb := hr.b
  have bad : ∀ (f : Nat × Nat) (a1 : Int32) (σ1 : zS), rS T n (.inr f) σ1 → K σ1 → AW 72 [some (zR 0 0), some (zI a1)] [] σ1 := fun f a1 σ1 h1 hk =>
    sX6_readNext_72 hA (m_good h1 (fun s e => by cases e) (fun _ _ => ⟨fun _ => ⟨rfl, hk⟩, fun q => absurd rfl q⟩))
  have pre : (xKnown T (.inl s) → AW 50 [some (zR 0 0), none] [zI (1 : Int32)] σ) → (¬ xKnown T (.inl s) → AW 50 [some (zR 0 0), none] [zI (0 : Int32)] σ) → AW 0 [some (zR 0 0), none] [] σ := fun k1 k0 =>
    sX6_readNext_0 hA (m_is (by decide) h (zbr (fun c4 => m_is (by decide) h (zbr (fun c5 => m_is (by decide) h (zbr (fun c6 => m_is (by decide) h (zbr (fun c7 => m_is (by decide) h (zbr (fun c8 => k0 (fun q => q.elim c4 (fun q => q.elim c5 (fun q => q.elim c6 (fun q => q.elim c7 c8))))) (fun c8 => k1 (Or.inr (Or.inr (Or.inr (Or.inr c8))))))) (fun c7 => k1 (Or.inr (Or.inr (Or.inr (Or.inl c7))))))) (fun c6 => k1 (Or.inr (Or.inr (Or.inl c6)))))) (fun c5 => k1 (Or.inr (Or.inl c5))))) (fun c4 => k1 (Or.inl c4))))
  refine pre (fun kn => ?_) (fun kn => ?_)
  · refine sX6_readNext_50 hA ⟨fun q => absurd q (by decide), fun _ => ?_⟩
    refine sX6_readNext_60 hA (m_isFull h (fun s1 e => by cases e; exact hr) (fun fu => ?_) (fun fu => ?_))
    · refine ⟨fun q => absurd q (by decide), fun _ => m_errs (k := 3) rfl (Or.inr (Or.inr rfl)) h (fun σ1 h1 f1 => bad _ _ σ1 h1 (hK σ1 ?_ f1))⟩
      rw [xNext_full fu]; exact h1
    · refine ⟨fun _ => ?_, fun q => absurd rfl q⟩
      unfold xFull at fu
      unfold xNext at hK
      refine sX6_readNext_72 hA (m_good h (fun _ _ => ⟨fun q => absurd q (by decide), fun _ => ?_⟩) (fun f e => by cases e))
      refine m_takes (j := 4) (by decide) h (fun σ1 h1 f1 => ?_)
      unfold xTakes at h1
      refine zbr (fun c4 => ?_) (fun c4 => ⟨zin_lit rfl, ?_⟩)
      · rw [if_neg c4] at h1 hK
        refine m_takes (j := 5) (by decide) h1 (fun σ2 h2 f2 => ?_)
        unfold xTakes at h2
        refine zbr (fun c5 => ?_) (fun c5 => ⟨zin_lit rfl, zin_lit rfl, rfl, ?_⟩)
        · rw [if_neg c5] at h2 hK
          refine m_takes (j := 6) (by decide) h2 (fun σ3 h3 f3 => ?_)
          unfold xTakes at h3
          refine zbr (fun c6 => ?_) (fun c6 => ?_)
          · rw [if_neg c6] at h3 hK
            refine m_takes (j := 7) (by decide) h3 (fun σ4 h4 f4 => ?_)
            unfold xTakes at h4
            refine zbr (fun c7 => ?_) (fun c7 => ?_)
            · rw [if_neg c7] at h4 hK
              have c8 : xIs T 8 (.inl s) = true := by
                rcases kn with q | q | q | q | q
                · exact absurd q c4
                · exact absurd q c5
                · exact absurd q c6
                · exact absurd q c7
                · exact q
              have z : ¬ s.2 7 = 8 := fun z => fu (Or.inr (Or.inr (Or.inr (Or.inr ⟨c8, z⟩))))
              rw [if_pos c8, if_neg (show ¬ xGet 7 (.inl s) = 8 from z)] at hK
              refine m_adv h4 (fun σ5 h5 f5 => m_readWalker h5 hr (show s.2 7 < 8 by omega) (fun σ6 h6 f6 => ⟨rfl, hK σ6 h6 (((((f1.trans f2).trans f3).trans f4).trans f5).trans f6)⟩))
            · rw [if_pos c7] at h4 hK
              have z : ¬ s.2 6 = 8 := fun z => fu (Or.inr (Or.inr (Or.inr (Or.inl ⟨c7, z⟩))))
              rw [if_neg (show ¬ xGet 6 (.inl s) = 8 from z)] at hK
              exact m_readArm h4 hr (fun σ6 h6 f6 => ⟨rfl, hK σ6 h6 ((((f1.trans f2).trans f3).trans f4).trans f6)⟩)
          · rw [if_pos c6] at h3 hK
            have z : ¬ s.2 5 = 16 := fun z => fu (Or.inr (Or.inr (Or.inl ⟨c6, z⟩)))
            rw [if_neg (show ¬ xGet 5 (.inl s) = 16 from z)] at hK
            exact m_readRoad h3 hr (show s.2 5 < 16 by omega) (fun σ6 h6 f6 => ⟨rfl, hK σ6 h6 (((f1.trans f2).trans f3).trans f6)⟩)
        · rw [if_pos c5] at h2 hK
          have z : ¬ s.2 4 = 7 := fun z => fu (Or.inr (Or.inl ⟨c5, z⟩))
          rw [if_neg (show ¬ xGet 4 (.inl s) = 7 from z)] at hK
          refine hK _ (h2.row (xFr.refl.uA 14 _) (fun s3 e3 hg => ?_)) (f1.trans f2).put
          cases e3
          refine agr.upd hg ?_
          rw [hg 4 (by decide), c1, nI_add]
      · rw [if_pos c4] at h1 hK
        have z : ¬ s.2 3 = 4 := fun z => fu (Or.inl ⟨c4, z⟩)
        rw [if_neg (show ¬ xGet 3 (.inl s) = 4 from z)] at hK
        have k10 : (10 : Int32) + gA σ1 14 0 3 = nI (10 + s.2 3) := by rw [h1.2.2.2.2.2 3 (by decide), c10, nI_add]; rfl
        have hX := (show xSt n 0 (fun w => w = s.2) (xAdv T n (.inl s)) from ⟨h1.2.1, Nat.zero_le _, rfl⟩).told (T := T) (j := 9) (lo := 0) (hi := 9)
        unfold xInn at hK
        dsimp only at hK
        refine m_toldQ (lo := 0) (hi := 9) rfl rfl (j := 9) (by decide) h1 (fun σ2 h2 f2 => ?_)
        rw [k10]
        generalize xTold T n 9 0 9 (xAdv T n (.inl s)) = b at h2 hK hX ⊢
        refine ⟨zix _ rfl (by omega), zin_lit rfl, zin_lit rfl, rfl, ?_⟩
        rw [zcl_n _ rfl]
        refine hK _ (h2.row (g := innW b.1) ((xFr.refl.uA 14 _).uA 14 _) (fun s3 e3 hg => ?_)) ((f1.trans f2).put).put
        rw [e3] at hX
        have e4 : s3.2 = s.2 := hX.2.2.1
        unfold innW
        rw [e4] at hg ⊢
        refine agr.upd (agr.upd hg rfl) ?_
        rw [pk_un (by omega), hg 3 (by decide), c1, nI_add]
  · refine sX6_readNext_50 hA ⟨fun _ => m_errs (k := 1) rfl (Or.inl rfl) h (fun σ1 h1 f1 => ?_), fun q => absurd rfl q⟩
    refine sX6_readNext_60 hA (m_isFull h1 (fun s e => by cases e) (fun fu => ?_) (fun _ => ⟨fun _ => bad _ _ σ1 h1 (hK σ1 (by rw [xNext_un kn]; exact h1) f1), fun q => absurd rfl q⟩))
    exfalso
    rcases fu with q | q | q | q | q <;> exact Bool.false_ne_true q.1
theorem m_readLine {K : zS → Prop} {s : pS} (h : rS T n (.inl s) σ) (hr : rInv s.2) (h9 : s.2 9 < 2 ^ 31) (hK : ∀ σ', rS T n (xLine T n (.inl s)) σ' → rF σ σ' → K σ') : zCallV zcl Zm G (d + 10) mX6_readLine [zR 0 0] σ K := by
  refine zmeth VX6_ok pX6_readLine rfl (by decide) (Nat.le_of_ble_eq_true rfl) (fun AW hA => ?_)
  unfold xLine at hK
  have e52 : ∀ (y : pX) (σ1 : zS), rS T n y σ1 → (∀ σ', rS T n (xSet (fun w => fU w 9 (w 9 + 1)) y) σ' → rF σ1 σ' → K σ') → AW 52 [some (zR 0 0)] [] σ1 := by
    intro y σ1 h1 hk
    refine sX6_readLine_j_52 hA ⟨zin_lit rfl, zin_lit rfl, rfl, hk _ (h1.row (xFr.refl.uA 14 _) (fun s2 e hg => ?_)) rF.refl.put⟩
    refine agr.upd hg ?_
    rw [hg 9 (by decide), c1, nI_add]
  have e41 : ∀ (y : pX) (σ1 : zS), rS T n y σ1 → (∀ σ', rS T n (xSet (fun w => fU w 9 (w 9 + 1)) (xAdv T n y)) σ' → rF σ1 σ' → K σ') → AW 41 [some (zR 0 0)] [] σ1 := by
    intro y σ1 h1 hk
    refine sX6_readLine_j_41 hA (m_good h1 (fun s1 e => ⟨fun q => absurd q (by decide), fun _ => ?_⟩) (fun f e => ⟨fun _ => ?_, fun q => absurd rfl q⟩))
    · subst e
      exact m_adv h1 (fun σ2 h2 f2 => e52 _ σ2 h2 (fun σ3 h3 f3 => hk σ3 h3 (f2.trans f3)))
    · subst e
      exact e52 _ σ1 h1 hk
  have e21 : ∀ (y : pX) (σ1 : zS), rS T n y σ1 → (∀ σ', rS T n (xSet (fun w => fU w 9 (w 9 + 1)) (xAdv T n (xSign y))) σ' → rF σ1 σ' → K σ') → AW 21 [some (zR 0 0)] [] σ1 := by
    intro y σ1 h1 hk
    refine sX6_readLine_j_21 hA (m_good h1 (fun s1 e => ⟨fun q => absurd q (by decide), fun _ => ?_⟩) (fun f e => ⟨fun _ => ?_, fun q => absurd rfl q⟩))
    · subst e
      have p3 := h1.2.1.2.2.1
      rw [h1.2.2.2.2.1.2.2.1, c3]
      refine zeqN (by omega) (by decide) (fun q => ?_) (fun q => m_errs (k := 1) rfl (Or.inl rfl) h1 (fun σ2 h2 f2 => ?_))
      · refine e41 _ σ1 h1 ?_
        rw [show xSign (.inl s1) = .inl s1 from if_pos q] at hk
        exact hk
      · refine e41 _ σ2 h2 (fun σ3 h3 f3 => hk σ3 ?_ (f2.trans f3))
        rw [show xSign (.inl s1) = .inr (1, s1.1.2.1) from if_neg q]
        exact h3
    · subst e
      exact e41 _ σ1 h1 hk
  refine sX6_readLine_j_0 hA ⟨zin_lit rfl, ?_⟩
  rw [h.rd (by decide), ← nI_0]
  refine zeqN h9 (by decide) (fun c => m_readFirst h (fun σ1 h1 f1 => e21 _ σ1 h1 (fun σ2 h2 f2 => hK σ2 ?_ (f1.trans f2)))) (fun c => m_readNext h hr (fun σ1 h1 f1 => e21 _ σ1 h1 (fun σ2 h2 f2 => hK σ2 ?_ (f1.trans f2))))
  · rw [if_pos (show xGet 9 (.inl s) = 0 from c)]; exact h2
  · rw [if_neg (show ¬ xGet 9 (.inl s) = 0 from c)]; exact h2
end RD
