/-! THE TWIN READS: lines -/
section RD
variable {G : zG} {d : Nat} {T : Nat → Int32} {n : Nat} {x : pX} {σ : zS}
theorem m_toldQ {K : Int32 → zS → Prop} {y z : Int32} {lo hi : Int} {j : Nat} (hl : y.toInt = lo) (hh : z.toInt = hi) (hj : j < 13) (h : rS T n x σ) (hK : ∀ σ', rS T n (xTold T n j lo hi x).2 σ' → rF σ σ' → K (nI (xTold T n j lo hi x).1) σ') : zCallI zcl Zm G (d + 7) mX6_toldBy [zR 0 0, zR 97 j, zI y, zI z] σ K := by
  subst hl hh
  exact m_toldBy hj h hK
theorem m_numberQ {K : Int32 → zS → Prop} {y z : Int32} {lo hi : Int} (hl : y.toInt = lo) (hh : z.toInt = hi) (h : rS T n x σ) (hK : ∀ σ', rS T n (xNum T n lo hi x).2 σ' → rF σ σ' → K (nI (xNum T n lo hi x).1) σ') : zCallI zcl Zm G (d + 2) mX6_number [zR 0 0, zI y, zI z] σ K := by
  subst hl hh
  exact m_number h hK
/-- the row is written -/
theorem rS.row {g : (Nat → Nat) → (Nat → Nat)} {σ' : zS} (h : rS T n x σ) (hF : xFr [] [14] σ σ') (hf : ∀ s, x = .inl s → agr 102 (gA σ 14 0) s.2 → agr 102 (gA σ' 14 0) (g s.2)) : rS T n (xSet g x) σ' := by
  obtain ⟨h1, h2, h3⟩ := h
  refine ⟨h1.fr hF, ?_, ?_⟩
  · rcases x with s | q <;> exact h2
  · rcases x with s | q
    · refine ⟨?_, ?_, ⟨?_, ?_, ?_, fun z => ?_⟩, hf s rfl h3.2.2.2⟩
      · rw [hF.I 0 12 0]; exact h3.1
      · rw [hF.I 0 13 0]; exact h3.2.1
      · rw [hF.I 0 8 0]; exact h3.2.2.1.1
      · rw [hF.I 0 9 0]; exact h3.2.2.1.2.1
      · rw [hF.I 0 10 0]; exact h3.2.2.1.2.2.1
      · rw [hF.I 0 11 0]; exact h3.2.2.1.2.2.2 z
    · refine ⟨?_, ?_⟩
      · rw [hF.I 0 12 0]; exact h3.1
      · rw [hF.I 0 13 0]; exact h3.2
theorem rS.put {k v : Nat} {y : Int32} (h : rS T n x σ) (hy : ∀ s, x = .inl s → y = nI v) : rS T n (xSet (fun w => fU w k v) x) (uA σ 14 0 (upd (gA σ 14 0) k y)) := h.row (xFr.refl.uA 14 _) (fun s e q => q.upd (hy s e))
theorem rF.put {σ1 : zS} {f : Nat → Int32} (h : rF σ σ1) : rF σ (uA σ1 14 0 f) := xFr.uA h 14 _
theorem rS.rd {k : Nat} {s : pS} (h : rS T n (.inl s) σ) (hk : k < 102) : gA σ 14 0 k = nI (s.2 k) := h.2.2.2.2.2 k hk
theorem m_readFirst {K : zS → Prop} (h : rS T n x σ) (hK : ∀ σ', rS T n (xFirst T n x) σ' → rF σ σ' → K σ') : zCallV zcl Zm G (d + 8) mX6_readFirst [zR 0 0] σ K := by
  refine zmeth VX6_ok pX6_readFirst rfl (by decide) (Nat.le_of_ble_eq_true rfl) (fun AW hA => ?_)
  refine sX6_readFirst_0 hA (m_expects (j := 0) (by decide) h (fun σ1 h1 f1 => m_toldQ (lo := 1) (hi := 16) rfl rfl (j := 1) (by decide) h1 (fun σ2 h2 f2 => ⟨zin_lit rfl, ?_⟩)))
  unfold xFirst at hK
  dsimp only at hK
  generalize xTold T n 1 1 16 (xExp T n 0 x) = a at h2 hK ⊢
  refine m_toldQ (lo := 0) (hi := 3) rfl rfl (j := 2) (by decide) (h2.put (k := 0) (v := a.1) (fun _ _ => rfl)) (fun σ3 h3 f3 => ⟨zin_lit rfl, ?_⟩)
  generalize xTold T n 2 0 3 (xSet (fun w => fU w 0 a.1) a.2) = b at h3 hK ⊢
  refine m_toldQ (lo := 0) (hi := 10) rfl rfl (j := 3) (by decide) (h3.put (k := 1) (v := b.1) (fun _ _ => rfl)) (fun σ4 h4 f4 => ⟨zin_lit rfl, rfl, ?_⟩)
  generalize xTold T n 3 0 10 (xSet (fun w => fU w 1 b.1) b.2) = c at h4 hK ⊢
  exact hK _ (h4.put (k := 2) (v := c.1) (fun _ _ => rfl)) (((((f1.trans f2).put).trans f3).put.trans f4).put)
theorem m_readPost {K : Int32 → zS → Prop} (h : rS T n x σ) (hw : ∀ s, x = .inl s → s.2 4 ≤ 7) (hK : ∀ σ', rS T n (xPost T n x).2 σ' → rF σ σ' → K (nI (xPost T n x).1) σ') : zCallI zcl Zm G (d + 3) mX6_readPost [zR 0 0] σ K := by
  refine zmeth VX6_ok pX6_readPost rfl (by decide) (Nat.le_of_ble_eq_true rfl) (fun AW hA => ?_)
  refine sX6_readPost_0 hA ⟨zin_lit rfl, ?_⟩
  rcases x with s | f
  · have h4 := hw s rfl
    refine m_numberQ (lo := 0) (hi := (xGet 4 (.inl s) : Int) - 1) rfl ?_ h (fun σ1 h1 f1 => ⟨_, rfl, hK σ1 h1 f1⟩)
    rw [h.rd (by decide), toI_1 (by omega)]
    rfl
  · exact m_numberQ rfl rfl h (fun σ1 h1 f1 => ⟨_, rfl, hK σ1 h1 f1⟩)
theorem agr_road {f : Nat → Int32} {w : Nat → Nat} {p to : Nat} (h : agr 102 f w) (hp : p < 7) (hm : w (14 + 6 * p) ≤ 4) : agr 102 (upd (upd (upd f (15 + 6 * p + w (14 + 6 * p)) (nI to)) (14 + 6 * p) ((upd f (15 + 6 * p + w (14 + 6 * p)) (nI to)) (14 + 6 * p) + (1 : Int32))) 5 ((upd (upd f (15 + 6 * p + w (14 + 6 * p)) (nI to)) (14 + 6 * p) ((upd f (15 + 6 * p + w (14 + 6 * p)) (nI to)) (14 + 6 * p) + (1 : Int32))) 5 + (1 : Int32))) (roadW p to w) := by
  unfold roadW
  refine agr.upd (agr.upd (agr.upd h rfl) ?_) ?_
  · rw [pk_un (by omega), h _ (by omega), c1, nI_add]
  · rw [pk_un (by omega), pk_un (by omega), h _ (by omega), c1, nI_add]
theorem m_readRoad {K : zS → Prop} {s : pS} (h : rS T n (.inl s) σ) (hr : rInv s.2) (h5 : s.2 5 < 16) (hK : ∀ σ', rS T n (xRoad T n (.inl s)) σ' → rF σ σ' → K σ') : zCallV zcl Zm G (d + 8) mX6_readRoad [zR 0 0] σ K := by
  refine zmeth VX6_ok pX6_readRoad rfl (by decide) (Nat.le_of_ble_eq_true rfl) (fun AW hA => ?_)
  have hb := hr.b
  have hX : xSt n 0 (fun w => w = s.2) (.inl s) := ⟨h.2.1, Nat.zero_le _, rfl⟩
  have hX1 := xSt.roadP (T := T) hX
  have hp7 : ∀ w : Nat → Nat, w = s.2 → w 4 ≤ 7 := fun w e => by rw [e]; omega
  unfold xRoad at hK
  dsimp only at hK
  -- the end
  have fin : ∀ (p q : Nat) (y : pX) (a1 : Int32) (σ1 : zS), p < 7 → rS T n y σ1 → rF σ σ1 → xSt n 0 (fun w => w = s.2) y → (∀ σ', rS T n (xSet (roadW p q) y) σ' → rF σ σ' → K σ') → AW 152 [some (zR 0 0), some (zI a1), some (zI (nI p)), some (zI (nI (14 + 6 * p))), some (zI (nI q))] [] σ1 := by
    intro p q y a1 σ1 hp7 hy f1 hX2 hk
    refine sX6_readRoad_152 hA (m_good hy (fun s1 e => ?_) (fun f e => ?_))
    · subst e
      refine ⟨fun z => absurd z (by decide), fun _ => ?_⟩
      have e2 : s1.2 = s.2 := hX2.2.2
      have hm : s1.2 (14 + 6 * p) ≤ 4 := by rw [e2]; exact (hr.2.2.1 p hp7).1
      have i1 : nI (14 + 6 * p) + (1 : Int32) + gA σ1 14 0 (nI (14 + 6 * p)).toNatClampNeg = nI (15 + 6 * p + s1.2 (14 + 6 * p)) := by
        rw [zcl_n _ rfl, hy.rd (by omega), c1, nI_add, nI_add]; congr 1; omega
      refine ⟨zix _ rfl (by omega), zix _ i1 (by omega), zix _ rfl (by omega), zix _ rfl (by omega), zin_lit rfl, zin_lit rfl, rfl, ?_⟩
      rw [i1, zcl_n _ rfl, zcl_n _ rfl]
      exact hk _ (hy.row (g := roadW p q) (((xFr.refl.uA 14 _).uA 14 _).uA 14 _) (fun s2 e3 ha => by cases e3; exact agr_road ha hp7 hm)) f1.put.put.put
    · subst e
      exact ⟨fun _ => ⟨rfl, hk σ1 hy f1⟩, fun z => absurd rfl z⟩
  -- behind the check of the ways
  have mid : ∀ (a1 : Int32) (o2 o3 o4 : Option zV) (σ1 : zS), rS T n (xRoad0 (.inl s)) σ1 → rF σ σ1 → AW 70 [some (zR 0 0), some (zI a1), o2, o3, o4] [] σ1 := by
    intro a1 o2 o3 o4 σ1 h1 f1
    refine sX6_readRoad_70 hA (m_readPost h1 (fun s1 e => hp7 _ ?_) (fun σ2 h2 f2 => ?_))
    · have := hX.road0; rw [e] at this; exact this.2.2
    generalize xPost T n (xRoad0 (.inl s)) = a at h2 hK hX1 ⊢
    have k14 : (14 : Int32) + (6 : Int32) * nI a.1 = nI (14 + 6 * a.1) := by rw [c14, c6, pk_mul, nI_add]
    rw [k14]
    refine m_takes (j := 10) (by decide) h2 (fun σ3 h3 f3 => zbr (fun c => ⟨zin_lit rfl, ?_⟩) (fun c => ?_))
    · unfold xTakes at h3
      rw [if_neg c] at h3 hK
      rcases ha : a.2 with s3 | f
      · rw [ha] at h3 hX1 hK
        have e3 : s3.2 = s.2 := hX1.2.2.1.1
        have p7 : a.1 < 7 := by have := hX1.2.2.1.2; rw [e3] at this; omega
        have b3 : s3.2 3 ≤ 4 := by rw [e3]; omega
        refine m_toldQ (lo := 0) (hi := (xGet 3 (.inl s3) : Int) - 1) (j := 11) rfl ?_ (by decide) h3 (fun σ4 h4 f4 => ?_)
        · rw [h3.rd (by decide), toI_1 (by omega)]; rfl
        · rw [c10, nI_add]
          exact fin _ _ _ _ σ4 p7 h4 (((f1.trans f2).trans f3).trans f4) ((hX1.told (T := T)).wk (fun w z => z.1.1.1)) hK
      · rw [ha] at h3 hK
        refine m_toldQ (lo := _) (hi := _) (j := 11) rfl rfl (by decide) h3 (fun σ4 h4 f4 => ?_)
        refine sX6_readRoad_152 hA (m_good h4 (fun s1 e => by cases e) (fun f e => ⟨fun _ => ⟨rfl, hK σ4 h4 (((f1.trans f2).trans f3).trans f4)⟩, fun z => absurd rfl z⟩))
    · unfold xTakes at h3
      rw [if_pos c] at h3 hK
      have hX2 := hX1.adv (T := T)
      generalize ha : xAdv T n a.2 = z at h3 hX2 hK
      have nx : ∀ (σ4 : zS), rS T n (xRoad1 a.1 z) σ4 → rF σ σ4 → AW 123 [some (zR 0 0), some (zI a1), some (zI (nI a.1)), some (zI (nI (14 + 6 * a.1))), some (zI (0 : Int32))] [] σ4 := by
        intro σ4 h4 f4
        have hX3 := hX2.road1 (p := a.1)
        refine sX6_readRoad_123 hA (m_readPost h4 (fun s1 e => hp7 _ ?_) (fun σ5 h5 f5 => ?_))
        · rw [e] at hX3; exact hX3.2.2.1.1
        · rcases hz : xRoad1 a.1 z with s3 | f
          · rw [hz] at hX3
            have e3 : s3.2 = s.2 := hX3.2.2.1.1
            have p7 : a.1 < 7 := by have := hX3.2.2.1.2; rw [e3] at this; omega
            rw [hz] at h5 hK
            exact fin _ _ _ _ σ5 p7 h5 (f4.trans f5) ((hX3.post (T := T)).wk (fun w z => z.1.1.1)) hK
          · rw [hz] at h5 hK
            refine sX6_readRoad_152 hA (m_good h5 (fun s1 e => by cases e) (fun f e => ⟨fun _ => ⟨rfl, hK σ5 h5 (f4.trans f5)⟩, fun z => absurd rfl z⟩))
      refine m_good h3 (fun s3 e => ⟨fun q => absurd q (by decide), fun _ => ?_⟩) (fun f e => ⟨fun _ => ?_, fun q => absurd rfl q⟩)
      · subst e
        have hh := h3
        have e3 : s3.2 = s.2 := hX2.2.2.1.1
        have p7 : a.1 < 7 := by have := hX2.2.2.1.2; rw [e3] at this; omega
        obtain ⟨g1, g2, g3, g4, ⟨t1, t2, t3, t4⟩, g6⟩ := h3
        obtain ⟨p1, p2, p3, p4, p5⟩ := g2
        have f4 := (f1.trans f2).trans f3
        rw [t3, c2]
        refine zeqN (by omega) (by decide) (fun q => ?_) (fun q => ?_)
        · rw [t4 q]
          refine zeqN (by omega) (by omega) (fun q2 => ?_) (fun q2 => ?_)
          · refine m_errs (k := 2) rfl (Or.inr (Or.inl rfl)) hh (fun σ4 h4 f5 => nx σ4 ?_ (f4.trans f5))
            have : xRoad1 a.1 (.inl s3) = .inr (2, s3.1.2.1) := if_pos ⟨q, q2⟩
            rw [this]; exact h4
          · refine nx σ3 ?_ f4
            have : xRoad1 a.1 (.inl s3) = .inl s3 := if_neg (fun z => q2 z.2)
            rw [this]; exact hh
        · refine nx σ3 ?_ f4
          have : xRoad1 a.1 (.inl s3) = .inl s3 := if_neg (fun z => q z.1)
          rw [this]; exact hh
      · subst e
        exact nx σ3 h3 ((f1.trans f2).trans f3)
  -- the check of the ways
  have no : (¬ (s.1.2.2.1 = 2 ∧ s.1.2.2.2 < s.2 4)) → ∀ (o1 o2 o3 o4 : Option zV), AW 41 [some (zR 0 0), o1, o2, o3, o4] [zI (0 : Int32)] σ := by
    intro q o1 o2 o3 o4
    refine sX6_readRoad_41 hA ⟨fun _ => mid _ _ _ _ σ ?_ rF.refl, fun z => absurd rfl z⟩
    have : xRoad0 (.inl s) = .inl s := if_neg (fun z => q ⟨z.1, z.2.1⟩)
    rw [this]; exact h
  have hh := h
  obtain ⟨g1, g2, g3, g4, ⟨t1, t2, t3, t4⟩, g6⟩ := h
  obtain ⟨p1, p2, p3, p4, p5⟩ := g2
  refine sX6_readRoad_0 hA (m_good hh (fun _ _ => ⟨fun q => absurd q (by decide), fun _ => ?_⟩) (fun f e => by cases e))
  rw [t3, c2]
  refine zeqN (by omega) (by decide) (fun q => ⟨zin_lit rfl, m_in ?_⟩) (fun q => no (fun z => q z.1) _ _ _ _)
  rw [t4 q, hh.rd (by decide), i64, i64, nI_toInt (by omega), toI_1 (by omega)]
  refine zbr (fun c => no (fun z => c ⟨by show (0 : Int) ≤ _; omega, by omega⟩) _ _ _ _) (fun c => ?_)
  have c' : s.1.2.2.2 < s.2 4 := by have := c.2; omega
  have hm := (hr.2.2.1 s.1.2.2.2 (by omega)).1
  unfold obMany at hm
  have k14 : (14 : Int32) + (6 : Int32) * gI σ 0 11 0 = nI (14 + 6 * s.1.2.2.2) := by rw [t4 q, c14, c6, pk_mul, nI_add]
  refine sX6_readRoad_41 hA ⟨fun z => absurd z (by decide), fun _ => ⟨zix _ k14 (by omega), ?_⟩⟩
  rw [zcl_n _ k14, hh.rd (by omega), c4]
  refine zeqN (by omega) (by decide) (fun q2 => ?_) (fun q2 => ?_)
  · refine m_errs (k := 3) rfl (Or.inr (Or.inr rfl)) hh (fun σ4 h4 f5 => mid _ _ _ _ σ4 ?_ f5)
    have : xRoad0 (.inl s) = .inr (3, s.1.2.1) := if_pos ⟨q, c', q2⟩
    rw [this]; exact h4
  · refine mid _ _ _ _ σ ?_ rF.refl
    have : xRoad0 (.inl s) = .inl s := if_neg (fun z => q2 z.2.2)
    rw [this]; exact hh
end RD
