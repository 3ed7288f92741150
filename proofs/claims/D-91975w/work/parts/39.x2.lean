/-! THE COMPONENT: arms, one sent, an hour -/
theorem wX.many {w : Nat → Nat} {σ : zS} (h : wX w σ) {p : Nat} (hp : p < w 4) : gI σ 12 1 p = nI (obMany w p) := (h.2.2.2.2.1 p hp).1
theorem wX.to {w : Nat → Nat} {σ : zS} (h : wX w σ) {p : Nat} (hp : p < w 4) : agr 4 (gA σ 13 p) (obTo w p) := (h.2.2.2.2.1 p hp).2.2
theorem wX.C0 {w : Nat → Nat} {σ : zS} (h : wX w σ) : gC σ 0 = w 4 := h.1.1
theorem wX.C1 {w : Nat → Nat} {σ : zS} (h : wX w σ) : gC σ 1 = w 7 := h.1.2.1
theorem wX.C2 {w : Nat → Nat} {σ : zS} (h : wX w σ) : gC σ 2 = w 8 := h.1.2.2.1
theorem agr.wk {N M : Nat} {f : Nat → Int32} {g : Nat → Nat} (h : agr N f g) (hm : M ≤ N) : agr M f g := fun j hj => h j (by omega)
theorem x_turnF {G : zG} {d : Nat} {w a : Nat → Nat} {σ : zS} {p : Nat} {x : Int32} {K : zS → Prop} (hw : wX w σ) (hI : obInv w) (hx : x = nI p) (hp : p < w 4) (hm : 0 < obMany w p) (hA : agr (w 4) (gA σ 24 0) a) (ha0 : obArmOk w a) (h : ∀ σ', agr (w 4) (gA σ' 24 0) (obFwd w a p) → xFr [] [24] σ σ' → K σ') : zCallV zcl Zx G (d + 4) mX3_turns [zR 2 0, zI x, zI (1 : Int32)] σ K := by
  have hb := hI.b
  refine zmeth VX3_ok pX3_turns rfl (by decide) (Nat.le_of_ble_eq_true rfl) (fun AW ha => ?_)
  have hmm := hI.many (show p < 7 by omega)
  have hap := ha0 p (by omega) hm
  refine sX3_turns_0 ha (x_postOf hw hI hx hp ⟨by rw [hw.C0]; exact hp, ?_⟩)
  rw [hw.many hp, ← nI_0]
  refine zltN (by decide) (by omega) (fun _ => ⟨zix p hx (by omega), x_postOf hw hI hx hp ⟨by rw [hw.C0]; exact hp, x_postOf hw hI hx hp ⟨by rw [hw.C0]; exact hp, ?_⟩⟩⟩) (fun q => absurd hm (by omega))
  rw [hw.many hp]
  refine ⟨nI_ne0 hm (by omega), zix p hx (by omega), rfl, ?_⟩
  rw [zcl_n p hx, hA p hp, c1, nI_add, nI_add, modN (by omega) hm (by omega), Nat.add_mod_right]
  exact h _ (hA.upd rfl) (xFr.refl.uA 24 _)
theorem x_turnB {G : zG} {d : Nat} {w a : Nat → Nat} {σ : zS} {p : Nat} {x : Int32} {K : zS → Prop} (hw : wX w σ) (hI : obInv w) (hx : x = nI p) (hp : p < w 4) (hm : 0 < obMany w p) (hA : agr (w 4) (gA σ 24 0) a) (ha0 : obArmOk w a) (h : ∀ σ', agr (w 4) (gA σ' 24 0) (obBwd w a p) → xFr [] [24] σ σ' → K σ') : zCallV zcl Zx G (d + 4) mX3_turns [zR 2 0, zI x, zI (-1 : Int32)] σ K := by
  have hb := hI.b
  refine zmeth VX3_ok pX3_turns rfl (by decide) (Nat.le_of_ble_eq_true rfl) (fun AW ha => ?_)
  have hmm := hI.many (show p < 7 by omega)
  have hap := ha0 p (by omega) hm
  refine sX3_turns_0 ha (x_postOf hw hI hx hp ⟨by rw [hw.C0]; exact hp, ?_⟩)
  rw [hw.many hp, ← nI_0]
  refine zltN (by decide) (by omega) (fun _ => ⟨zix p hx (by omega), x_postOf hw hI hx hp ⟨by rw [hw.C0]; exact hp, x_postOf hw hI hx hp ⟨by rw [hw.C0]; exact hp, ?_⟩⟩⟩) (fun q => absurd hm (by omega))
  rw [hw.many hp]
  refine ⟨nI_ne0 hm (by omega), zix p hx (by omega), rfl, ?_⟩
  have e : nI (a p) + (-1 : Int32) + nI (obMany w p) = nI (a p + obMany w p - 1) := by
    rw [Int32.add_assoc, Int32.add_comm (-1) _, ← Int32.add_assoc, nI_add, show a p + obMany w p = (a p + obMany w p - 1) + 1 by omega, pk_m1]
    rfl
  rw [zcl_n p hx, hA p hp, e, modN (by omega) hm (by omega)]
  exact h _ (hA.upd rfl) (xFr.refl.uA 24 _)
/-- a post without roads doesn't turn -/
theorem x_turn0 {G : zG} {d : Nat} {w : Nat → Nat} {σ : zS} {p : Nat} {x y : Int32} {K : zS → Prop} (hw : wX w σ) (hI : obInv w) (hx : x = nI p) (hp : p < w 4) (hm : obMany w p = 0) (h : K σ) : zCallV zcl Zx G (d + 4) mX3_turns [zR 2 0, zI x, zI y] σ K := by
  have hb := hI.b
  refine zmeth VX3_ok pX3_turns rfl (by decide) (Nat.le_of_ble_eq_true rfl) (fun AW ha => ?_)
  refine sX3_turns_0 ha (x_postOf hw hI hx hp ⟨by rw [hw.C0]; exact hp, ?_⟩)
  rw [hw.many hp, hm]
  exact ⟨fun q => absurd q (by decide), fun _ => ⟨rfl, h⟩⟩
/-- what is told for a question, as it stands in the hours -/
def xPar (w : Nat → Nat) (P : obP) (σ : zS) : Prop := gI σ 2 9 0 = nI P.1 ∧ gI σ 2 10 0 = nI P.2.1 ∧ (∃ st, st < 2 ^ 16 ∧ gI σ 2 11 0 = nI st ∧ ∀ p, p < w 4 → (st / 2 ^ p % 2 = 1 ↔ P.2.2.1 / 2 ^ p % 2 = 0)) ∧ ∀ i, i < w 7 → ∀ t, t ≤ w 0 → ((gA σ 30 0 i = nI t ∧ ¬ nI i = gI σ 2 12 0) ↔ P.2.2.2.2 i = t)
theorem xPar.fr {w : Nat → Nat} {P : obP} {I : List (Nat × Nat)} {A : List Nat} {σ σ' : zS} (h : xPar w P σ) (hf : xFr I A σ σ') (i1 : (2, 9) ∉ I := by decide) (i2 : (2, 10) ∉ I := by decide) (i3 : (2, 11) ∉ I := by decide) (i4 : (2, 12) ∉ I := by decide) (a1 : 30 ∉ A := by decide) : xPar w P σ' := by
  unfold xPar
  rw [hf.I 2 9 0 i1, hf.I 2 10 0 i2, hf.I 2 11 0 i3, hf.I 2 12 0 i4, hf.A 30 0 a1]
  exact h
theorem x_sends {G : zG} {d : Nat} {w a u : Nat → Nat} {P : obP} {σ : zS} {p : Nat} {x : Int32} {K : Int32 → zS → Prop} (hw : wX w σ) (hI : obInv w) (hP : xPar w P σ) (hPo : obPok w P) (hx : x = nI p) (hp : p < w 4) (hm : 0 < obMany w p) (hA : agr (w 4) (gA σ 24 0) a) (ha0 : obArmOk w a) (hU : agr 28 (gA σ 27 0) u) (h : ∀ σ', agr (w 4) (gA σ' 24 0) (obSendA w P a p) → agr 28 (gA σ' 27 0) (fU u (4 * p + obSendR w P a p) (u (4 * p + obSendR w P a p) + 1)) → xFr [] [24, 27] σ σ' → K (nI (obSendR w P a p)) σ') : zCallI zcl Zx G (d + 5) mX3_sends [zR 2 0, zI x] σ K := by
  refine zmeth VX3_ok pX3_sends rfl (by decide) (Nat.le_of_ble_eq_true rfl) (fun AW ha => ?_)
  have hb := hI.b
  have hl := hPo.1
  obtain ⟨st, hst, est, hst2⟩ := hP.2.2.1
  have hstp := hst2 p hp
  have h4 := hI.many (show p < 7 by omega)
  -- the end
  have fin : ∀ (r : Nat) (b : Nat → Nat) (σ2 : zS), xFr [] [24, 27] σ σ2 → agr (w 4) (gA σ2 24 0) b → obArmOk w b → agr 28 (gA σ2 27 0) (fU u (4 * p + r) (u (4 * p + r) + 1)) → r = obSendR w P a p → (st / 2 ^ p % 2 = 1 → b = obSendA w P a p) → (¬ st / 2 ^ p % 2 = 1 → obSendD w P.1 b p = obSendA w P a p) → AW 91 [some (zR 2 0), some (zI x), some (zI (bI (st / 2 ^ p % 2 = 1))), some (zI (nI r))] [] σ2 := by
    intro r b σ2 hf hB hBo hu hr e1 e2
    subst hr
    refine sX3_sends_91 ha (zbr (fun c => ?_) (fun c => ⟨_, rfl, h σ2 (by rw [← e1 c]; exact hB) hu hf⟩))
    rw [(hP.fr hf).1, c2]
    have e2 := e2 c
    unfold obSendD at e2
    refine zeqN (by omega) (by decide) (fun c2 => x_turnB (hw.fr hf) hI hx hp hm hB hBo (fun σ3 h3 f3 => ⟨_, rfl, h σ3 ?_ ?_ (hf.trans f3.wk)⟩)) (fun c2 => ⟨_, rfl, h σ2 ?_ hu hf⟩)
    · rw [if_pos c2] at e2; rw [← e2]; exact h3
    · rw [f3.A 27 0]; exact hu
    · rw [if_neg c2] at e2; rw [← e2]; exact hB
  -- the middle: b are the arms behind the first turn
  have mid : ∀ (b : Nat → Nat) (o : Option zV) (σ2 : zS), xFr [] [24] σ σ2 → agr (w 4) (gA σ2 24 0) b → obArmOk w b → b p = obSendR w P a p → (st / 2 ^ p % 2 = 1 → b = obSendA w P a p) → (¬ st / 2 ^ p % 2 = 1 → obSendD w P.1 (obSendC w P.1 b p (b p)) p = obSendA w P a p) → AW 27 [some (zR 2 0), some (zI x), some (zI (bI (st / 2 ^ p % 2 = 1))), o] [] σ2 := by
    intro b o σ2 hf hB hBo hr e1 e2
    have hbp := hBo p (by omega) hm
    have e4 : (4 : Int32) * x + nI (b p) = nI (4 * p + b p) := by rw [hx, c4, pk_mul, nI_add]
    refine sX3_sends_27 ha ⟨zix p hx (by omega), ?_⟩
    rw [zcl_n p hx, hB p hp, e4, zcl_n (4 * p + b p) rfl]
    have hu1 : agr 28 (upd (gA σ2 27 0) (4 * p + b p) (gA σ2 27 0 (4 * p + b p) + (1 : Int32))) (fU u (4 * p + b p) (u (4 * p + b p) + 1)) := by
      rw [hf.A 27 0]; exact hU.upd (by rw [hU _ (by omega), c1, nI_add])
    have f1 : xFr [] [24, 27] σ (uA σ2 27 0 (upd (gA σ2 27 0) (4 * p + b p) (gA σ2 27 0 (4 * p + b p) + (1 : Int32)))) := xFr.uA hf.wk 27 _
    refine ⟨zix _ rfl (by omega), zix _ rfl (by omega), zbr (fun c => ?_) (fun c => fin (b p) b _ f1 hB hBo hu1 hr e1 (fun q => absurd c q))⟩
    have fin2 : ∀ σ3, xFr [] [24, 27] σ σ3 → agr (w 4) (gA σ3 24 0) (obSendC w P.1 b p (b p)) → agr 28 (gA σ3 27 0) (fU u (4 * p + b p) (u (4 * p + b p) + 1)) → AW 91 [some (zR 2 0), some (zI x), some (zI (bI (st / 2 ^ p % 2 = 1))), some (zI (nI (b p)))] [] σ3 := by
      intro σ3 f3 h3 u3
      refine fin (b p) _ σ3 f3 h3 ?_ u3 hr (fun q => absurd q c) e2
      unfold obSendC; split
      · exact obFwd_ok hBo hm
      · exact hBo
    rw [(hP.fr hf).1, c3, ← nI_0]
    refine zeqN (by omega) (by decide) (fun c0 => ?_) (fun c0 => zeqN (by omega) (by decide) (fun c3 => ?_) (fun c3 => ?_))
    · refine x_turnF (hw.fr f1) hI hx hp hm hB hBo (fun σ3 h3 f3 => fin2 σ3 (f1.trans f3.wk) ?_ ?_)
      · unfold obSendC; rw [if_pos (Or.inl c0)]; exact h3
      · rw [f3.A 27 0]; exact hu1
    · refine x_postOf (hw.fr f1) hI hx hp ⟨by rw [(hw.fr f1).C0]; exact hp, by rw [(hw.fr f1).C0]; exact hp, zix (b p) rfl (by omega), ?_⟩
      rw [zcl_n (b p) rfl, (hw.fr f1).to hp _ (by omega), c10]
      have ht := hI.toB (show p < 7 by omega) hbp
      refine zltN (by omega) (by decide) (fun c4 => ?_) (fun c4 => ?_)
      · refine x_turnF (hw.fr f1) hI hx hp hm hB hBo (fun σ3 h3 f3 => fin2 σ3 (f1.trans f3.wk) ?_ ?_)
        · unfold obSendC; rw [if_pos (Or.inr ⟨c3, c4⟩)]; exact h3
        · rw [f3.A 27 0]; exact hu1
      · exact fin2 _ f1 (by unfold obSendC; rw [if_neg (by omega)]; exact hB) hu1
    · exact fin2 _ f1 (by unfold obSendC; rw [if_neg (by omega)]; exact hB) hu1
  refine sX3_sends_0 ha (x_isOn est hx (by omega) (by omega) ?_)
  rw [hP.1, c1]
  have a1 : ∀ (c : st / 2 ^ p % 2 = 1), obSendR w P a p = a p ∧ obSendA w P a p = a := fun c => by
    unfold obSendR obSendA; rw [if_pos (hstp.mp c), if_pos (hstp.mp c)]; exact ⟨rfl, rfl⟩
  have a2 : ∀ (c : ¬ st / 2 ^ p % 2 = 1), obSendR w P a p = obSendB w P.1 a p p ∧ obSendA w P a p = obSendD w P.1 (obSendC w P.1 (obSendB w P.1 a p) p (obSendB w P.1 a p p)) p := fun c => by
    unfold obSendR obSendA; rw [if_neg (fun q => c (hstp.mpr q)), if_neg (fun q => c (hstp.mpr q))]; exact ⟨rfl, rfl⟩
  have keep : (¬ st / 2 ^ p % 2 = 1 → ¬ P.1 = 1) → AW 27 [some (zR 2 0), some (zI x), some (zI (bI (st / 2 ^ p % 2 = 1))), none] [] σ := by
    intro hk
    refine mid a _ σ xFr.refl hA ha0 ?_ (fun c => (a1 c).2.symm) (fun c => ?_)
    · by_cases c : st / 2 ^ p % 2 = 1
      · exact (a1 c).1.symm
      · rw [(a2 c).1]; unfold obSendB; rw [if_neg (hk c)]
    · rw [(a2 c).2]; unfold obSendB; rw [if_neg (hk c)]
  refine zeqN (by omega) (by decide) (fun cl => zbr (fun c => ?_) (fun c => keep (fun q => absurd c q))) (fun cl => keep (fun _ => cl))
  refine x_turnF hw hI hx hp hm hA ha0 (fun σ2 h2 f2 => ?_)
  have eb : obSendB w P.1 a p = obFwd w a p := by unfold obSendB; rw [if_pos cl]
  refine mid (obFwd w a p) _ σ2 f2 h2 (obFwd_ok ha0 hm) ?_ (fun q => absurd q c) (fun _ => ?_)
  · rw [(a2 c).1, eb]
  · rw [(a2 c).2, eb]
theorem obHeldN_up {w : Nat → Nat} {i t k : Nat} (h : obHeldN w i t k = true) : ∀ n, obHeldN w i t (k + n) = true := by
  intro n
  induction n with
  | zero => exact h
  | succ n ih => show (obHeldN w i t (k + n) || _) = true; rw [ih]; rfl
theorem x_isHeld {G : zG} {d : Nat} {w : Nat → Nat} {σ : zS} {i t : Nat} {x y : Int32} {K : Int32 → zS → Prop} (hw : wX w σ) (hI : obInv w) (hx : x = nI i) (hy : y = nI t) (hi : i < 8) (ht : t < 16) (h : K (bI (obHeld w i t = true)) σ) : zCallI zcl Zx G (d + 3) mX3_isHeld [zR 2 0, zI x, zI y] σ K := by
  refine zmeth VX3_ok pX3_isHeld rfl (by decide) (Nat.le_of_ble_eq_true rfl) (fun AW ha => ?_)
  have hb := hI.b
  refine sX3_isHeld_0 ha ?_
  have loop : ∀ n k, k + n = w 8 → obHeldN w i t k = false → AW 2 [some (zR 2 0), some (zI x), some (zI y), some (zI (nI k))] [] σ := by
    intro n
    induction n with
    | zero =>
      intro k hk hn
      refine sX3_isHeld_2 ha (x_acts hw (zltN (by omega) (by omega) (fun q => absurd q (by omega)) (fun _ => ⟨Or.inl rfl, _, rfl, ?_⟩)))
      rw [bI_f (by unfold obHeld; rw [show w 8 = k by omega, hn]; decide)] at h; exact h
    | succ n ih =>
      intro k hk hn
      have hact := hI.act (k := k) (by omega)
      obtain ⟨e1, e2, e3⟩ := hw.2.2.2.2.2.2 k (by omega)
      have hC : k < gC σ 2 := by rw [hw.C2]; omega
      have step : Nat.beq (obAct w k) (10000 + 100 * i + t) = false → AW 2 [some (zR 2 0), some (zI x), some (zI y), some (zI (nI k + (1 : Int32)))] [] σ := by
        intro q
        rw [c1, nI_add]
        exact ih (k + 1) (by omega) (by show (obHeldN w i t k || _) = false; rw [hn, q]; rfl)
      have nb : ¬ obAct w k = 10000 + 100 * i + t → Nat.beq (obAct w k) (10000 + 100 * i + t) = false := by
        intro q
        cases hb : Nat.beq (obAct w k) (10000 + 100 * i + t) with
        | true => exact absurd (Nat.eq_of_beq_eq_true hb) q
        | false => rfl
      refine sX3_isHeld_2 ha (x_acts hw (zltN (by omega) (by omega) (fun _ => x_actOf hw hI rfl (by omega) ⟨hC, hC, ?_⟩) (fun q => absurd q (by omega))))
      rw [e1]
      refine zbr (fun c => x_actOf hw hI rfl (by omega) ⟨hC, hC, ?_⟩) (fun c => step (nb (by omega)))
      have hlt : obAct w k < 11000 := by unfold obActOk at hact; omega
      rw [e2, hx]
      refine zeqN (by omega) (by omega) (fun c2 => x_actOf hw hI rfl (by omega) ⟨hC, hC, ?_⟩) (fun c2 => by have := step (nb (by omega)); rw [hx] at this; exact this)
      rw [e3, hy]
      refine zeqN (by omega) (by omega) (fun c3 => ⟨Or.inr rfl, _, rfl, ?_⟩) (fun c3 => by have := step (nb (by omega)); rw [hx, hy] at this; exact this)
      have hh : obHeld w i t = true := by
        unfold obHeld
        have := obHeldN_up (w := w) (i := i) (t := t) (k := k + 1) (by show (obHeldN w i t k || Nat.beq (obAct w k) (10000 + 100 * i + t)) = true; rw [show obAct w k = 10000 + 100 * i + t by omega, Nat.beq_refl, Bool.or_true]) n
        rw [show k + 1 + n = w 8 by omega] at this
        exact this
      rw [bI_t hh] at h; exact h
  exact loop (w 8) 0 (by omega) rfl
theorem x_comesTo {G : zG} {d : Nat} {w : Nat → Nat} {σ : zS} {p to : Nat} {x y : Int32} {g r : Nat → Nat} {K : Int32 → zS → Prop} (hw : wX w σ) (hI : obInv w) (hx : x = nI p) (hy : y = nI to) (ht : to < 10 ∨ (10 ≤ to ∧ to < 10 + w 3)) (hg : agr 4 (gA σ 31 0) g) (hr : agr 4 (gA σ 32 0) r) (hgo : ∀ j, j < 4 → g j ≤ obRoom w j)
    (h : ∀ σ', agr 4 (gA σ' 31 0) (if 10 ≤ to ∧ g (to - 10) < obRoom w (to - 10) then fU g (to - 10) (g (to - 10) + 1) else g) → agr 4 (gA σ' 32 0) (if 10 ≤ to ∧ ¬ g (to - 10) < obRoom w (to - 10) then fU r (to - 10) (r (to - 10) + 1) else r) → xFr [] [31, 32] σ σ' → K (nI (if to < 10 ∨ g (to - 10) < obRoom w (to - 10) then to else p)) σ') : zCallI zcl Zx G d mX3_comesTo [zR 2 0, zI x, zI y] σ K := by
  refine zmeth VX3_ok pX3_comesTo rfl (by decide) (Nat.le_of_ble_eq_true rfl) (fun AW ha => ?_)
  have hb := hI.b
  refine sX3_comesTo_0 ha ?_
  rw [hy, c10]
  refine zltN (by omega) (by decide) (fun c => ⟨_, rfl, ?_⟩) (fun c => ?_)
  · have := h σ (by rw [if_neg (by omega)]; exact hg) (by rw [if_neg (by omega)]; exact hr) xFr.refl
    rw [if_pos (Or.inl c)] at this; exact this
  · have e10 : nI to - nI 10 = nI (to - 10) := pk_sub c
    rw [e10, zcl_n (to - 10) rfl (by omega), hg _ (by omega), hw.2.2.2.1 _ (by omega)]
    have h1 := hgo (to - 10) (by omega)
    have h2 := hI.room (i := to - 10) (by omega)
    have iz := zix (x := nI (to - 10)) (N := 4) (to - 10) rfl (by omega)
    refine ⟨iz, iz, zltN (by omega) (by omega) (fun c2 => ⟨iz, iz, _, rfl, ?_⟩) (fun c2 => ⟨iz, iz, _, rfl, ?_⟩)⟩
    · have := h (uA σ 31 0 (upd (gA σ 31 0) (to - 10) (nI (g (to - 10)) + (1 : Int32)))) (by rw [if_pos ⟨c, c2⟩]; exact hg.upd (by rw [c1, nI_add])) (by rw [if_neg (fun q => q.2 c2)]; exact hr) (xFr.refl.uA 31 _)
      rw [if_pos (Or.inr c2)] at this; exact this
    · have c3 : ¬ g (to - 10) < obRoom w (to - 10) := by omega
      have := h (uA σ 32 0 (upd (gA σ 32 0) (to - 10) (gA σ 32 0 (to - 10) + (1 : Int32)))) (by rw [if_neg (fun q => c3 q.2)]; exact hg) (by rw [if_pos ⟨c, c3⟩]; exact hr.upd (by rw [hr _ (by omega), c1, nI_add])) (xFr.refl.uA 32 _)
      rw [if_neg (by omega)] at this; rw [hx]; exact this
