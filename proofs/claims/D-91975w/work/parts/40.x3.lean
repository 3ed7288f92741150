/-! THE COMPONENT: an hour, all hours -/
def xQ (w : Nat → Nat) (R : obR) (σ : zS) : Prop := agr (w 4) (gA σ 24 0) R.1 ∧ agr 28 (gA σ 27 0) R.2.2.1 ∧ agr 8 (gA σ 29 0) R.2.2.2.1 ∧ agr 4 (gA σ 31 0) R.2.2.2.2.1 ∧ agr 4 (gA σ 32 0) R.2.2.2.2.2.1
theorem obWalks_s {w : Nat → Nat} {P : obP} {t n : Nat} {R : obR} : (obFrom w P t n (obWalks w P t R n) = none → obWalks w P t R (n + 1) = obWalks w P t R n) ∧ ∀ p, obFrom w P t n (obWalks w P t R n) = some p → obWalks w P t R (n + 1) = obStep w P n p (obWalks w P t R n) := by
  refine ⟨fun h => ?_, fun p h => ?_⟩
  · show (match obFrom w P t n (obWalks w P t R n) with | none => _ | some p => _) = _; rw [h]
  · show (match obFrom w P t n (obWalks w P t R n) with | none => _ | some p => _) = _; rw [h]
/-- who isn't yet asked stands where he stood -/
theorem obWalks_pl {w : Nat → Nat} {P : obP} {t : Nat} {R : obR} : ∀ n j, n ≤ j → (obWalks w P t R n).2.1 j = R.2.1 j := by
  intro n
  induction n with
  | zero => intro j _; rfl
  | succ n ih =>
    intro j hj
    cases hf : obFrom w P t n (obWalks w P t R n) with
    | none => rw [obWalks_s.1 hf]; exact ih j (by omega)
    | some p =>
      rw [obWalks_s.2 p hf]
      unfold obStep
      dsimp only
      split
      · rw [fU_n (by omega)]; exact ih j (by omega)
      · exact ih j (by omega)
/-- and who has been asked stays -/
theorem obWalks_pn {w : Nat → Nat} {P : obP} {t : Nat} {R : obR} {n j : Nat} (h : j ≠ n) : (obWalks w P t R (n + 1)).2.1 j = (obWalks w P t R n).2.1 j := by
  cases hf : obFrom w P t n (obWalks w P t R n) with
  | none => rw [obWalks_s.1 hf]
  | some p =>
    rw [obWalks_s.2 p hf]
    unfold obStep
    dsimp only
    split
    · rw [fU_n h]
    · rfl
def pZ : Option Nat → Int
  | none => -1
  | some p => (p : Int)
theorem pI64 {q : Option Nat} (h : ∀ p, q = some p → p < 2 ^ 31) : (pI q).toInt64.toInt = pZ q := by
  rw [i64]
  cases q with
  | none => rfl
  | some p => exact nI_toInt (h p rfl)
abbrev xGo : List Nat := [24, 25, 27, 28, 29, 31, 32]
theorem x_passes {G : zG} {d : Nat} {w : Nat → Nat} {P : obP} {R : obR} {σ : zS} {t : Nat} {y : Int32} {K : zS → Prop} (hw : wX w σ) (hI : obInv w) (hP : xPar w P σ) (hPo : obPok w P) (hR : xQ w R σ) (hRo : obRok w R) (hrow : ∀ i, i < w 7 → gA σ 25 0 (8 * t + i) = pI (R.2.1 i)) (hsent : gA σ 28 0 t = 0) (hy : y = nI t) (ht : t < w 0)
    (h : ∀ σ', xQ w (obGo w P t R) σ' → (∀ i, i < w 7 → gA σ' 25 0 (8 * (t + 1) + i) = pI ((obGo w P t R).2.1 i)) → (∀ j, j < 8 * (t + 1) → gA σ' 25 0 j = gA σ 25 0 j) → gA σ' 28 0 t = nI (obGo w P t R).2.2.2.2.2.2 → (∀ s, s ≠ t → gA σ' 28 0 s = gA σ 28 0 s) → xFr [] xGo σ σ' → K σ') : zCallV zcl Zx G (d + 6) mX3_passes [zR 2 0, zI y] σ K := by
  refine zmeth VX3_ok pX3_passes rfl (by decide) (Nat.le_of_ble_eq_true rfl) (fun AW ha => ?_)
  have hb := hI.b
  refine sX3_passes_0 ha ?_
  generalize hR0 : ((obActs w t R.1 (w 8), R.2.1, R.2.2.1, R.2.2.2.1, R.2.2.2.2.1, R.2.2.2.2.2.1, 0) : obR) = R0
  have hR0o : obRok w R0 := by rw [← hR0]; exact ⟨obActs_ok hRo.1 _, hRo.2.1, hRo.2.2⟩
  have hR0p : R0.2.1 = R.2.1 := by rw [← hR0]
  have hgo : obGo w P t R = obWalks w P t R0 (w 7) := by unfold obGo; rw [hR0]
  -- the walkers
  have loop2 : ∀ n i (o3 : Option zV) (σ2 : zS), i + n = w 7 → xFr [] xGo σ σ2 → xQ w (obWalks w P t R0 i) σ2 → (∀ j, j < i → gA σ2 25 0 (8 * (t + 1) + j) = pI ((obWalks w P t R0 i).2.1 j)) → (∀ j, j < 8 * (t + 1) → gA σ2 25 0 j = gA σ 25 0 j) → gA σ2 28 0 t = nI (obWalks w P t R0 i).2.2.2.2.2.2 → (∀ s, s ≠ t → gA σ2 28 0 s = gA σ 28 0 s) → AW 107 [some (zR 2 0), some (zI y), some (zI (nI i)), o3] [] σ2 := by
    intro n
    induction n with
    | zero =>
      intro i o3 σ2 hi hf hQ hat hold hse hs2
      refine sX3_passes_107 ha (x_many (hw.fr hf) (zltN (by omega) (by omega) (fun q => absurd q (by omega)) (fun _ => ⟨rfl, h σ2 ?_ ?_ hold ?_ hs2 hf⟩)))
      · rw [hgo, show w 7 = i by omega]; exact hQ
      · rw [hgo, show w 7 = i by omega]; exact fun j hj => hat j (by omega)
      · rw [hgo, show w 7 = i by omega]; exact hse
    | succ n ih =>
      intro i o3 σ2 hi hf hQ hat hold hse hs2
      have hok := obWalks_ok (P := P) (t := t) hI hR0o i
      have hpli : (obWalks w P t R0 i).2.1 i = R.2.1 i := by rw [obWalks_pl i i (Nat.le_refl _), hR0p]
      have e8 : (8 : Int32) * y + nI i = nI (8 * t + i) := by rw [hy, c8, pk_mul, nI_add]
      have e81 : (8 : Int32) * (y + (1 : Int32)) + nI i = nI (8 * (t + 1) + i) := by rw [hy, c8, c1, nI_add, pk_mul, nI_add]
      have hfrom : gA σ2 25 0 (8 * t + i) = pI (R.2.1 i) := by rw [hold _ (by omega)]; exact hrow i (by omega)
      refine sX3_passes_107 ha (x_many (hw.fr hf) (zltN (by omega) (by omega) (fun _ => ⟨zix _ e8 (by omega), zix _ e81 (by omega), ?_⟩) (fun q => absurd q (by omega))))
      rw [zcl_n _ e8, zcl_n _ e81, hfrom]
      have f0 : xFr [] xGo σ (uA σ2 25 0 (upd (gA σ2 25 0) (8 * (t + 1) + i) (pI (R.2.1 i)))) := hf.uA 25 _
      have old0 : ∀ j, j < 8 * (t + 1) → upd (gA σ2 25 0) (8 * (t + 1) + i) (pI (R.2.1 i)) j = gA σ 25 0 j := fun j hj => by rw [pk_un (by omega)]; exact hold j hj
      -- he stays
      have skip : obFrom w P t i (obWalks w P t R0 i) = none → AW 107 [some (zR 2 0), some (zI y), some (zI (nI i + (1 : Int32))), some (zI (pI (R.2.1 i)))] [] (uA σ2 25 0 (upd (gA σ2 25 0) (8 * (t + 1) + i) (pI (R.2.1 i)))) := by
        intro hn
        rw [c1, nI_add]
        refine ih (i + 1) _ _ (by omega) f0 (by rw [obWalks_s.1 hn]; exact hQ) (fun j hj => ?_) old0 (by rw [obWalks_s.1 hn]; exact hse) hs2
        show upd (gA σ2 25 0) (8 * (t + 1) + i) (pI (R.2.1 i)) (8 * (t + 1) + j) = _
        rw [obWalks_s.1 hn]
        by_cases e : j = i
        · subst e; rw [pk_us, hpli]
        · rw [pk_un (by omega)]; exact hat j (by omega)
      have hplt : ∀ p, R.2.1 i = some p → p < w 4 ∨ (10 ≤ p ∧ p < 10 + w 3) := fun p hp => hRo.2.1 i p hp
      have hfn : ∀ (c : ∀ p, R.2.1 i = some p → ¬ (p < 10 ∧ obMany w p ≠ 0 ∧ obHeld w i t = false ∧ P.2.1 / 2 ^ t % 2 = 0)), obFrom w P t i (obWalks w P t R0 i) = none := by
        intro c
        unfold obFrom
        rw [hpli]
        cases hp : R.2.1 i with
        | none => rfl
        | some p => exact if_neg (c p hp)
      refine x_in ?_
      rw [pI64 (fun p hp => by have := hplt p hp; omega)]
      cases hpl : R.2.1 i with
      | none =>
        refine zbr (fun c => ?_) (fun c => absurd c.1 (by decide))
        have := skip (hfn (fun p hp => by rw [hpl] at hp; cases hp))
        rw [hpl] at this; exact this
      | some p =>
        have hpp := hplt p hpl
        rw [hpl] at skip f0 old0
        refine zbr (fun c => skip (hfn (fun q hq => by rw [hpl] at hq; cases hq; intro z; exact c ⟨Int.natCast_nonneg p, by show (p : Int) ≤ 9; omega⟩))) (fun c => ?_)
        have c10 : p < 10 := by have := c.2; have e9 : (9 : Int64).toInt = 9 := rfl; rw [e9] at this; have : (p : Int) ≤ 9 := this; omega
        have hp4 : p < w 4 := by omega
        have h4 := hI.many (show p < 7 by omega)
        refine x_postOf ((hw.fr f0)) hI (p := p) rfl hp4 ⟨Nat.lt_of_lt_of_eq hp4 (hw.fr f0).C0.symm, ?_⟩
        rw [(hw.fr f0).many hp4, ← nI_0]
        refine zeqN (by omega) (by decide) (fun c2 => skip (hfn (fun q hq => by rw [hpl] at hq; cases hq; intro z; exact z.2.1 c2))) (fun c2 => ?_)
        have hfog := hPo.2.1
        refine x_isOn (hP.fr f0).2.1 hy (by omega) (by omega) ?_
        rw [nI_0]
        refine zbr (fun c3 => x_isHeld (hw.fr f0) hI rfl hy (by omega) (by omega) (zbr (fun c4 => ?_) (fun c4 => skip (hfn (fun q hq => by rw [hpl] at hq; cases hq; intro z; rw [c4] at z; exact absurd z.2.2.1 (by decide)))))) (fun c3 => skip (hfn (fun q hq => by rw [hpl] at hq; cases hq; intro z; omega)))
        have hfs : obFrom w P t i (obWalks w P t R0 i) = some p := by
          unfold obFrom; rw [hpli, hpl]; exact if_pos ⟨c10, c2, by simpa using c4, by omega⟩
        refine ⟨zix t hy (by omega), zix t hy (by omega), zix i rfl (by omega), zix i rfl (by omega), ?_⟩
        rw [zcl_n t hy, zcl_n i rfl, bit1 (by omega)]
        obtain ⟨q1, q2, q3, q4, q5⟩ := hQ
        have f1 : xFr [] xGo σ (uA (uA (uA σ2 25 0 (upd (gA σ2 25 0) (8 * (t + 1) + i) (pI (some p)))) 28 0 (upd (gA σ2 28 0) t (gA σ2 28 0 t ||| nI (2 ^ i)))) 29 0 (upd (gA σ2 29 0) i (gA σ2 29 0 i + (1 : Int32)))) := (f0.uA 28 _).uA 29 _
        refine x_postOf (hw.fr f1) hI (p := p) rfl hp4 ⟨Nat.lt_of_lt_of_eq hp4 (hw.fr f1).C0.symm, ?_⟩
        refine x_sends (hw.fr f1) hI (hP.fr f1) hPo (p := p) rfl hp4 (by omega) q1 hok.1 q2 (fun σ7 hA7 hU7 f7 => ?_)
        have hrl := obSendR_lt (P := P) hok.1 (show p < 7 by omega) (show 0 < obMany w p by omega)
        have hto := hI.to (show p < 7 by omega) hrl
        have f17 := f1.trans (f7.wk (A' := xGo) (I' := []))
        refine ⟨Nat.lt_of_lt_of_eq hp4 (hw.fr f17).C0.symm, zix _ rfl (by omega), ?_⟩
        rw [zcl_n (obSendR w P (obWalks w P t R0 i).1 p) rfl (by omega), (hw.fr f17).to hp4 _ (by omega)]
        refine x_comesTo (hw.fr f17) hI (p := p) rfl rfl (by omega) (g := (obWalks w P t R0 i).2.2.2.2.1) (r := (obWalks w P t R0 i).2.2.2.2.2.1) ?_ ?_ hok.2.2 (fun σ8 hg8 hr8 f8 => ?_)
        · rw [f7.A 31 0]; exact q4
        · rw [f7.A 32 0]; exact q5
        · have f18 := f17.trans (f8.wk (A' := xGo) (I' := []))
          refine ⟨zix _ e81 (by omega), ?_⟩
          rw [c1, nI_add]
          have es := obWalks_s.2 p hfs
          have g25 : gA σ8 25 0 = upd (gA σ2 25 0) (8 * (t + 1) + i) (pI (some p)) := by rw [f8.A 25 0, f7.A 25 0]; rfl
          have g28 : gA σ8 28 0 = upd (gA σ2 28 0) t (gA σ2 28 0 t ||| nI (2 ^ i)) := by rw [f8.A 28 0, f7.A 28 0]; rfl
          have g29 : gA σ8 29 0 = upd (gA σ2 29 0) i (gA σ2 29 0 i + (1 : Int32)) := by rw [f8.A 29 0, f7.A 29 0]; rfl
          refine ih (i + 1) _ _ (by omega) (f18.uA 25 _) ?_ (fun j hj => ?_) (fun j hj => ?_) ?_ (fun s hs => ?_)
          · rw [es]
            refine ⟨?_, ?_, ?_, hg8, hr8⟩
            · show agr (w 4) (gA σ8 24 0) _
              rw [f8.A 24 0]; exact hA7
            · show agr 28 (gA σ8 27 0) _
              rw [f8.A 27 0]; exact hU7
            · show agr 8 (gA σ8 29 0) _
              rw [g29]; exact q3.upd (by rw [q3 _ (by omega), c1, nI_add])
          · show upd (gA σ8 25 0) (8 * (t + 1) + i) _ (8 * (t + 1) + j) = _
            by_cases e : j = i
            · subst e
              rw [pk_us, es]
              unfold obStep
              dsimp only
              split
              · rw [fU_s]; rfl
              · rw [hpli, hpl]; rfl
            · rw [pk_un (by omega), g25, pk_un (by omega), obWalks_pn e]; exact hat j (by omega)
          · show upd (gA σ8 25 0) (8 * (t + 1) + i) _ j = _
            rw [pk_un (by omega), g25]; exact old0 j hj
          · show gA σ8 28 0 t = _
            rw [g28, pk_us, hse, orN, es]; rfl
          · show gA σ8 28 0 s = _
            rw [g28, pk_un hs]; exact hs2 s hs
  -- the acts
  have loop1 : ∀ n k (o3 : Option zV) (σ2 : zS), k + n = w 8 → xFr [] [24] σ σ2 → agr (w 4) (gA σ2 24 0) (obActs w t R.1 k) → AW 2 [some (zR 2 0), some (zI y), some (zI (nI k)), o3] [] σ2 := by
    intro n
    induction n with
    | zero =>
      intro k o3 σ2 hk hf hA
      refine sX3_passes_2 ha (x_acts (hw.fr hf) (zltN (by omega) (by omega) (fun q => absurd q (by omega)) (fun _ => ?_)))
      obtain ⟨q1, q2, q3, q4, q5⟩ := hR
      refine loop2 (w 7) 0 _ σ2 (by omega) hf.wk ?_ (fun j hj => absurd hj (by omega)) (fun j _ => by rw [hf.A 25 0]) ?_ (fun s _ => by rw [hf.A 28 0])
      · show xQ w R0 σ2
        rw [← hR0]
        refine ⟨by rw [show w 8 = k by omega]; exact hA, ?_, ?_, ?_, ?_⟩
        · rw [hf.A 27 0]; exact q2
        · rw [hf.A 29 0]; exact q3
        · rw [hf.A 31 0]; exact q4
        · rw [hf.A 32 0]; exact q5
      · show _ = nI R0.2.2.2.2.2.2
        rw [hf.A 28 0, hsent, ← hR0]; rfl
    | succ n ih =>
      intro k o3 σ2 hk hf hA
      have hact := hI.act (k := k) (by omega)
      obtain ⟨e1, e2, e3⟩ := (hw.fr hf).2.2.2.2.2.2 k (by omega)
      have hC : k < gC σ2 2 := by rw [(hw.fr hf).C2]; omega
      have hlt : obAct w k < 11000 := by unfold obActOk at hact; omega
      have skip : ¬ (obAct w k < 10000 ∧ obAct w k % 100 = t ∧ 0 < obMany w (obAct w k / 100)) → AW 2 [some (zR 2 0), some (zI y), some (zI (nI k + (1 : Int32))), o3] [] σ2 := by
        intro hn
        rw [c1, nI_add]
        refine ih (k + 1) o3 σ2 (by omega) hf ?_
        rw [show obActs w t R.1 (k + 1) = obActs w t R.1 k from if_neg hn]; exact hA
      refine sX3_passes_2 ha (x_acts (hw.fr hf) (zltN (by omega) (by omega) (fun _ => x_actOf (hw.fr hf) hI rfl (by omega) ⟨hC, hC, ?_⟩) (fun q => absurd q (by omega))))
      rw [e1]
      refine zbr (fun c => skip (fun q => c q.1)) (fun c => x_actOf (hw.fr hf) hI rfl (by omega) ⟨hC, hC, ?_⟩)
      rw [e3, hy]
      refine zeqN (by omega) (by omega) (fun c2 => x_actOf (hw.fr hf) hI rfl (by omega) ⟨hC, hC, ?_⟩) (fun c2 => by have := skip (fun q => c2 q.2.1); rw [hy] at this; exact this)
      have hwho : obAct w k % 10000 / 100 = obAct w k / 100 := by rw [Nat.mod_eq_of_lt c]
      have hw4 : obAct w k / 100 < w 4 := by unfold obActOk at hact; omega
      rw [e2, hwho]
      rcases Nat.eq_zero_or_pos (obMany w (obAct w k / 100)) with c3 | c3
      · refine x_turn0 (hw.fr hf) hI rfl hw4 c3 ?_
        have := skip (fun q => by omega)
        rw [hy] at this; exact this
      · refine x_turnF (hw.fr hf) hI rfl hw4 c3 hA (obActs_ok hRo.1 k) (fun σ3 h3 f3 => ?_)
        rw [c1, nI_add]
        have := ih (k + 1) o3 σ3 (by omega) (hf.trans f3) (by rw [show obActs w t R.1 (k + 1) = obFwd w (obActs w t R.1 k) (obAct w k / 100) from if_pos ⟨c, c2, c3⟩]; exact h3)
        rw [hy] at this; exact this
  exact loop1 (w 8) 0 _ σ (by omega) xFr.refl hR.1
