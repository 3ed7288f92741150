/-! THE MODEL: one is sent, an hour, all hours -/
theorem m_sendOne {G : zG} {d : Nat} {w : Nat → Nat} {P : obP} {R : obR} {σ : zS} {i t p : Nat} {x y : Int32} {K : zS → Prop} (hw : wM w σ) (hI : obInv w) (hP : mPar P σ) (hPo : obPok w P) (hR : mR R t σ) (hRo : obRok w R) (hx : x = nI i) (hy : y = nI t) (hi : i < w 7) (ht : t < 16) (hp : R.2.1 i = some p) (hp7 : p < w 4) (hm : 0 < obMany w p) (h : ∀ σ', mR (obStep w P i p R) t σ' → zFr [] [] [20, 21, 24, 25, 26, 27, 28] [] σ σ' → (∀ s, s ≠ t → gA σ' 24 0 s = gA σ 24 0 s) → K σ') : zCallV zcl Zm G (d + 3) mX6_sendOne [zR 0 0, zI x, zI y] σ K := by
  refine zmeth VX6_ok pX6_sendOne rfl (by decide) (Nat.le_of_ble_eq_true rfl) (fun AW ha => ?_)
  have hb := hI.b
  obtain ⟨r1, r2, r3, r4, r5, r6, r7⟩ := hR
  have hpl : gA σ 21 0 x.toNatClampNeg = nI p := by rw [zcl_n i hx, r2 i (by omega), hp]; rfl
  refine sX6_sendOne_0 ha ⟨zix i hx (by omega), ?_⟩
  rw [hpl]
  refine m_sendBy hw hI hP hPo rfl (by omega) hm r1 hRo.1 (fun σ1 hA1 f1 => ?_)
  have hrl := obSendR_lt (P := P) hRo.1 (show p < 7 by omega) hm
  have h4 := hI.many (show p < 7 by omega)
  generalize hrd : obSendR w P R.1 p = rd at hrl
  have hto := hI.to (show p < 7 by omega) hrl
  refine m_roadTo (hw.fr f1) rfl rfl (by omega) (by omega) ?_
  have e4 : (4 : Int32) * nI p + nI rd = nI (4 * p + rd) := by rw [c4, pk_mul, nI_add]
  refine ⟨zix t hy (by omega), zix t hy (by omega), zix _ e4 (by omega), zix _ e4 (by omega), zix i hx (by omega), zix i hx (by omega), ?_⟩
  rw [e4, zcl_n t hy, zcl_n i hx, zcl_n (4 * p + rd) rfl, hx, bit1 (by omega)]
  have g25 : gA σ1 25 0 = gA σ 25 0 := f1.A 25
  have g26 : gA σ1 26 0 = gA σ 26 0 := f1.A 26
  have g21 : gA σ1 21 0 = gA σ 21 0 := f1.A 21
  have g27 : gA σ1 27 0 = gA σ 27 0 := f1.A 27
  have g28 : gA σ1 28 0 = gA σ 28 0 := f1.A 28
  have g24 : gA σ1 24 0 = gA σ 24 0 := f1.A 24
  have g1 : gA σ1 1 0 = gA σ 1 0 := f1.A 1
  have q25 : agr 28 (upd (gA σ1 25 0) (4 * p + rd) (gA σ1 25 0 (4 * p + rd) + (1 : Int32))) (fU R.2.2.1 (4 * p + rd) (R.2.2.1 (4 * p + rd) + 1)) := by
    rw [g25]; exact r3.upd (by rw [r3 _ (by omega), c1, nI_add])
  have q26 : agr 8 (upd (gA σ1 26 0) i (gA σ1 26 0 i + (1 : Int32))) (fU R.2.2.2.1 i (R.2.2.2.1 i + 1)) := by
    rw [g26]; exact r4.upd (by rw [r4 _ (by omega), c1, nI_add])
  have q24 : upd (gA σ1 24 0) t (gA σ1 24 0 t ||| nI (2 ^ i)) t = nI (R.2.2.2.2.2.2 ||| 2 ^ i) := by
    rw [pk_us, g24, r7, orN]
  have q24n : ∀ s, s ≠ t → upd (gA σ1 24 0) t (gA σ1 24 0 t ||| nI (2 ^ i)) s = gA σ 24 0 s := fun s hs => by rw [pk_un hs, g24]
  have fr0 : zFr [] [] [20, 21, 24, 25, 26, 27, 28] [] σ σ1 := f1.wk
  have step : obStep w P i p R = (obSendA w P R.1 p, (if obTo w p rd < 10 ∨ R.2.2.2.2.1 (obTo w p rd - 10) < obRoom w (obTo w p rd - 10) then fU R.2.1 i (some (obTo w p rd)) else R.2.1), fU R.2.2.1 (4 * p + rd) (R.2.2.1 (4 * p + rd) + 1), fU R.2.2.2.1 i (R.2.2.2.1 i + 1),
      (if 10 ≤ obTo w p rd ∧ R.2.2.2.2.1 (obTo w p rd - 10) < obRoom w (obTo w p rd - 10) then fU R.2.2.2.2.1 (obTo w p rd - 10) (R.2.2.2.2.1 (obTo w p rd - 10) + 1) else R.2.2.2.2.1),
      (if 10 ≤ obTo w p rd ∧ ¬ R.2.2.2.2.1 (obTo w p rd - 10) < obRoom w (obTo w p rd - 10) then fU R.2.2.2.2.2.1 (obTo w p rd - 10) (R.2.2.2.2.2.1 (obTo w p rd - 10) + 1) else R.2.2.2.2.2.1), R.2.2.2.2.2.2 ||| 2 ^ i) := by
    unfold obStep; rw [hrd]
  rw [c10]
  refine zltN (by omega) (by decide) (fun c => ⟨zix i rfl (by omega), rfl, ?_⟩) (fun c => ?_)
  · refine h _ ?_ ((((fr0.uA 24 _).uA 25 _).uA 26 _).uA 21 _) q24n
    rw [step, if_pos (Or.inl c), if_neg (by omega), if_neg (by omega)]
    refine ⟨hA1, ?_, q25, q26, ?_, ?_, q24⟩
    · show agp 8 (upd (gA σ1 21 0) i _) _
      rw [g21]; exact r2.upd rfl
    · show agr 4 (gA σ1 27 0) _
      rw [g27]; exact r5
    · show agr 4 (gA σ1 28 0) _
      rw [g28]; exact r6
  · have hx10 : nI (obTo w p rd) - nI 10 = nI (obTo w p rd - 10) := pk_sub c
    have hx20 : nI 10 + nI (obTo w p rd) - nI 10 = nI (10 + (obTo w p rd - 10)) := by rw [nI_add, pk_sub (by omega)]; congr 1; omega
    have hroom := hI.room (i := obTo w p rd - 10) (by omega)
    have hg := hRo.2.2 (obTo w p rd - 10) (by omega)
    refine ⟨zix _ hx10 (by omega), zix _ hx20 (by omega), ?_⟩
    rw [zcl_n _ hx10 (by omega), zcl_n _ hx20 (by omega), g27, g1, r5 _ (by omega), hw _ (by omega)]
    refine zltN (by omega) (by unfold obRoom at hroom; omega) (fun c2 => ⟨zix i rfl (by omega), zix _ hx10 (by omega), zix _ hx10 (by omega), rfl, ?_⟩) (fun c2 => ⟨zix _ hx10 (by omega), zix _ hx10 (by omega), rfl, ?_⟩)
    · have c2 : R.2.2.2.2.1 (obTo w p rd - 10) < obRoom w (obTo w p rd - 10) := c2
      refine h _ ?_ (((((fr0.uA 24 _).uA 25 _).uA 26 _).uA 21 _).uA 27 _) q24n
      rw [step, if_pos (Or.inr c2), if_pos ⟨c, c2⟩, if_neg (fun q => q.2 c2)]
      refine ⟨hA1, ?_, q25, q26, ?_, ?_, q24⟩
      · show agp 8 (upd (gA σ1 21 0) i _) _
        rw [g21]; exact r2.upd rfl
      · show agr 4 (upd (gA σ 27 0) _ _) _
        exact r5.upd (by rw [c1, nI_add])
      · show agr 4 (gA σ1 28 0) _
        rw [g28]; exact r6
    · have c3 : ¬ R.2.2.2.2.1 (obTo w p rd - 10) < obRoom w (obTo w p rd - 10) := by unfold obRoom; omega
      refine h _ ?_ ((((fr0.uA 24 _).uA 25 _).uA 26 _).uA 28 _) q24n
      rw [step, if_neg (by rintro (q | q) <;> omega), if_neg (fun q => c3 q.2), if_pos ⟨c, c3⟩]
      refine ⟨hA1, ?_, q25, q26, ?_, ?_, q24⟩
      · show agp 8 (gA σ1 21 0) _
        rw [g21]; exact r2
      · show agr 4 (gA σ1 27 0) _
        rw [g27]; exact r5
      · show agr 4 (upd (gA σ1 28 0) (obTo w p rd - 10) (gA σ1 28 0 (obTo w p rd - 10) + 1)) _
        rw [g28]; exact r6.upd (by rw [r6 _ (by omega), c1, nI_add])
theorem m_goHour {G : zG} {d : Nat} {w : Nat → Nat} {P : obP} {R : obR} {σ : zS} {t : Nat} {y : Int32} {K : zS → Prop} (hw : wM w σ) (hI : obInv w) (hP : mPar P σ) (hPo : obPok w P) (hR : mR (R.1, R.2.1, R.2.2.1, R.2.2.2.1, R.2.2.2.2.1, R.2.2.2.2.2.1, 0) t σ) (hRo : obRok w R) (hy : y = nI t) (ht : t < 16) (h : ∀ σ', mR (obGo w P t R) t σ' → zFr [] [] [20, 21, 24, 25, 26, 27, 28] [] σ σ' → (∀ s, s ≠ t → gA σ' 24 0 s = gA σ 24 0 s) → K σ') : zCallV zcl Zm G (d + 4) mX6_goHour [zR 0 0, zI y] σ K := by
  refine zmeth VX6_ok pX6_goHour rfl (by decide) (Nat.le_of_ble_eq_true rfl) (fun AW ha => ?_)
  have hb := hI.b
  refine sX6_goHour_0 ha ?_
  generalize hR0 : ((obActs w t R.1 (w 8), R.2.1, R.2.2.1, R.2.2.2.1, R.2.2.2.2.1, R.2.2.2.2.2.1, 0) : obR) = R0
  have hR0o : obRok w R0 := by rw [← hR0]; exact ⟨obActs_ok hRo.1 _, hRo.2.1, hRo.2.2⟩
  -- the walkers
  have loop2 : ∀ n i (o3 : Option zV) (σ2 : zS), i + n = w 7 → zFr [] [] [20, 21, 24, 25, 26, 27, 28] [] σ σ2 → (∀ s, s ≠ t → gA σ2 24 0 s = gA σ 24 0 s) → mR (obWalks w P t R0 i) t σ2 → AW 66 [some (zR 0 0), some (zI y), some (zI (nI i)), o3] [] σ2 := by
    intro n
    induction n with
    | zero =>
      intro i o3 σ2 hi hf hs h2
      refine sX6_goHour_66 ha (m_walkers (hw.fr hf) (zltN (by omega) (by omega) (fun q => absurd q (by omega)) (fun _ => ⟨rfl, ?_⟩)))
      refine h σ2 ?_ hf hs
      unfold obGo; rw [hR0, show w 7 = i by omega]; exact h2
    | succ n ih =>
      intro i o3 σ2 hi hf hs h2
      have hok := obWalks_ok (P := P) (t := t) hI hR0o i
      have hfog := hPo.2.1
      refine sX6_goHour_66 ha (m_walkers (hw.fr hf) (zltN (by omega) (by omega) (fun _ => m_bit (hP.fr hf).2.1 hy (by omega) (by omega) ?_) (fun q => absurd q (by omega))))
      rw [← nI_0]
      have next : ∀ (o : Option zV) (σ3 : zS), zFr [] [] [20, 21, 24, 25, 26, 27, 28] [] σ2 σ3 → (∀ s, s ≠ t → gA σ3 24 0 s = gA σ2 24 0 s) → mR (obWalks w P t R0 (i + 1)) t σ3 → AW 66 [some (zR 0 0), some (zI y), some (zI (nI i + (1 : Int32))), o] [] σ3 := by
        intro o σ3 f3 s3 h3
        rw [c1, nI_add]
        exact ih (i + 1) o σ3 (by omega) (hf.trans f3) (fun s q => (s3 s q).trans (hs s q)) h3
      have skip : obFrom w P t i (obWalks w P t R0 i) = none → ∀ (o : Option zV), AW 66 [some (zR 0 0), some (zI y), some (zI (nI i + (1 : Int32))), o] [] σ2 := by
        intro hn o
        refine next o σ2 zFr.refl (fun _ _ => rfl) ?_
        rw [show obWalks w P t R0 (i + 1) = obWalks w P t R0 i by show (match obFrom w P t i (obWalks w P t R0 i) with | none => _ | some p => _) = _; rw [hn]]
        exact h2
      refine zeqN (Nat.lt_of_lt_of_le (Nat.mod_lt _ (by decide)) (by decide)) (by decide) (fun c => ⟨zix i rfl (by omega), ?_⟩) (fun c => ⟨rfl, ?_⟩)
      · rw [zcl_n i rfl, h2.2.1 i (by omega)]
        cases hpl : (obWalks w P t R0 i).2.1 i with
        | none =>
          refine ⟨fun _ => skip ?_ _, fun q => absurd rfl q⟩
          unfold obFrom; rw [hpl]
        | some p =>
          have hpp := hok.2.1 i p hpl
          have hsk : ¬ (p < 10 ∧ obMany w p ≠ 0 ∧ obHeld w i t = false ∧ P.2.1 / 2 ^ t % 2 = 0) → obFrom w P t i (obWalks w P t R0 i) = none := by
            intro q; unfold obFrom; rw [hpl]; exact if_neg q
          refine ⟨fun q => absurd q (pI_ne (by omega)), fun _ => ?_⟩
          show (nI p < 10 → _) ∧ (¬ nI p < 10 → _)
          rw [c10]
          refine zltN (by omega) (by decide) (fun c2 => m_roadMany (hw.fr hf) rfl (by omega) ?_) (fun c2 => skip (hsk (fun q => by omega)) _)
          have h4 := hI.many (show p < 7 by omega)
          refine zeqN (by omega) (by decide) (fun c3 => skip (hsk (fun q => q.2.1 c3)) _) (fun c3 => m_isHeld (hw.fr hf) hI rfl hy (by omega) ht ?_)
          rw [nI_0]
          refine zbr (fun c4 => ?_) (fun c4 => skip (hsk (fun q => by rw [c4] at q; exact absurd q.2.2.1 (by decide))) _)
          have hfrom : obFrom w P t i (obWalks w P t R0 i) = some p := by
            unfold obFrom; rw [hpl]; exact if_pos ⟨c2, c3, by simpa using c4, c⟩
          refine m_sendOne (hw.fr hf) hI (hP.fr hf) hPo h2 hok rfl hy (by omega) ht hpl (by omega) (by omega) (fun σ3 h3 f3 s3 => next _ σ3 f3 s3 ?_)
          show mR (match obFrom w P t i (obWalks w P t R0 i) with | none => _ | some p => _) t σ3
          rw [hfrom]
          exact h3
      · -- fog: nobody from here on
        have stay : ∀ k, obWalks w P t R0 (i + k) = obWalks w P t R0 i := by
          intro k
          induction k with
          | zero => rfl
          | succ k ihk =>
            have hn : obFrom w P t (i + k) (obWalks w P t R0 (i + k)) = none := by
              unfold obFrom
              split
              · rfl
              · exact if_neg (fun q => c q.2.2.2)
            show (match obFrom w P t (i + k) (obWalks w P t R0 (i + k)) with | none => _ | some p => _) = _
            rw [hn]
            exact ihk
        refine h σ2 ?_ hf hs
        unfold obGo; rw [hR0, show w 7 = i + (n + 1) by omega, stay]; exact h2
  -- the acts
  have loop1 : ∀ n k (o3 : Option zV) (σ2 : zS), k + n = w 8 → zFr [] [] [20, 21, 24, 25, 26, 27, 28] [] σ σ2 → gA σ2 24 0 = gA σ 24 0 → mR (obActs w t R.1 k, R.2.1, R.2.2.1, R.2.2.2.1, R.2.2.2.2.1, R.2.2.2.2.2.1, 0) t σ2 → AW 2 [some (zR 0 0), some (zI y), some (zI (nI k)), o3] [] σ2 := by
    intro n
    induction n with
    | zero =>
      intro k o3 σ2 hk hf hs h2
      refine sX6_goHour_2 ha ⟨zin_lit rfl, ?_⟩
      rw [(hw.fr hf) 8 (by decide)]
      refine zltN (by omega) (by omega) (fun q => absurd q (by omega)) (fun _ => loop2 (w 7) 0 _ σ2 (by omega) hf (fun s _ => by rw [hs]) ?_)
      show mR R0 t σ2
      rw [← hR0, show w 8 = k by omega]; exact h2
    | succ n ih =>
      intro k o3 σ2 hk hf hs h2
      have e : (72 : Int32) + nI k = nI (72 + k) := by rw [c72, nI_add]
      have hact := hI.act (k := k) (by omega)
      have hlt : obAct w k < 2 ^ 31 := by unfold obActOk at hact; omega
      have next : ∀ (o : Option zV) (σ3 : zS), zFr [] [] [20] [] σ2 σ3 → mR (obActs w t R.1 (k + 1), R.2.1, R.2.2.1, R.2.2.2.1, R.2.2.2.2.1, R.2.2.2.2.2.1, 0) t σ3 → AW 2 [some (zR 0 0), some (zI y), some (zI (nI k + (1 : Int32))), o] [] σ3 := by
        intro o σ3 f3 h3
        rw [c1, nI_add]
        exact ih (k + 1) o σ3 (by omega) (hf.trans f3.wk) ((f3.A 24).trans hs) h3
      have skip : ¬ (obAct w k < 10000 ∧ obAct w k % 100 = t ∧ 0 < obMany w (obAct w k / 100)) → ∀ (o : Option zV), AW 2 [some (zR 0 0), some (zI y), some (zI (nI k + (1 : Int32))), o] [] σ2 := by
        intro hn o
        refine next o σ2 zFr.refl ?_
        rw [show obActs w t R.1 (k + 1) = obActs w t R.1 k from if_neg hn]
        exact h2
      refine sX6_goHour_2 ha ⟨zin_lit rfl, ?_⟩
      rw [(hw.fr hf) 8 (by decide), zcl_n _ e, (hw.fr hf) _ (by omega), show w (72 + k) = obAct w k from rfl]
      refine zltN (by omega) (by omega) (fun _ => ⟨zix _ e (by omega), ?_⟩) (fun q => absurd q (by omega))
      rw [c10000, c100]
      refine zltN (by omega) (by decide) (fun c => ⟨nI_ne0 (by decide) (by decide), ?_⟩) (fun c => skip (fun q => by omega) _)
      rw [modN hlt (by decide) (by decide), pk_div hlt (by decide) (by decide), hy]
      refine zeqN (by omega) (by omega) (fun c2 => ⟨nI_ne0 (by decide) (by decide), m_roadMany (hw.fr hf) rfl (by unfold obActOk at hact; omega) ?_⟩) (fun c2 => by have := skip (fun q => c2 q.2.1) (some (zI (nI (obAct w k)))); rw [hy] at this; exact this)
      have h4 := hI.many (p := obAct w k / 100) (by unfold obActOk at hact; omega)
      rw [← nI_0]
      refine zltN (by decide) (by omega) (fun c3 => ⟨nI_ne0 (by decide) (by decide), ?_⟩) (fun c3 => by have := skip (fun q => by omega) (some (zI (nI (obAct w k)))); rw [hy] at this; exact this)
      refine m_turnF (hw.fr hf) hI rfl (by unfold obActOk at hact; omega) c3 h2.1 (obActs_ok hRo.1 k) (fun σ3 h3 f3 => ?_)
      have := next (some (zI (nI (obAct w k)))) σ3 f3 (by
        rw [show obActs w t R.1 (k + 1) = obFwd w (obActs w t R.1 k) (obAct w k / 100) from if_pos ⟨c, c2, c3⟩]
        obtain ⟨-, b2, b3, b4, b5, b6, b7⟩ := h2
        refine ⟨h3, ?_, ?_, ?_, ?_, ?_, ?_⟩
        · rw [f3.A 21]; exact b2
        · rw [f3.A 25]; exact b3
        · rw [f3.A 26]; exact b4
        · rw [f3.A 27]; exact b5
        · rw [f3.A 28]; exact b6
        · rw [f3.A 24]; exact b7)
      rw [hy] at this
      exact this
  exact loop1 (w 8) 0 _ σ (by omega) zFr.refl rfl hR
