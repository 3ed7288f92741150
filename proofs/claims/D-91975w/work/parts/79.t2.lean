/-! THE MODEL: slots, acts -/
section TOO
variable {G : zG} {d : Nat} {S : oZ} {σ : zS}
theorem m_isSlot {a : Int32} {K : Int32 → zS → Prop} (h : K (bI (0 ≤ a.toInt ∧ a.toInt ≤ 3)) σ) : zCallI zcl Zm G (d + 1) mX6_isSlot [zI a] σ K := by
  refine zmeth VX6_ok pX6_isSlot rfl (by decide) (Nat.le_of_ble_eq_true rfl) (fun AW hA => ?_)
  refine sX6_isSlot_0 hA (m_in ⟨bI_01 _, _, rfl, ?_⟩)
  rw [bI_c (b := 0 ≤ a.toInt ∧ a.toInt ≤ 3) (by rw [i64]; exact Iff.rfl)]
  exact h
abbrev slIs (a : Int32) : Prop := 0 ≤ a.toInt ∧ a.toInt ≤ 3
def setSl (S : oZ) (s : Nat) (q : Nat × Nat × (Nat → Int64)) : oZ := (S.1, S.2.1, S.2.2.1, S.2.2.2.1, S.2.2.2.2.1, fU S.2.2.2.2.2 s (some q))
def oRow (S : oZ) (a b c : Int32) : Int32 × oZ := if slIs a ∧ slIs b ∧ c.toInt ≤ 60 then (if c.toInt < 0 then (-3, S) else (0, setSl S a.toNatClampNeg (b.toNatClampNeg, c.toNatClampNeg, fun _ => 0))) else (-2, S)
/-- another slot is told in the rows -/
theorem mZ.slot {σ' : zS} {s : Nat} {q : Nat × Nat × (Nat → Int64)} (h : mZ S σ) (hf : zFr [] [] [37, 38] [39, 40] σ σ') (hs : mSl1 s σ' (some q)) (ho : ∀ r, r < 4 → r ≠ s → gA σ' 37 0 r = gA σ 37 0 r ∧ gA σ' 38 0 r = gA σ 38 0 r ∧ ∀ i, i < 60 → gB σ' 39 0 (60 * r + i) = gB σ 39 0 (60 * r + i)) : mZ (setSl S s q) σ' := by
  refine ⟨h.1.fr hf, h.2.1.fr hf, h.2.2.1.fr hf, h.2.2.2.1.fr hf, fun r hr => ?_⟩
  by_cases z : r = s
  · subst z
    show mSl1 r σ' (fU S.2.2.2.2.2 r (some q) r)
    rw [fU_s]; exact hs
  · show mSl1 r σ' (fU S.2.2.2.2.2 s (some q) r)
    rw [fU_n z]
    obtain ⟨e1, e2, e3⟩ := ho r hr z
    have := h.2.2.2.2 r hr
    unfold mSl1 at this ⊢
    cases c : S.2.2.2.2.2 r with
    | none => rw [c] at this; dsimp only at this ⊢; rw [e1]; exact this
    | some v =>
      rw [c] at this; dsimp only at this ⊢
      rw [e1, e2]
      exact ⟨this.1, this.2.1, fun i hi => by rw [e3 i hi]; exact this.2.2 i hi⟩
theorem updL_s {f : Nat → Int64} {k : Nat} {x : Int64} : vp_updL f k x k = x := if_pos rfl
theorem updL_n {f : Nat → Int64} {k j : Nat} {x : Int64} (h : j ≠ k) : vp_updL f k x j = f j := if_neg h
theorem m_row {a b c : Int32} {K : Int32 → zS → Prop} (h : mZ S σ) (hK : ∀ σ', mZ (oRow S a b c).2 σ' → K (oRow S a b c).1 σ') : zCallI zcl Zm G (d + 2) mX6_row [zR 0 0, zI a, zI b, zI c] σ K := by
  refine zmeth VX6_ok pX6_row rfl (by decide) (Nat.le_of_ble_eq_true rfl) (fun AW hA => ?_)
  unfold oRow at hK
  refine sX6_row_0 hA (m_isSlot (zbr (fun q => ⟨_, rfl, ?_⟩) (fun q => m_in ?_)))
  · rw [if_neg (fun z => q z.1)] at hK; exact hK σ h
  rw [i64]
  refine zbr (c := slIs b) (fun q2 => ⟨_, rfl, ?_⟩) (fun q2 => ?_)
  · rw [if_neg (fun z => q2 z.2.1)] at hK; exact hK σ h
  rw [Int32.lt_iff_toInt_lt, show (60 : Int32).toInt = 60 from rfl]
  refine ⟨fun q3 => ⟨_, rfl, ?_⟩, fun q3 => zneg (fun q4 => ⟨_, rfl, ?_⟩) (fun q4 => ?_)⟩
  · rw [if_neg (fun z => by have := z.2.2; omega)] at hK; exact hK σ h
  · rw [if_pos ⟨q, q2, by omega⟩, if_pos q4] at hK; exact hK σ h
  · rw [if_pos ⟨q, q2, by omega⟩, if_neg (by omega)] at hK
    obtain ⟨e1, l1⟩ := okN' (a := a) (n := 3) q
    obtain ⟨e2, l2⟩ := okN' (a := b) (n := 3) q2
    obtain ⟨e3, l3⟩ := okN' (a := c) (n := 60) ⟨q4, by omega⟩
    refine ⟨zix _ e1 (by omega), zix _ e1 (by omega), ?_⟩
    generalize a.toNatClampNeg = s at e1 l1 hK ⊢
    have loop : ∀ m i (σ2 : zS), i + m = 60 → zFr [] [] [37, 38] [39, 40] σ σ2 → gA σ2 37 0 = upd (gA σ 37 0) s c → gA σ2 38 0 = upd (gA σ 38 0) s b → (∀ j, j < i → gB σ2 39 0 (60 * s + j) = 0) → (∀ r j, r ≠ s → j < 60 → gB σ2 39 0 (60 * r + j) = gB σ 39 0 (60 * r + j)) → AW 52 [some (zR 0 0), some (zI a), some (zI b), some (zI c), some (zI (nI i))] [] σ2 := by
      intro m
      induction m with
      | zero =>
        intro i σ2 hi hf h37 h38 h39 ho
        obtain rfl : i = 60 := by omega
        refine sX6_row_52 hA ⟨fun q => absurd q (by decide), fun _ => ⟨_, rfl, hK σ2 (h.slot hf ⟨?_, ?_, h39⟩ (fun r hr z => ⟨?_, ?_, fun i hi => ho r i z hi⟩))⟩⟩
        · rw [h37, pk_us]; exact e3
        · rw [h38, pk_us]; exact e2
        · rw [h37, pk_un z]
        · rw [h38, pk_un z]
      | succ m ih =>
        intro i σ2 hi hf h37 h38 h39 ho
        have e4 : (60 : Int32) * a + nI i = nI (60 * s + i) := by rw [e1, show (60 : Int32) = nI 60 from rfl, pk_mul, nI_add]
        refine sX6_row_52 hA ⟨fun _ => ⟨zix _ e4 (by omega), ?_⟩, fun q => absurd (nI_lt (a := i) (b := 60) (by omega) (by decide)) q⟩
        rw [zcl_n _ e4, c1, nI_add]
        refine ih (i + 1) _ (by omega) (hf.uB 39 _) h37 h38 (fun j hj => ?_) (fun r j hr hj => ?_)
        · show vp_updL (gB σ2 39 0) (60 * s + i) 0 (60 * s + j) = 0
          by_cases z : j = i
          · subst z; rw [updL_s]
          · rw [updL_n (by omega)]; exact h39 j (by omega)
        · show vp_updL (gB σ2 39 0) (60 * s + i) 0 (60 * r + j) = _
          rw [updL_n (by omega)]; exact ho r j hr hj
    exact loop 60 0 _ rfl ((zFr.refl.uA 37 _).uA 38 _) rfl rfl (fun j hj => absurd hj (Nat.not_lt_zero j)) (fun _ _ _ _ => rfl)
def oWrite (S : oZ) (a b : Int32) (v : Int64) : Int32 × oZ := if slIs a then (match S.2.2.2.2.2 a.toNatClampNeg with
  | none => (-6, S)
  | some q => if 0 ≤ b.toInt ∧ b.toInt < q.2.1 then (0, setSl S a.toNatClampNeg (q.1, q.2.1, fU q.2.2 b.toNatClampNeg (clipV q.1 v))) else (-7, S)) else (-2, S)
theorem sar_bv (v : BitVec 64) (k : Nat) (hk : k ≤ 64) (hk0 : 0 < k) : (v <<< (64 - k)).sshiftRight (64 - k) = (v.setWidth k).signExtend 64 := by
  apply BitVec.eq_of_getLsbD_eq
  intro i hi
  rw [BitVec.getLsbD_sshiftRight, BitVec.getLsbD_signExtend, BitVec.getLsbD_shiftLeft, BitVec.msb_eq_getLsbD_last, BitVec.getLsbD_shiftLeft, BitVec.msb_eq_getLsbD_last, BitVec.getLsbD_setWidth, BitVec.getLsbD_setWidth]
  by_cases c : i < k
  · simp [hi, c, show ¬ 64 ≤ i by omega, show 64 - k + i < 64 by omega]
  · simp [hi, c, show ¬ 64 ≤ i by omega, show ¬ 64 - k + i < 64 by omega, show ¬ 63 < 64 - k by omega, hk0, show k - 1 < k by omega]
    congr 1; omega
theorem clip64 (v : Int64) : ∀ wd, wd < 4 → (v <<< (((64 : Int32) - ((8 : Int32) <<< (nI wd &&& 31))).toInt64 &&& 63)) >>> (((64 : Int32) - ((8 : Int32) <<< (nI wd &&& 31))).toInt64 &&& 63) = clipV wd v := by
  have sh : ∀ (m : Int64) (k : Nat), 0 < k → k ≤ 64 → m = Int64.ofNat (64 - k) → (v <<< m) >>> m = Int64.ofBitVec ((v.toBitVec.setWidth k).signExtend 64) := by
    intro m k h0 h1 hm
    subst hm
    apply Int64.toBitVec_inj.mp
    rw [Int64.toBitVec_shiftRight, Int64.toBitVec_shiftLeft]
    have e : ((Int64.ofNat (64 - k)).toBitVec.smod 64).toNat = 64 - k := by
      have : ∀ k : Nat, k < 64 → ((Int64.ofNat k).toBitVec.smod 64).toNat = k := by decide +kernel
      exact this _ (by omega)
    rw [BitVec.sshiftRight_eq', BitVec.shiftLeft_eq', e, sar_bv _ k h1 h0]
    rfl
  intro wd hwd
  have e3 : (v <<< (0 : Int64)) >>> (0 : Int64) = v := by
    rw [sh 0 64 (by decide) (by decide) rfl]
    apply Int64.toBitVec_inj.mp
    show (v.toBitVec.setWidth 64).signExtend 64 = v.toBitVec
    rw [BitVec.setWidth_eq, BitVec.signExtend_eq]
  rcases (show wd = 0 ∨ wd = 1 ∨ wd = 2 ∨ wd = 3 by omega) with e | e | e | e <;> subst e
  · rw [show (((64 : Int32) - ((8 : Int32) <<< (nI 0 &&& 31))).toInt64 &&& 63) = 56 by decide +kernel, sh 56 8 (by decide) (by decide) rfl]
    show _ = v.toInt32.toInt8.toInt32.toInt64
    rw [Int64.toInt8_toInt32, Int8.toInt64_toInt32]
    show _ = Int64.ofBitVec ((v.toBitVec.signExtend 8).signExtend 64)
    rw [show v.toBitVec.signExtend 8 = v.toBitVec.setWidth 8 from BitVec.signExtend_eq_setWidth_of_le _ (by decide)]
  · rw [show (((64 : Int32) - ((8 : Int32) <<< (nI 1 &&& 31))).toInt64 &&& 63) = 48 by decide +kernel, sh 48 16 (by decide) (by decide) rfl]
    show _ = v.toInt32.toInt16.toInt32.toInt64
    rw [Int64.toInt16_toInt32, Int16.toInt64_toInt32]
    show _ = Int64.ofBitVec ((v.toBitVec.signExtend 16).signExtend 64)
    rw [show v.toBitVec.signExtend 16 = v.toBitVec.setWidth 16 from BitVec.signExtend_eq_setWidth_of_le _ (by decide)]
  · rw [show (((64 : Int32) - ((8 : Int32) <<< (nI 2 &&& 31))).toInt64 &&& 63) = 32 by decide +kernel, sh 32 32 (by decide) (by decide) rfl]
    show _ = Int64.ofBitVec ((v.toBitVec.signExtend 32).signExtend 64)
    rw [show v.toBitVec.signExtend 32 = v.toBitVec.setWidth 32 from BitVec.signExtend_eq_setWidth_of_le _ (by decide)]
  · rw [show (((64 : Int32) - ((8 : Int32) <<< (nI 3 &&& 31))).toInt64 &&& 63) = 0 by decide +kernel]
    exact e3
theorem m_clipped {wd : Nat} {x : Int32} {v : Int64} {K : Int64 → zS → Prop} (hx : x = nI wd) (hw : wd ≤ 3) (h : K (clipV wd v) σ) : zCallL zcl Zm G d mX6_clipped [zL v, zI x] σ K := by
  refine zmeth VX6_ok pX6_clipped rfl (by decide) (Nat.le_of_ble_eq_true rfl) (fun AW hA => ?_)
  refine sX6_clipped_0 hA ⟨_, rfl, ?_⟩
  rw [hx, clip64 v wd (by omega)]
  exact h
theorem m_write {a b : Int32} {v : Int64} {K : Int32 → zS → Prop} (h : mZ S σ) (hS : oOk S) (hK : ∀ σ', mZ (oWrite S a b v).2 σ' → K (oWrite S a b v).1 σ') : zCallI zcl Zm G (d + 2) mX6_write [zR 0 0, zI a, zI b, zL v] σ K := by
  refine zmeth VX6_ok pX6_write rfl (by decide) (Nat.le_of_ble_eq_true rfl) (fun AW hA => ?_)
  unfold oWrite at hK
  refine sX6_write_0 hA (m_isSlot (zbr (fun q => ⟨_, rfl, ?_⟩) (fun q => ?_)))
  · rw [if_neg q] at hK; exact hK σ h
  rw [if_pos q] at hK
  obtain ⟨e1, l1⟩ := okN' (a := a) (n := 3) q
  refine ⟨zix _ e1 (by omega), ?_⟩
  generalize a.toNatClampNeg = s at e1 l1 hK ⊢
  have hs := h.2.2.2.2 s (by omega)
  rcases c : S.2.2.2.2.2 s with _ | q2
  · rw [c] at hs hK
    exact ⟨fun _ => ⟨_, rfl, hK σ h⟩, fun z => absurd hs z⟩
  · rw [c] at hs hK
    have ok := hS.2.2.2.2 s q2 c
    have l2 := ok.2.1
    refine ⟨fun z => absurd (hs.1.symm.trans z) (pI_ne (by omega)), fun _ => ⟨zix _ e1 (by omega), m_in ?_⟩⟩
    rw [hs.1]
    dsimp only at hK
    rw [bI_c (b := 0 ≤ b.toInt ∧ b.toInt < q2.2.1) (by rw [i64, i64, toI_1 (n := q2.2.1) (by omega)]; show (0 : Int) ≤ _ ∧ _ ↔ _; omega)]
    refine zbr (fun q3 => ⟨_, rfl, ?_⟩) (fun q3 => ⟨zix _ e1 (by omega), m_clipped hs.2.1 ok.1 ?_⟩)
    · rw [if_neg q3] at hK; exact hK σ h
    · rw [if_pos q3] at hK
      obtain ⟨e3, l3⟩ := okN (a := b) (n := q2.2.1) q3
      generalize b.toNatClampNeg = i at e3 l3 hK
      have e4 : (60 : Int32) * a + b = nI (60 * s + i) := by rw [e1, e3, show (60 : Int32) = nI 60 from rfl, pk_mul, nI_add]
      refine ⟨zix _ e4 (by omega), _, rfl, ?_⟩
      rw [zcl_n _ e4]
      refine hK _ (h.slot (zFr.refl.uB 39 _) ⟨hs.1, hs.2.1, fun j hj => ?_⟩ (fun r hr z => ⟨rfl, rfl, fun j hj => ?_⟩))
      · show vp_updL (gB σ 39 0) (60 * s + i) _ (60 * s + j) = fU q2.2.2 i _ j
        by_cases z : j = i
        · subst z; rw [updL_s, fU_s]
        · rw [updL_n (by omega), fU_n z]; exact hs.2.2 j hj
      · show vp_updL (gB σ 39 0) (60 * s + i) _ (60 * r + j) = _
        rw [updL_n (by omega)]
/-- part of a row laid upon another -/
def pasteF (f g : Nat → Int64) (i k n : Nat) : Nat → Int64 := fun j => if k ≤ j ∧ j < k + n then f (i + (j - k)) else g j
def oPaste (S : oZ) (a b c e f : Int32) : Int32 × oZ := if slIs a ∧ slIs c then (match S.2.2.2.2.2 a.toNatClampNeg, S.2.2.2.2.2 c.toNatClampNeg with
  | some p, some q => if p.1 = q.1 then (if 0 ≤ b.toInt ∧ 0 ≤ e.toInt ∧ 0 ≤ f.toInt ∧ b.toInt + f.toInt ≤ p.2.1 ∧ e.toInt + f.toInt ≤ q.2.1 then (0, setSl S c.toNatClampNeg (q.1, q.2.1, pasteF p.2.2 q.2.2 b.toNatClampNeg e.toNatClampNeg f.toNatClampNeg)) else (-7, S)) else (-8, S)
  | _, _ => (-6, S)) else (-2, S)
theorem lsum {x y : Int32} : (x.toInt64 + y.toInt64).toInt = x.toInt + y.toInt := by
  rw [Int64.toInt_add, i64, i64]
  have h1 := Int32.toInt_lt x
  have h2 := Int32.le_toInt x
  have h3 := Int32.toInt_lt y
  have h4 := Int32.le_toInt y
  exact Int.bmod_eq_of_le (by omega) (by omega)
theorem m_paste {a b c e f : Int32} {K : Int32 → zS → Prop} (h : mZ S σ) (hS : oOk S) (hK : ∀ σ', mZ (oPaste S a b c e f).2 σ' → K (oPaste S a b c e f).1 σ') : zCallI zcl Zm G (d + 2) mX6_paste [zR 0 0, zI a, zI b, zI c, zI e, zI f] σ K := by
  refine zmeth VX6_ok pX6_paste rfl (by decide) (Nat.le_of_ble_eq_true rfl) (fun AW hA => ?_)
  unfold oPaste at hK
  refine sX6_paste_0 hA (m_isSlot (zbr (fun q => ⟨_, rfl, ?_⟩) (fun q => m_isSlot (zbr (fun q2 => ⟨_, rfl, ?_⟩) (fun q2 => ?_)))))
  · rw [if_neg (fun z => q z.1)] at hK; exact hK σ h
  · rw [if_neg (fun z => q2 z.2)] at hK; exact hK σ h
  rw [if_pos ⟨q, q2⟩] at hK
  obtain ⟨e1, l1⟩ := okN' (a := a) (n := 3) q
  obtain ⟨e2, l2⟩ := okN' (a := c) (n := 3) q2
  rw [zcl_n _ e1 (by omega), zcl_n _ e2 (by omega)]
  refine ⟨zix _ e1 (by omega), ?_⟩
  generalize a.toNatClampNeg = s at e1 l1 hK ⊢
  generalize c.toNatClampNeg = t at e2 l2 hK ⊢
  have hs := h.2.2.2.2 s (by omega)
  have ht := h.2.2.2.2 t (by omega)
  rcases cs : S.2.2.2.2.2 s with _ | p
  · rw [cs] at hs hK
    exact ⟨fun _ => ⟨_, rfl, hK σ h⟩, fun z => absurd hs z⟩
  rw [cs] at hs hK
  have ok1 := hS.2.2.2.2 s p cs
  have n1 := ok1.2.1
  refine ⟨fun z => absurd (hs.1.symm.trans z) (pI_ne (by omega)), fun _ => ⟨zix _ e2 (by omega), ?_⟩⟩
  rcases ct : S.2.2.2.2.2 t with _ | r
  · rw [ct] at ht hK
    exact ⟨fun _ => ⟨_, rfl, hK σ h⟩, fun z => absurd ht z⟩
  rw [ct] at ht hK
  have ok2 := hS.2.2.2.2 t r ct
  have n2 := ok2.2.1
  have w1 := ok1.1
  have w2 := ok2.1
  dsimp only at hK
  refine ⟨fun z => absurd (ht.1.symm.trans z) (pI_ne (by omega)), fun _ => ⟨zix _ e1 (by omega), zix _ e2 (by omega), ?_⟩⟩
  rw [hs.1, hs.2.1, ht.1, ht.2.1]
  refine zeqN (by omega) (by omega) (fun cw => ?_) (fun cw => ⟨_, rfl, by rw [if_neg cw] at hK; exact hK σ h⟩)
  rw [if_pos cw] at hK
  have no : ¬ (0 ≤ b.toInt ∧ 0 ≤ e.toInt ∧ 0 ≤ f.toInt ∧ b.toInt + f.toInt ≤ p.2.1 ∧ e.toInt + f.toInt ≤ r.2.1) → K (-7) σ := fun z => by
    rw [if_neg z] at hK; exact hK σ h
  refine zneg (fun z => ⟨_, rfl, no (by omega)⟩) (fun z1 => zneg (fun z => ⟨_, rfl, no (by omega)⟩) (fun z2 => zneg (fun z => ⟨_, rfl, no (by omega)⟩) (fun z3 => ⟨zix _ e1 (by omega), ?_⟩)))
  rw [lc_gt, lc_gt, lsum, lsum, i64, i64, nI_toInt (by omega), nI_toInt (by omega)]
  refine ⟨fun z => ⟨_, rfl, no (by omega)⟩, fun z4 => ⟨zix _ e2 (by omega), fun z => ⟨_, rfl, no (by omega)⟩, fun z5 => ?_⟩⟩
  rw [if_pos ⟨z1, z2, z3, by omega, by omega⟩] at hK
  obtain ⟨eb, lb⟩ := okN' (a := b) (n := 60) (by omega)
  obtain ⟨ee, le⟩ := okN' (a := e) (n := 60) (by omega)
  obtain ⟨ef, lf⟩ := okN' (a := f) (n := 60) (by omega)
  have sb : b.toNatClampNeg + f.toNatClampNeg ≤ p.2.1 := by have : ∀ x : Int32, x.toNatClampNeg = x.toInt.toNat := fun _ => rfl; rw [this, this]; omega
  have se : e.toNatClampNeg + f.toNatClampNeg ≤ r.2.1 := by have : ∀ x : Int32, x.toNatClampNeg = x.toInt.toNat := fun _ => rfl; rw [this, this]; omega
  generalize b.toNatClampNeg = i at eb lb sb hK
  generalize e.toNatClampNeg = k at ee le se hK
  generalize f.toNatClampNeg = n at ef lf sb se hK
  have A1 : ∀ j, (60 : Int32) * a + b + nI j = nI (60 * s + i + j) := fun j => by rw [e1, eb, show (60 : Int32) = nI 60 from rfl, pk_mul, nI_add, nI_add]
  have A2 : ∀ j, (60 : Int32) * c + e + nI j = nI (60 * t + k + j) := fun j => by rw [e2, ee, show (60 : Int32) = nI 60 from rfl, pk_mul, nI_add, nI_add]
  have L2 : ∀ m j (σ2 : zS), j + m = n → zFr [] [] [37, 38] [39, 40] σ σ2 → gA σ2 37 0 = gA σ 37 0 → gA σ2 38 0 = gA σ 38 0 → (∀ x, x < n → gB σ2 40 0 x = p.2.2 (i + x)) → (∀ x, x < 60 → gB σ2 39 0 (60 * t + x) = if k ≤ x ∧ x < k + j then p.2.2 (i + (x - k)) else r.2.2 x) → (∀ u x, u ≠ t → x < 60 → gB σ2 39 0 (60 * u + x) = gB σ 39 0 (60 * u + x)) → AW 150 [some (zR 0 0), some (zI a), some (zI b), some (zI c), some (zI e), some (zI f), some (zI (nI j))] [] σ2 := by
    intro m
    induction m with
    | zero =>
      intro j σ2 hj hf h37 h38 h40 h39 ho
      obtain rfl : j = n := by omega
      refine sX6_paste_150 hA ?_
      rw [ef]
      refine zltN (by omega) (by omega) (fun z => absurd z (by omega)) (fun _ => ⟨_, rfl, hK σ2 (h.slot hf ⟨by rw [h37]; exact ht.1, by rw [h38]; exact ht.2.1, h39⟩ (fun u hu z => ⟨by rw [h37], by rw [h38], fun x hx => ho u x z hx⟩))⟩)
    | succ m ih =>
      intro j σ2 hj hf h37 h38 h40 h39 ho
      refine sX6_paste_150 hA ?_
      rw [ef]
      refine zltN (by omega) (by omega) (fun _ => ⟨zix j rfl (by omega), zix _ (A2 j) (by omega), ?_⟩) (fun z => absurd z (by omega))
      rw [zcl_n _ (A2 j), zcl_n j rfl, h40 j (by omega), c1, nI_add, ← ef]
      refine ih (j + 1) _ (by omega) (hf.uB 39 _) h37 h38 h40 (fun x hx => ?_) (fun u x hu hx => ?_)
      · show vp_updL (gB σ2 39 0) (60 * t + k + j) _ (60 * t + x) = _
        by_cases z : x = k + j
        · subst z
          rw [show 60 * t + (k + j) = 60 * t + k + j by omega, updL_s]
          refine Eq.trans ?_ (if_pos ⟨by omega, by omega⟩).symm
          rw [Nat.add_sub_cancel_left]
        · rw [updL_n (by omega), h39 x hx]
          by_cases z2 : k ≤ x ∧ x < k + j
          · rw [if_pos z2, if_pos (by omega)]
          · rw [if_neg z2, if_neg (by omega)]
      · show vp_updL (gB σ2 39 0) (60 * t + k + j) _ (60 * u + x) = _
        rw [updL_n (by omega)]; exact ho u x hu hx
  have L1 : ∀ m j (σ2 : zS), j + m = n → zFr [] [] [37, 38] [39, 40] σ σ2 → gA σ2 37 0 = gA σ 37 0 → gA σ2 38 0 = gA σ 38 0 → gB σ2 39 0 = gB σ 39 0 → (∀ x, x < j → gB σ2 40 0 x = p.2.2 (i + x)) → AW 113 [some (zR 0 0), some (zI a), some (zI b), some (zI c), some (zI e), some (zI f), some (zI (nI j))] [] σ2 := by
    intro m
    induction m with
    | zero =>
      intro j σ2 hj hf h37 h38 h39 h40
      obtain rfl : j = n := by omega
      refine sX6_paste_113 hA ?_
      rw [ef]
      refine zltN (by omega) (by omega) (fun z => absurd z (by omega)) (fun _ => ?_)
      rw [← ef]
      refine L2 j 0 σ2 (by omega) hf h37 h38 h40 (fun x hx => ?_) (fun u x hu hx => by rw [h39])
      rw [h39, if_neg (by omega)]
      exact ht.2.2 x hx
    | succ m ih =>
      intro j σ2 hj hf h37 h38 h39 h40
      refine sX6_paste_113 hA ?_
      rw [ef]
      refine zltN (by omega) (by omega) (fun _ => ⟨zix _ (A1 j) (by omega), zix j rfl (by omega), ?_⟩) (fun z => absurd z (by omega))
      rw [zcl_n _ (A1 j), zcl_n j rfl, h39, show 60 * s + i + j = 60 * s + (i + j) by omega, hs.2.2 (i + j) (by omega), c1, nI_add, ← ef]
      refine ih (j + 1) _ (by omega) (hf.uB 40 _) h37 h38 h39 (fun x hx => ?_)
      show vp_updL (gB σ2 40 0) j _ x = _
      by_cases z : x = j
      · subst z; rw [updL_s]
      · rw [updL_n z]; exact h40 x (by omega)
  exact L1 n 0 σ (by omega) zFr.refl rfl rfl rfl (fun x hx => absurd hx (Nat.not_lt_zero x))
end TOO
