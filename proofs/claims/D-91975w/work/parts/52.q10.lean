/-! QUESTIONS: crowds, point -/
theorem xorN (a b : Nat) : nI a ^^^ nI b = nI (a ^^^ b) := by
  apply Int32.toBitVec_inj.mp
  rw [Int32.toBitVec_xor]
  show BitVec.ofNat 32 a ^^^ BitVec.ofNat 32 b = BitVec.ofNat 32 (a ^^^ b)
  exact (BitVec.ofNat_xor ..).symm
theorem andN (a b : Nat) : nI a &&& nI b = nI (a &&& b) := by
  apply Int32.toBitVec_inj.mp
  rw [Int32.toBitVec_and]
  show BitVec.ofNat 32 a &&& BitVec.ofNat 32 b = BitVec.ofNat 32 (a &&& b)
  exact (BitVec.ofNat_and ..).symm
theorem m1N : (-1 : Int32) = nI (2 ^ 32 - 1) := by decide +kernel
/-- as it is, but one walker never comes -/
def obWo (w : Nat → Nat) (i : Nat) : obP := (w 1, 0, 127, obArm w, fU (obWh w) i 1000000000)
theorem obWo_ok {w : Nat → Nat} (hI : obInv w) (i : Nat) : obPok w (obWo w i) := by
  have := obAs_ok hI
  refine ⟨this.1, this.2.1, this.2.2.1, this.2.2.2.1, fun q hq => ?_⟩
  show fU (obWh w) i 1000000000 q < _
  by_cases c : q = i
  · rw [c, fU_s]; decide
  · rw [fU_n c]; exact this.2.2.2.2 q hq
def obOthers (w : Nat → Nat) (i : Nat) : Nat := obIns w (obAs w) (w 0) &&& (2 ^ i ^^^ (2 ^ 32 - 1))
theorem obOthers_lt {w : Nat → Nat} (hI : obInv w) (i : Nat) : obOthers w i < 256 := Nat.lt_of_le_of_lt Nat.and_le_left (obIns_lt hI)
theorem obOthers_e {w : Nat → Nat} {i : Nat} (hi : i < 31) : nI (obIns w (obAs w) (w 0)) &&& (((1 : Int32) <<< (nI i &&& 31)) ^^^ (-1)) = nI (obOthers w i) := by
  rw [bit1 hi, m1N, xorN, andN]; rfl
def obCr (w : Nat → Nat) : Nat → Option Nat × Option Nat
  | 0 => (none, none)
  | n + 1 => if obCnt (obOthers w n) 16 < obLast w (obWo w n) then (if pI (obCr w n).1 < nI (obLast w (obWo w n)) then (some (obLast w (obWo w n)), some n) else obCr w n) else obCr w n
theorem obCr_t {w : Nat → Nat} {n : Nat} (h : obCnt (obOthers w n) 16 < obLast w (obWo w n)) (h2 : pI (obCr w n).1 < nI (obLast w (obWo w n))) : obCr w (n + 1) = (some (obLast w (obWo w n)), some n) := (if_pos h).trans (if_pos h2)
theorem obCr_f {w : Nat → Nat} {n : Nat} (h : obCnt (obOthers w n) 16 < obLast w (obWo w n)) (h2 : ¬ pI (obCr w n).1 < nI (obLast w (obWo w n))) : obCr w (n + 1) = obCr w n := (if_pos h).trans (if_neg h2)
theorem obCr_n {w : Nat → Nat} {n : Nat} (h : ¬ obCnt (obOthers w n) 16 < obLast w (obWo w n)) : obCr w (n + 1) = obCr w n := if_neg h
def oCrowds (w : Nat → Nat) : Int32 := if 0 < w 9 then pI (obCr w (w 7)).2 else -2
theorem m_crowds {G : zG} {d : Nat} {w : Nat → Nat} {σ : zS} {K : Int32 → zS → Prop} (hw : wM w σ) (hI : obInv w) (h : ∀ σ', mSc σ σ' → K (oCrowds w) σ') : zCallI zcl Zm G (d + 8) mX6_crowds [zR 0 0] σ K := by
  refine zmeth VX6_ok pX6_crowds rfl (by decide) (Nat.le_of_ble_eq_true rfl) (fun AW ha => ?_)
  have hb := hI.b
  unfold oCrowds at h
  refine sX6_crowds_0 ha (m_asksHeath hw hI (fun σ1 r1 p1 f1 => zbr (fun c => ⟨_, rfl, by have h := h σ1 f1.wk; rw [if_neg c] at h; exact h⟩) (fun c => ?_)))
  rw [if_pos c] at h
  have hw1 : wM w σ1 := hw.fr f1
  refine m_insideLast hw1 hI (obAs_ok hI) r1 ?_
  have hm : mSc σ σ1 := f1.wk
  refine loopN (N := w 7) (I := fun i => ∀ o σ2, agr 7 (gA σ2 15 0) (obArm w) → agr 8 (gA σ2 16 0) (obWh w) → zFr [] [] mAsk [] σ1 σ2 → AW 22 [some (zR 0 0), some (zI (nI (obIns w (obAs w) (w 0)))), some (zI (pI (obCr w i).1)), some (zI (pI (obCr w i).2)), some (zI (nI i)), o] [] σ2) (fun o σ2 h15 h16 f2 => ?_) (fun i hi ih o σ2 h15 h16 f2 => ?_) 0 (Nat.zero_le _) none σ1 p1.2.2.2.1 p1.2.2.2.2 zFr.refl
  · exact sX6_crowds_22 ha (m_walkers (hw1.fr f2) (zltN (by omega) (by omega) (fun c => absurd c (by omega)) (fun _ => ⟨_, rfl, h σ2 (zFr.trans hm f2.wk)⟩)))
  · have hPo := obWo_ok hI i
    have hil := Nat.lt_trans (obIns_lt (P := obWo w i) (t := w 0) hI) (show 256 < 2 ^ 31 by decide)
    have hol := obOthers_lt hI i
    have hll : obLast w (obWo w i) ≤ 16 := obCnt_le _ _
    have hoc : obCnt (obOthers w i) 16 ≤ 16 := obCnt_le _ _
    refine sX6_crowds_22 ha (m_walkers (hw1.fr f2) (zltN (by omega) (by omega) (fun _ => ⟨zix i rfl (by omega), ?_⟩) (fun c => absurd hi (Nat.not_lt.mpr c))))
    rw [zcl_n i rfl]
    have f3 : zFr [] [] mAsk [] σ1 (uA σ2 16 0 (upd (gA σ2 16 0) i 1000000000)) := zFr.uA f2 16 _
    have p3 : mPar (obWo w i) (uA σ2 16 0 (upd (gA σ2 16 0) i 1000000000)) := ⟨(f2.I 17).trans p1.1, (f2.I 18).trans p1.2.1, (f2.I 19).trans p1.2.2.1, h15, agr.upd h16 rfl⟩
    refine m_goAll (hw1.fr f3) hI p3 hPo (fun σ4 r4 f4 => ?_)
    have f5 : zFr [] [] mAsk [] σ1 σ4 := zFr.trans f3 f4.wk
    have hw4 := hw1.fr f5
    have p4 := p3.fr f4
    have e : (56 : Int32) + (2 : Int32) * nI i + (1 : Int32) = nI (56 + 2 * i + 1) := by rw [c56, c2, c1, pk_mul, nI_add, nI_add]
    refine ⟨zix _ e (by omega), zix i rfl (by omega), ?_⟩
    rw [zcl_n _ e, hw4 _ (by omega)]
    have f6 : zFr [] [] mAsk [] σ1 (uA σ4 16 0 (upd (gA σ4 16 0) i (nI (w (56 + 2 * i + 1))))) := zFr.uA f5 16 _
    have f46 : zFr [] [] [16] [] σ4 (uA σ4 16 0 (upd (gA σ4 16 0) i (nI (w (56 + 2 * i + 1))))) := zFr.uA zFr.refl 16 _
    have r6 := r4.fr f46
    have h16' : agr 8 (upd (gA σ4 16 0) i (nI (w (56 + 2 * i + 1)))) (obWh w) := by
      have h8 := agr.upd (k := i) p4.2.2.2.2 (x := nI (w (56 + 2 * i + 1))) rfl
      intro j hj
      rw [h8 j hj]
      by_cases cj : j = i
      · rw [cj, fU_s]; show nI (w (56 + 2 * i + 1)) = nI (w (57 + 2 * i)); rw [show 56 + 2 * i + 1 = 57 + 2 * i by omega]
      · rw [fU_n cj]; show nI (fU (obWh w) i 1000000000 j) = _; rw [fU_n cj]
    refine m_insideLast (hw1.fr f6) hI hPo r6 (m_bits rfl hil ?_)
    rw [obOthers_e (by omega)]
    refine m_bits rfl (by omega) (zltN (by omega) (Nat.lt_of_le_of_lt hll (by decide)) (fun c2 => ⟨fun c3 => ?_, fun c3 => ?_⟩) (fun c2 => ?_))
    · have := ih (some (zI (nI (obLast w (obWo w i))))) (uA σ4 16 0 (upd (gA σ4 16 0) i (nI (w (56 + 2 * i + 1))))) p4.2.2.2.1 h16' f6
      rw [obCr_t c2 c3] at this
      rw [c1, nI_add]; exact this
    · have := ih (some (zI (nI (obLast w (obWo w i))))) (uA σ4 16 0 (upd (gA σ4 16 0) i (nI (w (56 + 2 * i + 1))))) p4.2.2.2.1 h16' f6
      rw [obCr_f c2 c3] at this
      rw [c1, nI_add]; exact this
    · have := ih (some (zI (nI (obLast w (obWo w i))))) (uA σ4 16 0 (upd (gA σ4 16 0) i (nI (w (56 + 2 * i + 1))))) p4.2.2.2.1 h16' f6
      rw [obCr_n (Nat.not_lt.mpr c2)] at this
      rw [c1, nI_add]; exact this
theorem x_crowds {G : zG} {d : Nat} {w : Nat → Nat} {σ : zS} {K : Int32 → zS → Prop} (hw : wX w σ) (hI : obInv w) (h : ∀ σ', xSc σ σ' → K (oCrowds w) σ') : zCallI zcl Zx G (d + 9) mX0_crowds [zR 0 0] σ K := by
  refine zmeth VX0_ok pX0_crowds rfl (by decide) (Nat.le_of_ble_eq_true rfl) (fun AW ha => ?_)
  have hb := hI.b
  unfold oCrowds at h
  refine sX0_crowds_0 ha (x_isHeath hw hI (zbr (fun c => ⟨_, rfl, by have h := h σ xSc.refl; rw [if_neg c] at h; exact h⟩) (fun c => x_is hw hI (fun σ1 r1 p1 f1 => ?_))))
  rw [if_pos c] at h
  have hw1 := hw.sc f1
  refine x_last hw1 hI (obAs_ok hI) r1 ?_
  refine loopN (N := w 7) (I := fun i => ∀ o σ2, xSc σ1 σ2 → AW 28 [some (zR 0 0), some (zI (nI (obIns w (obAs w) (w 0)))), some (zI (pI (obCr w i).2)), some (zI (pI (obCr w i).1)), some (zI (nI i)), o] [] σ2) (fun o σ2 f2 => ?_) (fun i hi ih o σ2 f2 => ?_) 0 (Nat.zero_le _) none σ1 xSc.refl
  · exact sX0_crowds_28 ha (x_many (hw1.sc f2) (zltN (by omega) (by omega) (fun c => absurd c (by omega)) (fun _ => ⟨_, rfl, h σ2 (xFr.trans f1 f2)⟩)))
  · have hPo := obWo_ok hI i
    have hil := obIns_lt (P := obWo w i) (t := w 0) hI
    have hol := obOthers_lt hI i
    have hll : obLast w (obWo w i) ≤ 16 := obCnt_le _ _
    have hoc : obCnt (obOthers w i) 16 ≤ 16 := obCnt_le _ _
    refine sX0_crowds_28 ha (x_many (hw1.sc f2) (zltN (by omega) (by omega) (fun _ => x_hoursIs (hw1.sc f2) hI (fun σ3 p3 a3 q3 f3 => ?_)) (fun c => absurd hi (Nat.not_lt.mpr c))))
    have f4 : xSc σ1 (uI σ3 2 12 0 (nI i)) := xFr.uI (xFr.trans f2 f3.wk) 2 12 _
    have p4 : xPar w (obWo w i) (uI σ3 2 12 0 (nI i)) := by
      refine ⟨p3.1, p3.2.1, p3.2.2.1, fun j hj t ht => ?_⟩
      show (gA σ3 30 0 j = nI t ∧ ¬ nI j = nI i) ↔ fU (obWh w) i 1000000000 j = t
      by_cases cj : j = i
      · rw [cj, fU_s]
        exact ⟨fun q => absurd rfl q.2, fun q => absurd q (by omega)⟩
      · rw [fU_n cj, q3.2.2 j hj, nI_eq (by have := hI.wh (i := j) (by omega); omega) (by omega), nI_eq (by omega) (by omega)]
        exact ⟨fun q => q.1, fun q => ⟨q, cj⟩⟩
    refine x_goes (hw1.sc f4) hI p4 hPo a3 (fun σ5 r5 f5 => ?_)
    have f6 : xSc σ1 σ5 := xFr.trans f4 f5.wk
    refine x_last (hw1.sc f6) hI hPo r5 (x_size rfl hil ?_)
    rw [obOthers_e (by omega)]
    refine x_size rfl hol (zltN (by omega) (Nat.lt_of_le_of_lt hll (by decide)) (fun c2 => ⟨fun c3 => ?_, fun c3 => ?_⟩) (fun c2 => ?_))
    · have := ih (some (zI (nI (obLast w (obWo w i))))) _ f6
      rw [obCr_t c2 c3] at this
      rw [c1, nI_add]; exact this
    · have := ih (some (zI (nI (obLast w (obWo w i))))) _ f6
      rw [obCr_f c2 c3] at this
      rw [c1, nI_add]; exact this
    · have := ih (some (zI (nI (obLast w (obWo w i))))) _ f6
      rw [obCr_n (Nat.not_lt.mpr c2)] at this
      rw [c1, nI_add]; exact this
