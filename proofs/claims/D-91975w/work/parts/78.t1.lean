/-! ALL THAT STANDS between calls: the heath's row, the tape, how much is taped, the fault, images, slots (width, many, numbers) -/
abbrev oZ : Type := (Nat → Nat) × (Nat → Int32) × Nat × (Int32 × Int32) × (Nat → Option (Nat → Nat)) × (Nat → Option (Nat × Nat × (Nat → Int64)))
/-- a number cut to a width -/
def clipV (wd : Nat) (v : Int64) : Int64 := match wd with
  | 0 => v.toInt32.toInt8.toInt32.toInt64
  | 1 => v.toInt32.toInt16.toInt32.toInt64
  | 2 => v.toInt32.toInt64
  | _ => v
def slOk (q : Nat × Nat × (Nat → Int64)) : Prop := q.1 ≤ 3 ∧ q.2.1 ≤ 60 ∧ ∀ i, q.2.2 i = clipV q.1 (q.2.2 i)
def oOk (S : oZ) : Prop := obInv S.1 ∧ isByte S.2.1 ∧ S.2.2.1 ≤ 800 ∧ (∀ k v, S.2.2.2.2.1 k = some v → obInv v) ∧ ∀ s q, S.2.2.2.2.2 s = some q → slOk q
def mTp (T : Nat → Int32) (n : Nat) (σ : zS) : Prop := gI σ 0 5 0 = nI n ∧ ∀ j, j < 800 → gA σ 4 0 j = T j
def mFa (f : Int32 × Int32) (σ : zS) : Prop := gI σ 0 12 0 = f.1 ∧ gI σ 0 13 0 = f.2
def mIm1 (k : Nat) (σ : zS) : Option (Nat → Nat) → Prop
  | none => gA σ 3 0 k = 0
  | some v => ¬ gA σ 3 0 k = 0 ∧ ∀ i, i < 102 → gA σ 2 0 (102 * k + i) = nI (v i)
def mIm (im : Nat → Option (Nat → Nat)) (σ : zS) : Prop := ∀ k, k < 3 → mIm1 k σ (im k)
def mSl1 (s : Nat) (σ : zS) : Option (Nat × Nat × (Nat → Int64)) → Prop
  | none => gA σ 37 0 s = -1
  | some q => gA σ 37 0 s = nI q.2.1 ∧ gA σ 38 0 s = nI q.1 ∧ ∀ i, i < 60 → gB σ 39 0 (60 * s + i) = q.2.2 i
def mSl (sl : Nat → Option (Nat × Nat × (Nat → Int64))) (σ : zS) : Prop := ∀ s, s < 4 → mSl1 s σ (sl s)
def mZ (S : oZ) (σ : zS) : Prop := wM S.1 σ ∧ mTp S.2.1 S.2.2.1 σ ∧ mFa S.2.2.2.1 σ ∧ mIm S.2.2.2.2.1 σ ∧ mSl S.2.2.2.2.2 σ
theorem mTp.fr {T : Nat → Int32} {n : Nat} {I L A B : List Nat} {σ σ' : zS} (h : mTp T n σ) (hf : zFr I L A B σ σ') (i5 : 5 ∉ I := by decide) (a4 : 4 ∉ A := by decide) : mTp T n σ' := by
  unfold mTp; rw [hf.I 5 i5, hf.A 4 a4]; exact h
theorem mFa.fr {f : Int32 × Int32} {I L A B : List Nat} {σ σ' : zS} (h : mFa f σ) (hf : zFr I L A B σ σ') (i1 : 12 ∉ I := by decide) (i2 : 13 ∉ I := by decide) : mFa f σ' := by
  unfold mFa; rw [hf.I 12 i1, hf.I 13 i2]; exact h
theorem mIm.fr {im : Nat → Option (Nat → Nat)} {I L A B : List Nat} {σ σ' : zS} (h : mIm im σ) (hf : zFr I L A B σ σ') (a1 : 2 ∉ A := by decide) (a2 : 3 ∉ A := by decide) : mIm im σ' := by
  intro k hk
  have := h k hk
  unfold mIm1 at this ⊢
  rw [hf.A 2 a1, hf.A 3 a2]
  exact this
theorem mSl.fr {sl : Nat → Option (Nat × Nat × (Nat → Int64))} {I L A B : List Nat} {σ σ' : zS} (h : mSl sl σ) (hf : zFr I L A B σ σ') (a1 : 37 ∉ A := by decide) (a2 : 38 ∉ A := by decide) (b1 : 39 ∉ B := by decide) : mSl sl σ' := by
  intro s hs
  have := h s hs
  unfold mSl1 at this ⊢
  rw [hf.A 37 a1, hf.A 38 a2, hf.B 39 b1]
  exact this
theorem mZ.sc {S : oZ} {σ σ' : zS} (h : mZ S σ) (hf : mSc σ σ') : mZ S σ' := ⟨h.1.fr hf, h.2.1.fr hf, h.2.2.1.fr hf, h.2.2.2.1.fr hf, h.2.2.2.2.fr hf⟩
section TOO
variable {G : zG} {d : Nat} {S : oZ} {σ : zS}
def oEnd (S : oZ) (a : Int32) : Int32 × oZ := if 0 ≤ a.toInt ∧ a.toInt ≤ S.2.2.1 then (a, (S.1, S.2.1, a.toNatClampNeg, S.2.2.2)) else (-1, S)
theorem m_end {a : Int32} {K : Int32 → zS → Prop} (h : mZ S σ) (hS : oOk S) (hK : ∀ σ', mZ (oEnd S a).2 σ' → K (oEnd S a).1 σ') : zCallI zcl Zm G (d + 1) mX6_end [zR 0 0, zI a] σ K := by
  refine zmeth VX6_ok pX6_end rfl (by decide) (Nat.le_of_ble_eq_true rfl) (fun AW hA => ?_)
  have hn := hS.2.2.1
  refine sX6_end_0 hA (m_in ?_)
  rw [i64, i64, h.2.1.1, nI_toInt (by omega)]
  unfold oEnd at hK
  refine zbr (c := 0 ≤ a.toInt ∧ a.toInt ≤ S.2.2.1) (fun c => ⟨_, rfl, ?_⟩) (fun c => ⟨_, rfl, ?_⟩)
  · rw [if_neg c] at hK; exact hK σ h
  · rw [if_pos c] at hK
    have hf : zFr [5] [] [] [] σ (uI σ 0 5 0 a) := zFr.refl.uI 5 _
    exact hK _ ⟨h.1.fr hf, ⟨(okN' c).1, h.2.1.2⟩, h.2.2.1.fr hf, h.2.2.2.1.fr hf, h.2.2.2.2.fr hf⟩
def oFault (S : oZ) (a : Int32) : Int32 := if a = 0 then S.2.2.2.1.1 else if a = 1 then S.2.2.2.1.2 else -1
theorem m_fault {a : Int32} {K : Int32 → zS → Prop} (h : mZ S σ) (hK : ∀ σ', mZ S σ' → K (oFault S a) σ') : zCallI zcl Zm G d mX6_fault [zR 0 0, zI a] σ K := by
  refine zmeth VX6_ok pX6_fault rfl (by decide) (Nat.le_of_ble_eq_true rfl) (fun AW hA => ?_)
  have hK := hK σ h
  unfold oFault at hK
  refine sX6_fault_0 hA ⟨fun c => ⟨_, rfl, ?_⟩, fun c => ⟨fun c2 => ⟨_, rfl, ?_⟩, fun c2 => ⟨_, rfl, ?_⟩⟩⟩
  · rw [if_pos c] at hK; rw [h.2.2.1.1]; exact hK
  · rw [if_neg c, if_pos c2] at hK; rw [h.2.2.1.2]; exact hK
  · rw [if_neg c, if_neg c2] at hK; exact hK
/-- how many slots hold something -/
def slMany (S : oZ) : Nat → Nat
  | 0 => 0
  | s + 1 => slMany S s + (if S.2.2.2.2.2 s = none then 0 else 1)
theorem slMany_le (S : oZ) : ∀ s, slMany S s ≤ s := by
  intro s
  induction s with
  | zero => exact Nat.le_refl _
  | succ s ih => unfold slMany; split <;> omega
def oCount (S : oZ) (a : Int32) : Int32 := if 0 ≤ a.toInt ∧ a.toInt ≤ 9 then nI (S.1 a.toNatClampNeg) else if a = 10 then nI S.2.2.1 else if a = 11 then nI (slMany S 4) else -1
theorem m_count {a : Int32} {K : Int32 → zS → Prop} (h : mZ S σ) (hS : oOk S) (hK : ∀ σ', mZ S σ' → K (oCount S a) σ') : zCallI zcl Zm G (d + 1) mX6_count [zR 0 0, zI a] σ K := by
  refine zmeth VX6_ok pX6_count rfl (by decide) (Nat.le_of_ble_eq_true rfl) (fun AW hA => ?_)
  have hK := hK σ h
  unfold oCount at hK
  refine sX6_count_0 hA (m_in ?_)
  rw [i64]
  refine zbr (c := 0 ≤ a.toInt ∧ a.toInt ≤ 9) (fun c => ?_) (fun c => ?_)
  · rw [if_neg c] at hK
    refine ⟨fun c2 => ⟨_, rfl, ?_⟩, fun c2 => ⟨fun c3 => ?_, fun c3 => ⟨_, rfl, ?_⟩⟩⟩
    · rw [if_pos c2] at hK; rw [h.2.1.1]; exact hK
    · rw [if_neg c2, if_pos c3] at hK
      have loop : ∀ m i, i + m = 4 → AW 42 [some (zR 0 0), some (zI a), some (zI (nI (slMany S i))), some (zI (nI i))] [] σ := by
        intro m
        induction m with
        | zero =>
          intro i hi
          obtain rfl : i = 4 := by omega
          exact sX6_count_42 hA ⟨fun q => absurd q (by decide), fun _ => ⟨_, rfl, hK⟩⟩
        | succ m ih =>
          intro i hi
          have hb := slMany_le S i
          refine sX6_count_42 hA ⟨fun _ => ⟨zix i rfl (by omega), ?_⟩, fun q => absurd (nI_lt (a := i) (b := 4) (by omega) (by decide)) q⟩
          have := ih (i + 1) (by omega)
          unfold slMany at this
          have hs := h.2.2.2.2 i (by omega)
          rw [zcl_n i rfl, c1, nI_add]
          rcases e : S.2.2.2.2.2 i with _ | q
          · rw [e] at hs this
            refine ⟨fun _ => ?_, fun z => absurd hs z⟩
            rw [if_pos rfl] at this
            rw [Int32.add_zero]; exact this
          · rw [e] at hs this
            have hq := (hS.2.2.2.2 i q e).2.1
            refine ⟨fun z => absurd (hs.1.symm.trans z) (pI_ne (by omega)), fun _ => ?_⟩
            rw [if_neg (by intro z; cases z)] at this
            rw [nI_add]; exact this
      exact loop 4 0 rfl
    · rw [if_neg c2, if_neg c3] at hK; exact hK
  · rw [if_pos c] at hK
    obtain ⟨e, hl⟩ := okN' (a := a) (n := 9) c
    refine ⟨zix _ e (by omega), _, rfl, ?_⟩
    rw [h.1 _ (by omega)]
    exact hK
/-- five ints as bytes -/
def fiveB (a b c e f : Int32) (k : Nat) : Int32 := ((if k / 4 = 0 then a else if k / 4 = 1 then b else if k / 4 = 2 then c else if k / 4 = 3 then e else f) >>> (nI (24 - 8 * (k % 4)) &&& 31)).toInt8.toInt32
def feedT (T : Nat → Int32) (n : Nat) (a b c e f : Int32) : Nat → Int32 := fun j => if n ≤ j ∧ j < n + 20 then fiveB a b c e f (j - n) else T j
def oFeed (S : oZ) (a b c e f : Int32) : Int32 × oZ := if 800 < S.2.2.1 + 20 then (-1, S) else (nI (S.2.2.1 + 20), (S.1, feedT S.2.1 S.2.2.1 a b c e f, S.2.2.1 + 20, S.2.2.2))
theorem i8i8 (x : Int32) : x.toInt8.toInt32.toInt8.toInt32 = x.toInt8.toInt32 := by rw [Int8.toInt8_toInt32]
theorem div4 : ∀ k, k < 20 → nI k / (4 : Int32) = nI (k / 4) ∧ (24 : Int32) - ((8 : Int32) * (nI k - nI k / (4 : Int32) * (4 : Int32))) = nI (24 - 8 * (k % 4)) := by decide +kernel
theorem m_feed {a b c e f : Int32} {K : Int32 → zS → Prop} (h : mZ S σ) (hS : oOk S) (hK : ∀ σ', mZ (oFeed S a b c e f).2 σ' → K (oFeed S a b c e f).1 σ') : zCallI zcl Zm G d mX6_feed [zR 0 0, zI a, zI b, zI c, zI e, zI f] σ K := by
  refine zmeth VX6_ok pX6_feed rfl (by decide) (Nat.le_of_ble_eq_true rfl) (fun AW hA => ?_)
  have hn := hS.2.2.1
  unfold oFeed at hK
  refine sX6_feed_0 hA ?_
  rw [h.2.1.1, show (20 : Int32) = nI 20 from rfl, nI_add, show (800 : Int32) = nI 800 from rfl]
  refine zltN (by decide) (by omega) (fun q => ⟨_, rfl, ?_⟩) (fun q => ⟨zin_lit rfl, zin_lit rfl, zin_lit rfl, zin_lit rfl, zin_lit rfl, ?_⟩)
  · rw [if_pos q] at hK; exact hK σ h
  · rw [if_neg (by omega)] at hK
    have g5 : ∀ k, k < 5 → (upd (upd (upd (upd (upd (gA σ 6 0) 0 a) 1 b) 2 c) 3 e) 4 f) k = (if k = 0 then a else if k = 1 then b else if k = 2 then c else if k = 3 then e else f) := by
      intro k hk
      unfold upd
      rcases (show k = 0 ∨ k = 1 ∨ k = 2 ∨ k = 3 ∨ k = 4 by omega) with z | z | z | z | z <;> subst z <;> rfl
    have loop : ∀ m i (σ2 : zS), i + m = 20 → zFr [] [] [4, 6] [] σ σ2 → (∀ k, k < 5 → gA σ2 6 0 k = (if k = 0 then a else if k = 1 then b else if k = 2 then c else if k = 3 then e else f)) → (∀ j, j < 800 → gA σ2 4 0 j = if S.2.2.1 ≤ j ∧ j < S.2.2.1 + i then fiveB a b c e f (j - S.2.2.1) else S.2.1 j) → AW 55 [some (zR 0 0), some (zI a), some (zI b), some (zI c), some (zI e), some (zI f), some (zI (nI i))] [] σ2 := by
      intro m
      induction m with
      | zero =>
        intro i σ2 hi hf h6 h4
        obtain rfl : i = 20 := by omega
        have e5 : gI σ2 0 5 0 = nI S.2.2.1 := by rw [hf.I 5]; exact h.2.1.1
        refine sX6_feed_55 hA ⟨fun q => absurd q (by decide), fun _ => ⟨_, rfl, ?_⟩⟩
        rw [e5, show (20 : Int32) = nI 20 from rfl, nI_add]
        have f2 : zFr [5] [] [4, 6] [] σ (uI σ2 0 5 0 (nI (S.2.2.1 + 20))) := (zFr.wk hf).uI 5 _
        exact hK _ ⟨h.1.fr f2, ⟨rfl, h4⟩, h.2.2.1.fr f2, h.2.2.2.1.fr f2, h.2.2.2.2.fr f2⟩
      | succ m ih =>
        intro i σ2 hi hf h6 h4
        have e5 : gI σ2 0 5 0 = nI S.2.2.1 := by rw [hf.I 5]; exact h.2.1.1
        obtain ⟨d1, d2⟩ := div4 i (by omega)
        have e6 : gI σ2 0 5 0 + nI i = nI (S.2.2.1 + i) := by rw [e5, nI_add]
        refine sX6_feed_55 hA ⟨fun _ => ⟨by decide, zix _ d1 (by omega), by decide, zix _ e6 (by omega), ?_⟩, fun q => absurd (nI_lt (a := i) (b := 20) (by omega) (by decide)) q⟩
        rw [zcl_n _ e6, zcl_n _ d1, d2, i8i8, h6 _ (by omega), c1, nI_add]
        refine ih (i + 1) _ (by omega) (hf.uA 4 _) h6 (fun j hj => ?_)
        show upd (gA σ2 4 0) (S.2.2.1 + i) _ j = _
        by_cases z : j = S.2.2.1 + i
        · subst z
          rw [pk_us]
          refine Eq.trans ?_ (if_pos ⟨by omega, by omega⟩).symm
          rw [Nat.add_sub_cancel_left]
          rfl
        · rw [pk_un z, h4 j hj]
          by_cases z2 : S.2.2.1 ≤ j ∧ j < S.2.2.1 + i
          · rw [if_pos z2, if_pos (by omega)]
          · rw [if_neg z2, if_neg (by omega)]
    exact loop 20 0 _ rfl (((((zFr.refl.uA 6 _).uA 6 _).uA 6 _).uA 6 _).uA 6 _) g5 (fun j hj => by rw [if_neg (by omega)]; exact h.2.1.2 j hj)
def oImage (S : oZ) (a : Int32) : Int32 × oZ := if 0 ≤ a.toInt ∧ a.toInt ≤ 2 then (0, (S.1, S.2.1, S.2.2.1, S.2.2.2.1, fU S.2.2.2.2.1 a.toNatClampNeg (some S.1), S.2.2.2.2.2)) else (-2, S)
theorem nar1 : vp_nar .boolean (1 : Int32) = 1 := by decide
theorem m_image {a : Int32} {K : Int32 → zS → Prop} (h : mZ S σ) (hK : ∀ σ', mZ (oImage S a).2 σ' → K (oImage S a).1 σ') : zCallI zcl Zm G (d + 1) mX6_image [zR 0 0, zI a] σ K := by
  refine zmeth VX6_ok pX6_image rfl (by decide) (Nat.le_of_ble_eq_true rfl) (fun AW hA => ?_)
  unfold oImage at hK
  refine sX6_image_0 hA (m_in ?_)
  rw [i64]
  refine zbr (c := 0 ≤ a.toInt ∧ a.toInt ≤ 2) (fun c => ⟨_, rfl, ?_⟩) (fun c => ?_)
  · rw [if_neg c] at hK; exact hK σ h
  · rw [if_pos c] at hK
    obtain ⟨e, hl⟩ := okN' (a := a) (n := 2) c
    generalize a.toNatClampNeg = k at e hl hK
    have loop : ∀ m i (σ2 : zS), i + m = 102 → zFr [] [] [2] [] σ σ2 → (∀ j, j < i → gA σ2 2 0 (102 * k + j) = nI (S.1 j)) → (∀ k' j, k' < 3 → k' ≠ k → j < 102 → gA σ2 2 0 (102 * k' + j) = gA σ 2 0 (102 * k' + j)) → AW 17 [some (zR 0 0), some (zI a), some (zI (nI i))] [] σ2 := by
      intro m
      induction m with
      | zero =>
        intro i σ2 hi hf h1 h2
        obtain rfl : i = 102 := by omega
        refine sX6_image_17 hA ⟨fun q => absurd q (by decide), fun _ => ⟨zix _ e (by omega), _, rfl, ?_⟩⟩
        rw [zcl_n _ e, nar1]
        have f2 : zFr [] [] [2, 3] [] σ (uA σ2 3 0 (upd (gA σ2 3 0) k 1)) := (zFr.wk hf).uA 3 _
        refine hK _ ⟨h.1.fr f2, h.2.1.fr f2, h.2.2.1.fr f2, fun k' hk' => ?_, h.2.2.2.2.fr f2⟩
        by_cases z : k' = k
        · subst z
          show mIm1 k' _ (fU S.2.2.2.2.1 k' (some S.1) k')
          rw [fU_s]
          refine ⟨?_, h1⟩
          show ¬ upd (gA σ2 3 0) k' 1 k' = 0
          rw [pk_us]; decide
        · show mIm1 k' _ (fU S.2.2.2.2.1 k (some S.1) k')
          rw [fU_n z]
          have := h.2.2.2.1 k' hk'
          have e3 : gA (uA σ2 3 0 (upd (gA σ2 3 0) k 1)) 3 0 k' = gA σ 3 0 k' := by
            show upd (gA σ2 3 0) k 1 k' = _
            rw [pk_un z, hf.A 3]
          unfold mIm1 at this ⊢
          cases q : S.2.2.2.2.1 k' with
          | none => rw [q] at this; dsimp only at this ⊢; rw [e3]; exact this
          | some v =>
            rw [q] at this; dsimp only at this ⊢
            rw [e3]
            exact ⟨this.1, fun i hi => by show gA σ2 2 0 _ = _; rw [h2 k' i hk' z hi]; exact this.2 i hi⟩
      | succ m ih =>
        intro i σ2 hi hf h1 h2
        have e2 : (102 : Int32) * a + nI i = nI (102 * k + i) := by rw [e, show (102 : Int32) = nI 102 from rfl, pk_mul, nI_add]
        refine sX6_image_17 hA ⟨fun _ => ⟨zix i rfl (by omega), zix _ e2 (by omega), ?_⟩, fun q => absurd (nI_lt (a := i) (b := 102) (by omega) (by decide)) q⟩
        rw [zcl_n _ e2, zcl_n i rfl, (h.1.fr hf) i (by omega), c1, nI_add]
        refine ih (i + 1) _ (by omega) (hf.uA 2 _) (fun j hj => ?_) (fun k' j hk' hne hj => ?_)
        · show upd (gA σ2 2 0) (102 * k + i) (nI (S.1 i)) (102 * k + j) = _
          by_cases z : j = i
          · subst z; rw [pk_us]
          · rw [pk_un (by omega)]; exact h1 j (by omega)
        · show upd (gA σ2 2 0) (102 * k + i) (nI (S.1 i)) (102 * k' + j) = _
          rw [pk_un (by omega)]
          exact h2 k' j hk' hne hj
    exact loop 102 0 σ rfl zFr.refl (fun j hj => absurd hj (Nat.not_lt_zero j)) (fun _ _ _ _ _ => rfl)
def oBack (S : oZ) (a : Int32) : Int32 × oZ := if 0 ≤ a.toInt ∧ a.toInt ≤ 2 then (match S.2.2.2.2.1 a.toNatClampNeg with
  | none => (-6, S)
  | some v => (0, (v, S.2))) else (-2, S)
theorem m_back {a : Int32} {K : Int32 → zS → Prop} (h : mZ S σ) (hK : ∀ σ', mZ (oBack S a).2 σ' → K (oBack S a).1 σ') : zCallI zcl Zm G (d + 1) mX6_back [zR 0 0, zI a] σ K := by
  refine zmeth VX6_ok pX6_back rfl (by decide) (Nat.le_of_ble_eq_true rfl) (fun AW hA => ?_)
  unfold oBack at hK
  refine sX6_back_0 hA (m_in ?_)
  rw [i64]
  refine zbr (c := 0 ≤ a.toInt ∧ a.toInt ≤ 2) (fun c => ⟨_, rfl, ?_⟩) (fun c => ?_)
  · rw [if_neg c] at hK; exact hK σ h
  · rw [if_pos c] at hK
    obtain ⟨e, hl⟩ := okN' (a := a) (n := 2) c
    generalize a.toNatClampNeg = k at e hl hK
    have hI := h.2.2.2.1 k (by omega)
    refine ⟨zix _ e (by omega), ?_⟩
    rcases q : S.2.2.2.2.1 k with _ | v
    · rw [q] at hI hK
      exact ⟨fun _ => ⟨_, rfl, hK σ h⟩, fun z => absurd hI z⟩
    · rw [q] at hI hK
      refine ⟨fun z => absurd z hI.1, fun _ => ?_⟩
      have loop : ∀ m i (σ2 : zS), i + m = 102 → zFr [] [] [1] [] σ σ2 → agr i (gA σ2 1 0) v → AW 29 [some (zR 0 0), some (zI a), some (zI (nI i))] [] σ2 := by
        intro m
        induction m with
        | zero =>
          intro i σ2 hi hf h1
          obtain rfl : i = 102 := by omega
          refine sX6_back_29 hA ⟨fun q => absurd q (by decide), fun _ => ⟨_, rfl, ?_⟩⟩
          exact hK _ ⟨h1, h.2.1.fr hf, h.2.2.1.fr hf, h.2.2.2.1.fr hf, h.2.2.2.2.fr hf⟩
        | succ m ih =>
          intro i σ2 hi hf h1
          have e2 : (102 : Int32) * a + nI i = nI (102 * k + i) := by rw [e, show (102 : Int32) = nI 102 from rfl, pk_mul, nI_add]
          refine sX6_back_29 hA ⟨fun _ => ⟨zix _ e2 (by omega), zix i rfl (by omega), ?_⟩, fun q => absurd (nI_lt (a := i) (b := 102) (by omega) (by decide)) q⟩
          rw [zcl_n _ e2, zcl_n i rfl, hf.A 2, hI.2 i (by omega), c1, nI_add]
          exact ih (i + 1) _ (by omega) (hf.uA 1 _) (agr_s h1 rfl)
      exact loop 102 0 σ rfl zFr.refl (fun j hj => absurd hj (Nat.not_lt_zero j))
end TOO
