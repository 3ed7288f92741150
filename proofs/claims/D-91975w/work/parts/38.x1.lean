def bcE (a0 : Int32) : Int32 := ((((((((a0 - ((a0.toUInt32 >>> ((1 : Int32).toUInt32 &&& Int32.toUInt32 31)).toInt32 &&& (1431655765 : Int32))) &&& (858993459 : Int32)) + (((a0 - ((a0.toUInt32 >>> ((1 : Int32).toUInt32 &&& Int32.toUInt32 31)).toInt32 &&& (1431655765 : Int32))).toUInt32 >>> ((2 : Int32).toUInt32 &&& Int32.toUInt32 31)).toInt32 &&& (858993459 : Int32))) + ((((a0 - ((a0.toUInt32 >>> ((1 : Int32).toUInt32 &&& Int32.toUInt32 31)).toInt32 &&& (1431655765 : Int32))) &&& (858993459 : Int32)) + (((a0 - ((a0.toUInt32 >>> ((1 : Int32).toUInt32 &&& Int32.toUInt32 31)).toInt32 &&& (1431655765 : Int32))).toUInt32 >>> ((2 : Int32).toUInt32 &&& Int32.toUInt32 31)).toInt32 &&& (858993459 : Int32))).toUInt32 >>> ((4 : Int32).toUInt32 &&& Int32.toUInt32 31)).toInt32) &&& (252645135 : Int32)) + ((((((a0 - ((a0.toUInt32 >>> ((1 : Int32).toUInt32 &&& Int32.toUInt32 31)).toInt32 &&& (1431655765 : Int32))) &&& (858993459 : Int32)) + (((a0 - ((a0.toUInt32 >>> ((1 : Int32).toUInt32 &&& Int32.toUInt32 31)).toInt32 &&& (1431655765 : Int32))).toUInt32 >>> ((2 : Int32).toUInt32 &&& Int32.toUInt32 31)).toInt32 &&& (858993459 : Int32))) + ((((a0 - ((a0.toUInt32 >>> ((1 : Int32).toUInt32 &&& Int32.toUInt32 31)).toInt32 &&& (1431655765 : Int32))) &&& (858993459 : Int32)) + (((a0 - ((a0.toUInt32 >>> ((1 : Int32).toUInt32 &&& Int32.toUInt32 31)).toInt32 &&& (1431655765 : Int32))).toUInt32 >>> ((2 : Int32).toUInt32 &&& Int32.toUInt32 31)).toInt32 &&& (858993459 : Int32))).toUInt32 >>> ((4 : Int32).toUInt32 &&& Int32.toUInt32 31)).toInt32) &&& (252645135 : Int32)).toUInt32 >>> ((8 : Int32).toUInt32 &&& Int32.toUInt32 31)).toInt32) + (((((((a0 - ((a0.toUInt32 >>> ((1 : Int32).toUInt32 &&& Int32.toUInt32 31)).toInt32 &&& (1431655765 : Int32))) &&& (858993459 : Int32)) + (((a0 - ((a0.toUInt32 >>> ((1 : Int32).toUInt32 &&& Int32.toUInt32 31)).toInt32 &&& (1431655765 : Int32))).toUInt32 >>> ((2 : Int32).toUInt32 &&& Int32.toUInt32 31)).toInt32 &&& (858993459 : Int32))) + ((((a0 - ((a0.toUInt32 >>> ((1 : Int32).toUInt32 &&& Int32.toUInt32 31)).toInt32 &&& (1431655765 : Int32))) &&& (858993459 : Int32)) + (((a0 - ((a0.toUInt32 >>> ((1 : Int32).toUInt32 &&& Int32.toUInt32 31)).toInt32 &&& (1431655765 : Int32))).toUInt32 >>> ((2 : Int32).toUInt32 &&& Int32.toUInt32 31)).toInt32 &&& (858993459 : Int32))).toUInt32 >>> ((4 : Int32).toUInt32 &&& Int32.toUInt32 31)).toInt32) &&& (252645135 : Int32)) + ((((((a0 - ((a0.toUInt32 >>> ((1 : Int32).toUInt32 &&& Int32.toUInt32 31)).toInt32 &&& (1431655765 : Int32))) &&& (858993459 : Int32)) + (((a0 - ((a0.toUInt32 >>> ((1 : Int32).toUInt32 &&& Int32.toUInt32 31)).toInt32 &&& (1431655765 : Int32))).toUInt32 >>> ((2 : Int32).toUInt32 &&& Int32.toUInt32 31)).toInt32 &&& (858993459 : Int32))) + ((((a0 - ((a0.toUInt32 >>> ((1 : Int32).toUInt32 &&& Int32.toUInt32 31)).toInt32 &&& (1431655765 : Int32))) &&& (858993459 : Int32)) + (((a0 - ((a0.toUInt32 >>> ((1 : Int32).toUInt32 &&& Int32.toUInt32 31)).toInt32 &&& (1431655765 : Int32))).toUInt32 >>> ((2 : Int32).toUInt32 &&& Int32.toUInt32 31)).toInt32 &&& (858993459 : Int32))).toUInt32 >>> ((4 : Int32).toUInt32 &&& Int32.toUInt32 31)).toInt32) &&& (252645135 : Int32)).toUInt32 >>> ((8 : Int32).toUInt32 &&& Int32.toUInt32 31)).toInt32).toUInt32 >>> ((16 : Int32).toUInt32 &&& Int32.toUInt32 31)).toInt32) &&& (63 : Int32))
set_option maxRecDepth 100000 in
theorem bc_all : ∀ n, n < 256 → bcE (nI n) = nI (obCnt n 16) := by decide +kernel
/-! THE COMPONENT: its world shows the heath w; small questions -/
/-- a frame: which scalars (kind, field), which arrays (kinds) may change -/
def xFr (I : List (Nat × Nat)) (A : List Nat) (σ σ' : zS) : Prop := (∀ k f i, (k, f) ∉ I → σ'.1 k f i = σ.1 k f i) ∧ σ'.2.1 = σ.2.1 ∧ (∀ k i, k ∉ A → σ'.2.2.1 k i = σ.2.2.1 k i) ∧ σ'.2.2.2.1 = σ.2.2.2.1 ∧ σ'.2.2.2.2 = σ.2.2.2.2
theorem xFr.refl {I : List (Nat × Nat)} {A : List Nat} {σ : zS} : xFr I A σ σ := ⟨fun _ _ _ _ => rfl, rfl, fun _ _ _ => rfl, rfl, rfl⟩
theorem xFr.trans {I : List (Nat × Nat)} {A : List Nat} {σ σ1 σ2 : zS} (h : xFr I A σ σ1) (h2 : xFr I A σ1 σ2) : xFr I A σ σ2 := ⟨fun k f i q => (h2.1 k f i q).trans (h.1 k f i q), h2.2.1.trans h.2.1, fun k i q => (h2.2.2.1 k i q).trans (h.2.2.1 k i q), h2.2.2.2.1.trans h.2.2.2.1, h2.2.2.2.2.trans h.2.2.2.2⟩
theorem xFr.wk {I I' : List (Nat × Nat)} {A A' : List Nat} {σ σ1 : zS} (h : xFr I A σ σ1) (hI : I.all (fun x => I'.contains x) = true := by decide) (hA : A.all (fun x => A'.contains x) = true := by decide) : xFr I' A' σ σ1 := by
  refine ⟨fun k f i q => h.1 k f i (fun r => q ?_), h.2.1, fun k i q => h.2.2.1 k i (fun r => q ?_), h.2.2.2⟩
  · have := List.all_eq_true.mp hI _ r; simpa using this
  · have := List.all_eq_true.mp hA _ r; simpa using this
theorem xFr.I {I : List (Nat × Nat)} {A : List Nat} {σ σ1 : zS} (h : xFr I A σ σ1) (k f i : Nat) (hf : (k, f) ∉ I := by decide) : gI σ1 k f i = gI σ k f i := h.1 k f i hf
theorem xFr.A {I : List (Nat × Nat)} {A : List Nat} {σ σ1 : zS} (h : xFr I A σ σ1) (k i : Nat) (hk : k ∉ A := by decide) : gA σ1 k i = gA σ k i := h.2.2.1 k i hk
theorem xFr.C {I : List (Nat × Nat)} {A : List Nat} {σ σ1 : zS} (h : xFr I A σ σ1) (k : Nat) : gC σ1 k = gC σ k := by show σ1.2.2.2.2 k = _; rw [h.2.2.2.2]
theorem xFr.uA {I : List (Nat × Nat)} {A : List Nat} {σ σ1 : zS} (h : xFr I A σ σ1) (k : Nat) (f : Nat → Int32) (hk : k ∈ A := by decide) : xFr I A σ (uA σ1 k 0 f) := by
  refine ⟨h.1, h.2.1, fun j i q => ?_, h.2.2.2⟩
  show (bif Nat.beq j k && Nat.beq i 0 then f else σ1.2.2.1 j i) = _
  rw [zne2 (fun e => q (by rw [e.1]; exact hk))]
  exact h.2.2.1 j i q
theorem xFr.uI {I : List (Nat × Nat)} {A : List Nat} {σ σ1 : zS} (h : xFr I A σ σ1) (k f : Nat) (x : Int32) (hk : (k, f) ∈ I := by decide) : xFr I A σ (uI σ1 k f 0 x) := by
  refine ⟨fun j g i q => ?_, h.2.1, h.2.2.1, h.2.2.2⟩
  show (bif Nat.beq j k && (Nat.beq g f && Nat.beq i 0) then x else σ1.1 j g i) = _
  have : (Nat.beq j k && (Nat.beq g f && Nat.beq i 0)) = false := by
    cases hb : (Nat.beq j k && (Nat.beq g f && Nat.beq i 0)) with
    | true =>
      simp only [Bool.and_eq_true] at hb
      exact absurd hk (by rw [← Nat.eq_of_beq_eq_true hb.1, ← Nat.eq_of_beq_eq_true hb.2.1]; exact q)
    | false => rfl
  rw [this]
  exact h.1 j g i q
/-- the component's heath is w -/
def wX (w : Nat → Nat) (σ : zS) : Prop :=
  (gC σ 0 = w 4 ∧ gC σ 1 = w 7 ∧ gC σ 2 = w 8 ∧ gC σ 3 = 4 ∧ w 4 ≤ gC σ 10 ∧ w 7 ≤ gC σ 11 ∧ w 8 ≤ gC σ 12 ∧ gC σ 10 < 2 ^ 31 ∧ gC σ 11 < 2 ^ 31 ∧ gC σ 12 < 2 ^ 31) ∧
  (gI σ 1 4 0 = nI (w 0) ∧ gI σ 1 5 0 = nI (w 1) ∧ gI σ 1 6 0 = nI (w 2) ∧ gI σ 1 7 0 = nI (w 3) ∧ gI σ 1 8 0 = nI (w 5) ∧ gI σ 1 9 0 = nI (w 6) ∧ gI σ 1 10 0 = nI (w 9)) ∧
  (gI σ 10 2 0 = nI (w 4) ∧ gI σ 14 2 0 = nI (w 7) ∧ gI σ 17 2 0 = nI (w 8)) ∧
  agr 4 (gA σ 22 0) (obRoom w) ∧
  (∀ p, p < w 4 → gI σ 12 1 p = nI (obMany w p) ∧ gI σ 12 2 p = nI (obArm w p) ∧ agr 4 (gA σ 13 p) (obTo w p)) ∧
  (∀ i, i < w 7 → gI σ 16 0 i = nI (obWp w i) ∧ gI σ 16 1 i = nI (obWh w i)) ∧
  ∀ k, k < w 8 → gI σ 19 0 k = bI (obAct w k < 10000) ∧ gI σ 19 1 k = nI (obAct w k % 10000 / 100) ∧ gI σ 19 2 k = nI (obAct w k % 100)
abbrev xScr : List (Nat × Nat) := [(2, 9), (2, 10), (2, 11), (2, 12), (3, 0), (3, 1), (4, 1), (4, 2), (4, 3)]
abbrev xArr : List Nat := [24, 25, 26, 27, 28, 29, 30, 31, 32, 33]
theorem wX.fr {w : Nat → Nat} {I : List (Nat × Nat)} {A : List Nat} {σ σ' : zS} (h : wX w σ) (hf : xFr I A σ σ') (hI : I.all (fun q => decide (2 ≤ q.1 ∧ q.1 ≤ 4)) = true := by decide) (hA : A.all (fun q => decide (24 ≤ q)) = true := by decide) : wX w σ' := by
  have gi : ∀ k f i, ¬ (2 ≤ k ∧ k ≤ 4) → σ'.1 k f i = σ.1 k f i := fun k f i hk => hf.1 k f i (fun r => hk (by have := List.all_eq_true.mp hI _ r; simpa using this))
  have ga : ∀ k i, k < 24 → σ'.2.2.1 k i = σ.2.2.1 k i := fun k i hk => hf.2.2.1 k i (fun r => by have := List.all_eq_true.mp hA _ r; simp at this; omega)
  unfold wX gI gA gC at *
  rw [hf.2.2.2.2, gi 1 4 0 (by decide), gi 1 5 0 (by decide), gi 1 6 0 (by decide), gi 1 7 0 (by decide), gi 1 8 0 (by decide), gi 1 9 0 (by decide), gi 1 10 0 (by decide), gi 10 2 0 (by decide), gi 14 2 0 (by decide), gi 17 2 0 (by decide), ga 22 0 (by decide)]
  refine ⟨h.1, h.2.1, h.2.2.1, h.2.2.2.1, fun p hp => ?_, fun i hi => ?_, fun k hk => ?_⟩
  · rw [gi 12 1 p (by decide), gi 12 2 p (by decide), ga 13 p (by decide)]; exact h.2.2.2.2.1 p hp
  · rw [gi 16 0 i (by decide), gi 16 1 i (by decide)]; exact h.2.2.2.2.2.1 i hi
  · rw [gi 19 0 k (by decide), gi 19 1 k (by decide), gi 19 2 k (by decide)]; exact h.2.2.2.2.2.2 k hk
theorem x_in {G : zG} {d : Nat} {v lo hi : Int64} {σ : zS} {K : Int32 → zS → Prop} (h : K (bI (lo.toInt ≤ v.toInt ∧ v.toInt ≤ hi.toInt)) σ) : zCallI zcl Zx G d mX0_in [zL v, zL lo, zL hi] σ K := by
  refine zmeth VX0_ok pX0_in rfl (by decide) (Nat.le_of_ble_eq_true rfl) (fun AW ha => ?_)
  refine sX0_in_0 ha ?_
  rw [lc_lt, lc_gt]
  refine ⟨fun c => ⟨Or.inl rfl, _, rfl, ?_⟩, fun c => ⟨fun c2 => ⟨Or.inl rfl, _, rfl, ?_⟩, fun c2 => ⟨Or.inr rfl, _, rfl, ?_⟩⟩⟩
  · rw [bI_f (by omega)] at h; exact h
  · rw [bI_f (by omega)] at h; exact h
  · rw [bI_t (by omega)] at h; exact h
theorem x_isOn {G : zG} {d : Nat} {σ : zS} {s k : Nat} {x y : Int32} {K : Int32 → zS → Prop} (hx : x = nI s) (hy : y = nI k) (hs : s < 2 ^ 31) (hk : k < 31) (h : K (bI (s / 2 ^ k % 2 = 1)) σ) : zCallI zcl Zx G d mX0_isOn [zI x, zI y] σ K := by
  refine zmeth VX0_ok pX0_isOn rfl (by decide) (Nat.le_of_ble_eq_true rfl) (fun AW ha => ?_)
  refine sX0_isOn_0 ha ?_
  rw [hx, hy, bitN hs hk, c1]
  refine zeqN (Nat.lt_of_lt_of_le (Nat.mod_lt _ (by decide)) (by decide)) (by decide) (fun c => ⟨Or.inr rfl, _, rfl, ?_⟩) (fun c => ⟨Or.inl rfl, _, rfl, ?_⟩)
  · rw [bI_t c] at h; exact h
  · rw [bI_f c] at h; exact h
theorem x_size {G : zG} {d : Nat} {σ : zS} {s : Nat} {x : Int32} {K : Int32 → zS → Prop} (hx : x = nI s) (hs : s < 256) (h : K (nI (obCnt s 16)) σ) : zCallI zcl Zx G (d + 1) mX0_size [zI x] σ K := by
  refine zmeth VX0_ok pX0_size rfl (by decide) (Nat.le_of_ble_eq_true rfl) (fun AW ha => ?_)
  refine sX0_size_0 ha ?_
  refine zmeth VJ14_ok pJ14_bitCount rfl (by decide) (Nat.le_of_ble_eq_true rfl) (fun AW2 ha2 => ?_)
  refine sJ14_bitCount_0 ha2 ⟨_, rfl, _, rfl, ?_⟩
  have e : bcE x = nI (obCnt s 16) := by rw [hx]; exact bc_all s hs
  unfold bcE at e
  rw [e]
  exact h
theorem x_checkIndex {G : zG} {d : Nat} {σ : zS} {i n : Nat} {x y : Int32} {K : Int32 → zS → Prop} (hx : x = nI i) (hy : y = nI n) (hi : i < n) (hn : n < 2 ^ 31) (h : K x σ) : zCallI zcl Zx G (d + 1) mJ13_checkIndex [zI x, zI y] σ K := by
  refine zmeth VJ13_ok pJ13_checkIndex rfl (by decide) (Nat.le_of_ble_eq_true rfl) (fun AW ha => ?_)
  refine sJ13_checkIndex_0 ha ?_
  refine zmeth VJ6_ok pJ6_checkIndex rfl (by decide) (Nat.le_of_ble_eq_true rfl) (fun AW2 ha2 => ?_)
  refine sJ6_checkIndex_0 ha2 ⟨fun q => ?_, fun _ => ⟨fun _ => ⟨_, rfl, _, rfl, h⟩, fun q => ?_⟩⟩
  · rw [hx] at q; exact nI_pos (by omega) q
  · rw [hx, hy] at q; exact q (nI_lt hi hn)
theorem x_posts {G : zG} {d : Nat} {w : Nat → Nat} {σ : zS} {K : Int32 → zS → Prop} (hw : wX w σ) (h : K (nI (w 4)) σ) : zCallI zcl Zx G (d + 1) mX0_posts [zR 0 0] σ K := by
  refine zmeth VX0_ok pX0_posts rfl (by decide) (Nat.le_of_ble_eq_true rfl) (fun AW ha => ?_)
  refine sX0_posts_0 ha ?_
  refine zmeth VJ2_ok pJ2_size rfl (by decide) (Nat.le_of_ble_eq_true rfl) (fun AW2 ha2 => ?_)
  refine sJ2_size_10_0 ha2 ⟨_, rfl, _, rfl, ?_⟩
  rw [hw.2.2.1.1]; exact h
theorem x_many {G : zG} {d : Nat} {w : Nat → Nat} {σ : zS} {K : Int32 → zS → Prop} (hw : wX w σ) (h : K (nI (w 7)) σ) : zCallI zcl Zx G (d + 1) mX0_many [zR 0 0] σ K := by
  refine zmeth VX0_ok pX0_many rfl (by decide) (Nat.le_of_ble_eq_true rfl) (fun AW ha => ?_)
  refine sX0_many_0 ha ?_
  refine zmeth VJ2_ok pJ2_size rfl (by decide) (Nat.le_of_ble_eq_true rfl) (fun AW2 ha2 => ?_)
  refine sJ2_size_14_0 ha2 ⟨_, rfl, _, rfl, ?_⟩
  rw [hw.2.2.1.2.1]; exact h
theorem x_acts {G : zG} {d : Nat} {w : Nat → Nat} {σ : zS} {K : Int32 → zS → Prop} (hw : wX w σ) (h : K (nI (w 8)) σ) : zCallI zcl Zx G d mJ2_size [zR 17 0] σ K := by
  refine zmeth VJ2_ok pJ2_size rfl (by decide) (Nat.le_of_ble_eq_true rfl) (fun AW2 ha2 => ?_)
  refine sJ2_size_17_0 ha2 ⟨_, rfl, ?_⟩
  rw [hw.2.2.1.2.2]; exact h
theorem x_postOf {G : zG} {d : Nat} {w : Nat → Nat} {σ : zS} {p : Nat} {x : Int32} {K : Nat → zS → Prop} (hw : wX w σ) (hI : obInv w) (hx : x = nI p) (hp : p < w 4) (h : K p σ) : zCallR zcl Zx G (d + 3) mX0_postOf [zR 0 0, zI x] σ 12 K := by
  have hb := hI.b
  have hc := hw.1
  refine zmeth VX0_ok pX0_postOf rfl (by decide) (Nat.le_of_ble_eq_true rfl) (fun AW ha => ?_)
  refine sX0_postOf_0 ha ?_
  refine zmeth VJ2_ok pJ2_get rfl (by decide) (Nat.le_of_ble_eq_true rfl) (fun AW2 ha2 => ?_)
  refine sJ2_get_10_0 ha2 (x_checkIndex hx hw.2.2.1.1 hp (by omega) ?_)
  refine zmeth VJ2_ok pJ2_elementData rfl (by decide) (Nat.le_of_ble_eq_true rfl) (fun AW3 ha3 => ?_)
  refine sJ2_elementData_10_0 ha3 ⟨by rw [hx]; exact vp_in_nI (by omega) (by omega), ?_, _, rfl, _, rfl, ?_, _, rfl, ?_⟩
  · rw [zcl_n p hx]; omega
  · rw [zcl_n p hx]; omega
  · rw [zcl_n p hx]; exact h
theorem x_walkerOf {G : zG} {d : Nat} {w : Nat → Nat} {σ : zS} {p : Nat} {x : Int32} {K : Nat → zS → Prop} (hw : wX w σ) (hI : obInv w) (hx : x = nI p) (hp : p < w 7) (h : K p σ) : zCallR zcl Zx G (d + 3) mX0_walkerOf [zR 0 0, zI x] σ 16 K := by
  have hb := hI.b
  have hc := hw.1
  refine zmeth VX0_ok pX0_walkerOf rfl (by decide) (Nat.le_of_ble_eq_true rfl) (fun AW ha => ?_)
  refine sX0_walkerOf_0 ha ?_
  refine zmeth VJ2_ok pJ2_get rfl (by decide) (Nat.le_of_ble_eq_true rfl) (fun AW2 ha2 => ?_)
  refine sJ2_get_14_0 ha2 (x_checkIndex hx hw.2.2.1.2.1 hp (by omega) ?_)
  refine zmeth VJ2_ok pJ2_elementData rfl (by decide) (Nat.le_of_ble_eq_true rfl) (fun AW3 ha3 => ?_)
  refine sJ2_elementData_14_0 ha3 ⟨by rw [hx]; exact vp_in_nI (by omega) (by omega), ?_, _, rfl, _, rfl, ?_, _, rfl, ?_⟩
  · rw [zcl_n p hx]; omega
  · rw [zcl_n p hx]; omega
  · rw [zcl_n p hx]; exact h
theorem x_actOf {G : zG} {d : Nat} {w : Nat → Nat} {σ : zS} {p : Nat} {x : Int32} {K : Nat → zS → Prop} (hw : wX w σ) (hI : obInv w) (hx : x = nI p) (hp : p < w 8) (h : K p σ) : zCallR zcl Zx G (d + 2) mJ2_get [zR 17 0, zI x] σ 19 K := by
  have hb := hI.b
  have hc := hw.1
  refine zmeth VJ2_ok pJ2_get rfl (by decide) (Nat.le_of_ble_eq_true rfl) (fun AW2 ha2 => ?_)
  refine sJ2_get_17_0 ha2 (x_checkIndex hx hw.2.2.1.2.2 hp (by omega) ?_)
  refine zmeth VJ2_ok pJ2_elementData rfl (by decide) (Nat.le_of_ble_eq_true rfl) (fun AW3 ha3 => ?_)
  refine sJ2_elementData_17_0 ha3 ⟨by rw [hx]; exact vp_in_nI (by omega) (by omega), ?_, _, rfl, _, rfl, ?_⟩
  · rw [zcl_n p hx]; omega
  · rw [zcl_n p hx]; exact h
