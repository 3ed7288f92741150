/-! STRING CONSTANTS: heath hours law odds inn post road arm walker room to in at -/
def zWd : List (List Nat) := [[104, 101, 97, 116, 104], [104, 111, 117, 114, 115], [108, 97, 119], [111, 100, 100, 115], [105, 110, 110], [112, 111, 115, 116], [114, 111, 97, 100], [97, 114, 109], [119, 97, 108, 107, 101, 114], [114, 111, 111, 109], [116, 111], [105, 110], [97, 116]]
def zLn (j : Nat) : Nat := (zWd.getD j []).length
def zCh (j k : Nat) : Nat := (zWd.getD j []).getD k 0
def sOk (σ : zS) : Prop := gC σ 97 = 13 ∧ ∀ j, j < 13 → gC σ (100 + j) = zLn j ∧ gI σ 97 1 j = 0 ∧ ∀ k, k < zLn j → gA σ 98 j k = nI (zCh j k)
theorem zLn_lt : ∀ j, j < 13 → zLn j < 7 := by decide +kernel
theorem zCh_lt : ∀ j, j < 13 → ∀ k, k < zLn j → zCh j k < 128 := by decide +kernel
theorem sh0 : ∀ j, j < 13 → Int32.ofNat (zLn j) >>> ((0 : Int32) &&& 31) = nI (zLn j) := by decide +kernel
theorem znar_c (x : Int32) : narrow .char (.int x) = .int x.toUInt32.toUInt16.toUInt32.toInt32 := by
  have h := vp_nar_char x
  unfold vp_nar at h
  cases hn : narrow .char (.int x) with
  | int y => rw [hn] at h; exact congrArg Value.int h
  | _ => simp [narrow] at hn
theorem chr0 : ∀ n, n < 128 → (((nI n) &&& (255 : Int32)).toUInt32 % 65536).toInt32 = nI n ∧ (nI n).toUInt32.toUInt16.toUInt32.toInt32 = nI n := by decide +kernel
theorem chr (n : Nat) (h : n < 128) : (((nI n) &&& (255 : Int32)).toUInt32 % 65536).toInt32 = nI n ∧ narrow .char (.int (nI n)) = .int (nI n) := ⟨(chr0 n h).1, by rw [znar_c, (chr0 n h).2]⟩
theorem pfJ4a : plainFor mJ4_coder.1 = true := by decide +kernel
theorem pfJ4b : plainFor mJ4_isLatin1.1 = true := by decide +kernel
theorem pfJ4c : plainFor mJ4_length.1 = true := by decide +kernel
theorem pfJ4d : plainFor mJ4_checkIndex.1 = true := by decide +kernel
theorem pfJ4e : plainFor mJ4_charAt.1 = true := by decide +kernel
theorem pfJ5 : plainFor mJ5_charAt.1 = true := by decide +kernel
theorem zJ6N {Z : zZ} {G : zG} {d : Nat} {Q : Option zV → zS → Prop} {AW : zAW} (ha : zClo zcl VJ6 (some .int) gJ6_checkIndex Z G d Q AW) {a0 : Int32} {a1 : Int32} {σ : zS} (h : ((a0 < 0 → False) ∧ (¬ a0 < 0 → ((a0 < a1 → Q (some (zI a0)) σ) ∧ (¬ a0 < a1 → False))))) : AW 0 [some (zI a0), some (zI a1), some zN] [] σ := zseg_ok ha [] 9 h
theorem zJ6R {Z : zZ} {G : zG} {d : Nat} {Q : Option zV → zS → Prop} {AW : zAW} (ha : zClo zcl VJ6 (some .int) gJ6_checkIndex Z G d Q AW) {a0 : Int32} {a1 : Int32} {u v : Nat} {σ : zS} (h : ((a0 < 0 → False) ∧ (¬ a0 < 0 → ((a0 < a1 → Q (some (zI a0)) σ) ∧ (¬ a0 < a1 → False))))) : AW 0 [some (zI a0), some (zI a1), some (zR u v)] [] σ := zseg_ok ha [] 11 h
theorem z_ckN {Z : zZ} {G : zG} {d : Nat} {σ : zS} {x y : Int32} {i n : Nat} {K : Int32 → zS → Prop} (hx : x = nI i) (hy : y = nI n) (hi : i < n) (hn : n < 2 ^ 31) (h : K x σ) : zCallI zcl Z G d mJ6_checkIndex [zI x, zI y, zN] σ K := by
  refine zmeth VJ6_ok pJ6_checkIndex rfl (by decide) (Nat.le_of_ble_eq_true rfl) (fun AW ha => ?_)
  exact zJ6N ha ⟨fun q => by rw [hx] at q; exact nI_pos (by omega) q, fun _ => ⟨fun _ => ⟨_, rfl, h⟩, fun q => q (by rw [hx, hy]; exact nI_lt hi hn)⟩⟩
theorem z_ckR {Z : zZ} {G : zG} {d : Nat} {σ : zS} {x y : Int32} {i n u v : Nat} {K : Int32 → zS → Prop} (hx : x = nI i) (hy : y = nI n) (hi : i < n) (hn : n < 2 ^ 31) (h : K x σ) : zCallI zcl Z G d mJ6_checkIndex [zI x, zI y, zR u v] σ K := by
  refine zmeth VJ6_ok pJ6_checkIndex rfl (by decide) (Nat.le_of_ble_eq_true rfl) (fun AW ha => ?_)
  exact zJ6R ha ⟨fun q => by rw [hx] at q; exact nI_pos (by omega) q, fun _ => ⟨fun _ => ⟨_, rfl, h⟩, fun q => q (by rw [hx, hy]; exact nI_lt hi hn)⟩⟩
