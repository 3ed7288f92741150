/-! STRING CONSTANTS in the world Zm -/
theorem s_coder_m {G : zG} {d : Nat} {σ : zS} {j : Nat} {K : Int32 → zS → Prop} (hs : sOk σ) (hj : j < 13) (h : K 0 σ) : zCallI zcl Zm G d mJ4_coder [zR 97 j] σ K := by
  refine zmethF VJ4_ok pJ4_coder rfl pfJ4a (Nat.le_of_ble_eq_true rfl) (fun AW hA => ?_)
  refine sJ4_coder_m_0 hA ⟨fun q => absurd q (by decide), fun _ => ⟨by rw [hs.1]; exact hj, ?_⟩⟩
  rw [(hs.2 j hj).2.1]
  exact ⟨rfl, _, rfl, h⟩
theorem s_latin_m {G : zG} {d : Nat} {σ : zS} {j : Nat} {K : Int32 → zS → Prop} (hs : sOk σ) (hj : j < 13) (h : K 1 σ) : zCallI zcl Zm G d mJ4_isLatin1 [zR 97 j] σ K := by
  refine zmethF VJ4_ok pJ4_isLatin1 rfl pfJ4b (Nat.le_of_ble_eq_true rfl) (fun AW hA => ?_)
  refine sJ4_isLatin1_m_0 hA ⟨fun q => absurd q (by decide), fun _ => ⟨by rw [hs.1]; exact hj, ?_⟩⟩
  rw [(hs.2 j hj).2.1]
  exact ⟨fun _ => ⟨Or.inr rfl, _, rfl, h⟩, fun q => absurd rfl q⟩
theorem s_length_m {G : zG} {d : Nat} {σ : zS} {j : Nat} {K : Int32 → zS → Prop} (hs : sOk σ) (hj : j < 13) (h : K (nI (zLn j)) σ) : zCallI zcl Zm G (d + 1) mJ4_length [zR 97 j] σ K := by
  refine zmethF VJ4_ok pJ4_length rfl pfJ4c (Nat.le_of_ble_eq_true rfl) (fun AW hA => ?_)
  have hC : j < gC σ 97 := by rw [hs.1]; exact hj
  refine sJ4_length_m_0 hA ⟨hC, hC, hC, s_coder_m hs hj ⟨_, rfl, ?_⟩⟩
  rw [(hs.2 j hj).1, show Int32.ofNat (zLn j) >>> ((0 : Int32) &&& 31) = nI (zLn j) from sh0 j hj]
  exact h
theorem s_checkIndex_m {G : zG} {d : Nat} {σ : zS} {x y : Int32} {i n : Nat} {K : zS → Prop} (hx : x = nI i) (hy : y = nI n) (hi : i < n) (hn : n < 2 ^ 31) (h : K σ) : zCallV zcl Zm G (d + 1) mJ4_checkIndex [zI x, zI y] σ K := by
  refine zmethF VJ4_ok pJ4_checkIndex rfl pfJ4d (Nat.le_of_ble_eq_true rfl) (fun AW hA => ?_)
  exact sJ4_checkIndex_m_0 hA ⟨z_ckN hx hy hi hn ⟨rfl, h⟩, z_ckR hx hy hi hn ⟨rfl, h⟩⟩
theorem s_charAt_m {G : zG} {d : Nat} {σ : zS} {j i : Nat} {x : Int32} {K : Int32 → zS → Prop} (hs : sOk σ) (hj : j < 13) (hx : x = nI i) (hi : i < zLn j) (h : K (nI (zCh j i)) σ) : zCallI zcl Zm G (d + 3) mJ4_charAt [zR 97 j, zI x] σ K := by
  refine zmethF VJ4_ok pJ4_charAt rfl pfJ4e (Nat.le_of_ble_eq_true rfl) (fun AW hA => ?_)
  have hC : j < gC σ 97 := by rw [hs.1]; exact hj
  obtain ⟨a1, a2, a3⟩ := hs.2 j hj
  have hl := zLn_lt j hj
  have hc := zCh_lt j hj i hi
  refine sJ4_charAt_m_0 hA ⟨hC, s_latin_m hs hj ⟨fun q => absurd q (by decide), fun _ => ⟨hC, ?_⟩⟩⟩
  refine zmethF VJ5_ok pJ5_charAt rfl pfJ5 (Nat.le_of_ble_eq_true rfl) (fun AW2 hA2 => ?_)
  refine sJ5_charAt_m_0 hA2 ⟨hC, ?_⟩
  have e1 : gC σ (100 + j) = zLn j := a1
  rw [e1]
  refine s_checkIndex_m hx rfl hi (by omega) ⟨hC, by rw [e1]; exact zix i hx hi (by omega), ?_⟩
  rw [zcl_n i hx (by omega), a3 i hi, (chr _ hc).1]
  exact ⟨(chr _ hc).2, _, rfl, (chr _ hc).2, _, rfl, h⟩
