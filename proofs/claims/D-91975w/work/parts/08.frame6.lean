/-! SOUNDNESS: arrays, calls, ends -/
theorem zRel_setA {cl : List vw_C} {Z : zZ} {G : zG} {σ : zS} {H H1 : Heap} {k i : Nat} {q : Nat × Nat × Nat} {f : Nat → Int32} (hR : zRel cl Z G σ H) (hl : zlv Z σ.2.2.2.2 k i) (hwr : zwr Z σ.2.2.2.2 k) (hc : Z.1 k = none) (ha : Z.2.2.1 k = some q)
    (e1 : H1[G.2.1 k i]? = some (zcell G q (uA σ k i f) k i)) (e2 : H1.size = H.size) (e3 : ∀ q, q ≠ G.2.1 k i → H1[q]? = H[q]?) : zRel cl Z G (uA σ k i f) H1 := by
  refine zHp.step hR ⟨hl, by rw [ha]; simp⟩ hwr rfl e2 e3 (zat_ofarr hc ha e1) (fun k' i' hne h => zat_obj (σ := σ) rfl ?_ rfl (fun f' => rfl) h)
  show (bif Nat.beq k' k && Nat.beq i' i then f else σ.2.2.1 k' i') = _
  rw [zne2 hne]
  rfl
theorem zRel_setB {cl : List vw_C} {Z : zZ} {G : zG} {σ : zS} {H H1 : Heap} {k i : Nat} {q : Nat × Nat × Nat} {f : Nat → Int64} (hR : zRel cl Z G σ H) (hl : zlv Z σ.2.2.2.2 k i) (hwr : zwr Z σ.2.2.2.2 k) (hc : Z.1 k = none) (ha : Z.2.2.1 k = some q)
    (e1 : H1[G.2.1 k i]? = some (zcell G q (uB σ k i f) k i)) (e2 : H1.size = H.size) (e3 : ∀ q, q ≠ G.2.1 k i → H1[q]? = H[q]?) : zRel cl Z G (uB σ k i f) H1 := by
  refine zHp.step hR ⟨hl, by rw [ha]; simp⟩ hwr rfl e2 e3 (zat_ofarr hc ha e1) (fun k' i' hne h => zat_obj (σ := σ) rfl rfl ?_ (fun f' => rfl) h)
  show (bif Nat.beq k' k && Nat.beq i' i then f else σ.2.2.2.1 k' i') = _
  rw [zne2 hne]
  rfl
theorem zuA_self (σ : zS) (k i : Nat) (f : Nat → Int32) : (uA σ k i f).2.2.1 k i = f := by
  show (bif Nat.beq k k && Nat.beq i i then f else σ.2.2.1 k i) = f
  rw [zself2]
  rfl
theorem zuB_self (σ : zS) (k i : Nat) (f : Nat → Int64) : (uB σ k i f).2.2.2.1 k i = f := by
  show (bif Nat.beq k k && Nat.beq i i then f else σ.2.2.2.1 k i) = f
  rw [zself2]
  rfl
theorem zst_i (cA : ClassId) (n k : Nat) (f : Nat → Int32) (x : Int32) : (arrV cA n (fun j => .int (f j))).setSlot k (.int x) = arrV cA n (fun j => .int (upd f k x j)) := by
  rw [arrV_store]
  congr 1
  funext j
  by_cases h : j = k <;> simp [updV, upd, h]
theorem zst_l (cA : ClassId) (n k : Nat) (f : Nat → Int64) (x : Int64) : (arrV cA n (fun j => .long (f j))).setSlot k (.long x) = arrV cA n (fun j => .long (vp_updL f k x j)) := by
  rw [arrV_store]
  congr 1
  funext j
  by_cases h : j = k <;> simp [updV, vp_updL, h]
theorem znar_b (x : Int32) : narrow .byte (.int x) = .int x.toInt8.toInt32 := by
  have h := vp_nar_byte x
  unfold vp_nar at h
  cases hn : narrow .byte (.int x) with
  | int y => rw [hn] at h; exact congrArg Value.int h
  | _ => simp [narrow] at hn
theorem znar_z (x : Int32) : narrow .boolean (.int x) = .int (vp_nar .boolean x) := by
  unfold vp_nar
  cases hn : narrow .boolean (.int x) with
  | int y => rfl
  | _ => simp [narrow] at hn

theorem zs_iaload {cl : List vw_C} {own : String} {cc : ByteArray} {nL : Nat} {rt : Option FieldType} {Z : zZ} {G : zG} {d : Nat} {C0 : Nat → Nat} {Q : Option zV → zS → Prop} {AW W' : zAW} {pc tg : Nat} {ls : List (Option zV)} {st : List zV} {σ : zS} {V : zRes} (E : zEnv cl own cc nL rt Z G d C0 Q W') (h1 : ∀ pc ls st σ, AW pc ls st σ → W' pc ls st σ) (hdg : decode cc pc = .ok (.iaload, 1)) (ht : zop cl V rt Z G d Q AW pc (.iaload) tg ls st σ) : W' pc ls st σ := by
  obtain ⟨p, l, e, s, m, args, below, meth, c, A, R, nc, ns, QQ, ⟨hx, hb, hml, hown, hts, hK, hr, hlocks, hA1, hA2, hST, hRm, hQ⟩, rfl⟩ := E
  dsimp only [zop] at ht
  obtain ⟨j, r0, rfl, ht0⟩ := zi_inv ht
  obtain ⟨k, i, r, rfl, ht1⟩ := zr_inv ht0
  obtain ⟨q, hc, ha, hl, ht2⟩ := zarr_inv ht1
  obtain ⟨t, n, tk⟩ := q
  split at ht2
  · rename_i hq
    obtain rfl : t = 0 := hq
    obtain ⟨hin, ht3⟩ := ht2
    intro H locs la hR hC hS hL
    have hlt : j.toNatClampNeg < n := Nat.not_le.mp fun q => hin (Or.inr q)
    have hcell : H[G.2.1 k i]? = some (arrV (G.2.2.1 0) n (fun j => .int (σ.2.2.1 k i j))) := zat_arr (hR.1.1 k i hl) hc ha
    exact W.iald (v := .int (σ.2.2.1 k i j.toNatClampNeg)) hx hb hcell ((hK.1.2 0 _ rfl).1 n _) (fun q => by cases q) (by rw [arrV_size]; exact hin) (by rw [arrV_read _ _ hlt]) rfl rfl hdg (h1 _ _ _ _ ht3 H locs la hR hC hS hL)
  · exact ht2.elim
theorem zs_baload {cl : List vw_C} {own : String} {cc : ByteArray} {nL : Nat} {rt : Option FieldType} {Z : zZ} {G : zG} {d : Nat} {C0 : Nat → Nat} {Q : Option zV → zS → Prop} {AW W' : zAW} {pc tg : Nat} {ls : List (Option zV)} {st : List zV} {σ : zS} {V : zRes} (E : zEnv cl own cc nL rt Z G d C0 Q W') (h1 : ∀ pc ls st σ, AW pc ls st σ → W' pc ls st σ) (hdg : decode cc pc = .ok (.baload, 1)) (ht : zop cl V rt Z G d Q AW pc (.baload) tg ls st σ) : W' pc ls st σ := by
  obtain ⟨p, l, e, s, m, args, below, meth, c, A, R, nc, ns, QQ, ⟨hx, hb, hml, hown, hts, hK, hr, hlocks, hA1, hA2, hST, hRm, hQ⟩, rfl⟩ := E
  dsimp only [zop] at ht
  obtain ⟨j, r0, rfl, ht0⟩ := zi_inv ht
  obtain ⟨k, i, r, rfl, ht1⟩ := zr_inv ht0
  obtain ⟨q, hc, ha, hl, ht2⟩ := zarr_inv ht1
  obtain ⟨t, n, tk⟩ := q
  split at ht2
  · rename_i hq
    obtain rfl : t = 1 := hq
    obtain ⟨hin, ht3⟩ := ht2
    intro H locs la hR hC hS hL
    have hlt : j.toNatClampNeg < n := Nat.not_le.mp fun q => hin (Or.inr q)
    have hcell : H[G.2.1 k i]? = some (arrV (G.2.2.1 1) n (fun j => .int (σ.2.2.1 k i j))) := zat_arr (hR.1.1 k i hl) hc ha
    exact W.bald (v := .int (σ.2.2.1 k i j.toNatClampNeg)) hx hb hcell ((hK.1.2 1 _ rfl).1 n _) (fun q => by cases q) (by rw [arrV_size]; exact hin) (by rw [arrV_read _ _ hlt]) rfl rfl hdg (h1 _ _ _ _ ht3 H locs la hR hC hS hL)
  · rename_i hq
    obtain rfl : t = 2 := hq
    obtain ⟨hin, ht3⟩ := ht2
    intro H locs la hR hC hS hL
    have hlt : j.toNatClampNeg < n := Nat.not_le.mp fun q => hin (Or.inr q)
    have hcell : H[G.2.1 k i]? = some (arrV (G.2.2.1 2) n (fun j => .int (σ.2.2.1 k i j))) := zat_arr (hR.1.1 k i hl) hc ha
    exact W.zald (v := .int (σ.2.2.1 k i j.toNatClampNeg)) hx hb hcell ((hK.1.2 2 _ rfl).1 n _) (fun q => by cases q) (by rw [arrV_size]; exact hin) (by rw [arrV_read _ _ hlt]) rfl rfl hdg (h1 _ _ _ _ ht3 H locs la hR hC hS hL)
  · rename_i hq
    obtain rfl : t = 8 := hq
    obtain ⟨hin, ht3⟩ := ht2
    have hin : vp_in j (σ.2.2.2.2 (n + i)) := hin
    intro H locs la hR hC hS hL
    have hlt : j.toNatClampNeg < (σ.2.2.2.2 (n + i)) := Nat.not_le.mp fun q => hin (Or.inr q)
    have hcell : H[G.2.1 k i]? = some (arrV (G.2.2.1 1) (σ.2.2.2.2 (n + i)) (fun j => .int (σ.2.2.1 k i j))) := zat_arr (hR.1.1 k i hl) hc ha
    exact W.bald (v := .int (σ.2.2.1 k i j.toNatClampNeg)) hx hb hcell ((hK.1.2 1 _ rfl).1 _ _) (fun q => by cases q) (by rw [arrV_size]; exact hin) (by rw [arrV_read _ _ hlt]) rfl rfl hdg (h1 _ _ _ _ ht3 H locs la hR hC hS hL)
  · exact ht2.elim
theorem zs_laload {cl : List vw_C} {own : String} {cc : ByteArray} {nL : Nat} {rt : Option FieldType} {Z : zZ} {G : zG} {d : Nat} {C0 : Nat → Nat} {Q : Option zV → zS → Prop} {AW W' : zAW} {pc tg : Nat} {ls : List (Option zV)} {st : List zV} {σ : zS} {V : zRes} (E : zEnv cl own cc nL rt Z G d C0 Q W') (h1 : ∀ pc ls st σ, AW pc ls st σ → W' pc ls st σ) (hdg : decode cc pc = .ok (.laload, 1)) (ht : zop cl V rt Z G d Q AW pc (.laload) tg ls st σ) : W' pc ls st σ := by
  obtain ⟨p, l, e, s, m, args, below, meth, c, A, R, nc, ns, QQ, ⟨hx, hb, hml, hown, hts, hK, hr, hlocks, hA1, hA2, hST, hRm, hQ⟩, rfl⟩ := E
  dsimp only [zop] at ht
  obtain ⟨j, r0, rfl, ht0⟩ := zi_inv ht
  obtain ⟨k, i, r, rfl, ht1⟩ := zr_inv ht0
  obtain ⟨q, hc, ha, hl, ht2⟩ := zarr_inv ht1
  obtain ⟨t, n, tk⟩ := q
  split at ht2
  · rename_i hq
    obtain rfl : t = 3 := hq
    obtain ⟨hin, ht3⟩ := ht2
    intro H locs la hR hC hS hL
    have hlt : j.toNatClampNeg < n := Nat.not_le.mp fun q => hin (Or.inr q)
    have hcell : H[G.2.1 k i]? = some (arrV (G.2.2.1 3) n (fun j => .long (σ.2.2.2.1 k i j))) := zat_arr (hR.1.1 k i hl) hc ha
    exact W.lald (v := .long (σ.2.2.2.1 k i j.toNatClampNeg)) hx hb hcell ((hK.1.2 3 _ rfl).1 n _) (fun q => by cases q) (by rw [arrV_size]; exact hin) (by rw [arrV_read _ _ hlt]) rfl rfl hdg (h1 _ _ _ _ ht3 H locs la hR hC hS hL)
  · exact ht2.elim
theorem zs_aaload {cl : List vw_C} {own : String} {cc : ByteArray} {nL : Nat} {rt : Option FieldType} {Z : zZ} {G : zG} {d : Nat} {C0 : Nat → Nat} {Q : Option zV → zS → Prop} {AW W' : zAW} {pc tg : Nat} {ls : List (Option zV)} {st : List zV} {σ : zS} {V : zRes} (E : zEnv cl own cc nL rt Z G d C0 Q W') (h1 : ∀ pc ls st σ, AW pc ls st σ → W' pc ls st σ) (hdg : decode cc pc = .ok (.aaload, 1)) (ht : zop cl V rt Z G d Q AW pc (.aaload) tg ls st σ) : W' pc ls st σ := by
  obtain ⟨p, l, e, s, m, args, below, meth, c, A, R, nc, ns, QQ, ⟨hx, hb, hml, hown, hts, hK, hr, hlocks, hA1, hA2, hST, hRm, hQ⟩, rfl⟩ := E
  dsimp only [zop] at ht
  obtain ⟨j, r0, rfl, ht0⟩ := zi_inv ht
  obtain ⟨k, i, r, rfl, ht1⟩ := zr_inv ht0
  obtain ⟨q, hc, ha, hl, ht2⟩ := zarr_inv ht1
  obtain ⟨t, n, tk⟩ := q
  split at ht2
  · rename_i hq
    obtain rfl : t = 5 := hq
    obtain ⟨hin, ht3⟩ := ht2
    intro H locs la hR hC hS hL
    have hlt : j.toNatClampNeg < n := Nat.not_le.mp fun q => hin (Or.inr q)
    have hcell : H[G.2.1 k i]? = some (arrV (G.2.2.1 5) n (fun j => .ref (G.2.1 tk j))) := zat_arr (hR.1.1 k i hl) hc ha
    exact W.aald (v := .ref (G.2.1 tk j.toNatClampNeg)) hx hb hcell ((hK.1.2 5 _ rfl).1 n _) rfl (fun q => by cases q) (by rw [arrV_size]; exact hin) (by rw [arrV_read _ _ hlt]) rfl rfl hdg (h1 _ _ _ _ ht3 H locs la hR hC hS hL)
  · rename_i hq
    obtain rfl : t = 6 := hq
    obtain ⟨hin, hlv, ht3⟩ := ht2
    have hin : vp_in j (σ.2.2.2.2 n) := hin
    have hlv : j.toNatClampNeg < σ.2.2.2.2 (n - 10) := hlv
    intro H locs la hR hC hS hL
    have hlt : j.toNatClampNeg < σ.2.2.2.2 n := Nat.not_le.mp fun q => hin (Or.inr q)
    have hcell : H[G.2.1 k i]? = some (arrV (G.2.2.1 6) (σ.2.2.2.2 n) (fun j => va_rf (if j < σ.2.2.2.2 (n - 10) then some (G.2.1 tk j) else none))) := zat_arr (hR.1.1 k i hl) hc ha
    exact W.aald (v := .ref (G.2.1 tk j.toNatClampNeg)) hx hb hcell ((hK.1.2 6 _ rfl).1 _ _) rfl (fun q => by cases q) (by rw [arrV_size]; exact hin) (by rw [arrV_read _ _ hlt, if_pos hlv]; rfl) rfl rfl hdg (h1 _ _ _ _ ht3 H locs la hR hC hS hL)
  · exact ht2.elim
theorem zs_iushr {cl : List vw_C} {own : String} {cc : ByteArray} {nL : Nat} {rt : Option FieldType} {Z : zZ} {G : zG} {d : Nat} {C0 : Nat → Nat} {Q : Option zV → zS → Prop} {AW W' : zAW} {pc tg : Nat} {ls : List (Option zV)} {st : List zV} {σ : zS} {V : zRes} (E : zEnv cl own cc nL rt Z G d C0 Q W') (h1 : ∀ pc ls st σ, AW pc ls st σ → W' pc ls st σ) (hdg : decode cc pc = .ok (.iushr, 1)) (ht : zop cl V rt Z G d Q AW pc (.iushr) tg ls st σ) : W' pc ls st σ := by
  obtain ⟨p, l, e, s, m, args, below, meth, c, A, R, nc, ns, QQ, ⟨hx, hb, hml, hown, hts, hK, hr, hlocks, hA1, hA2, hST, hRm, hQ⟩, rfl⟩ := E
  dsimp only [zop] at ht
  obtain ⟨y, r0, rfl, ht0⟩ := zi_inv ht
  obtain ⟨x, r, rfl, ht1⟩ := zi_inv ht0
  intro H locs la hR hC hS hL
  exact lv_iushr hx hb hdg rfl (h1 _ _ _ _ ht1 H locs la hR hC hS hL)
theorem zs_null {cl : List vw_C} {own : String} {cc : ByteArray} {nL : Nat} {rt : Option FieldType} {Z : zZ} {G : zG} {d : Nat} {C0 : Nat → Nat} {Q : Option zV → zS → Prop} {AW W' : zAW} {pc tg : Nat} {ls : List (Option zV)} {st : List zV} {σ : zS} {V : zRes} (E : zEnv cl own cc nL rt Z G d C0 Q W') (h1 : ∀ pc ls st σ, AW pc ls st σ → W' pc ls st σ) (hdg : decode cc pc = .ok (.aconst_null, 1)) (ht : zop cl V rt Z G d Q AW pc (.aconst_null) tg ls st σ) : W' pc ls st σ := by
  obtain ⟨p, l, e, s, m, args, below, meth, c, A, R, nc, ns, QQ, ⟨hx, hb, hml, hown, hts, hK, hr, hlocks, hA1, hA2, hST, hRm, hQ⟩, rfl⟩ := E
  dsimp only [zop] at ht
  intro H locs la hR hC hS hL
  exact lv_null hx hb hdg (h1 _ _ _ _ ht H locs la hR hC hS hL)
theorem zs_checkcast {cl : List vw_C} {own : String} {cc : ByteArray} {nL : Nat} {rt : Option FieldType} {Z : zZ} {G : zG} {d : Nat} {C0 : Nat → Nat} {Q : Option zV → zS → Prop} {AW W' : zAW} {pc tg : Nat} {ls : List (Option zV)} {st : List zV} {σ : zS} {V : zRes} (E : zEnv cl own cc nL rt Z G d C0 Q W') (h1 : ∀ pc ls st σ, AW pc ls st σ → W' pc ls st σ) (hV : zVok cl own V) {n : Nat} (hdg : decode cc pc = .ok (.checkcast n, 3)) (ht : zop cl V rt Z G d Q AW pc (.checkcast n) tg ls st σ) : W' pc ls st σ := by
  obtain ⟨p, l, e, s, m, args, below, meth, c, A, R, nc, ns, QQ, ⟨hx, hb, hml, hown, hts, hK, hr, hlocks, hA1, hA2, hST, hRm, hQ⟩, rfl⟩ := E
  dsimp only [zop] at ht
  cases hq : V.2.2.2.2.1 n with
  | none => rw [hq] at ht; exact ht.elim
  | some ci =>
    rw [hq] at ht
    obtain ⟨k, i, r, rfl, ht1⟩ := zr_inv ht
    cases hc : Z.1 k with
    | none => simp only [hc] at ht1
    | some c1 =>
      simp only [hc] at ht1
      obtain ⟨b1, ht2⟩ := zb_inv ht1
      obtain ⟨hl, ht3⟩ := zliv_inv ht2
      have b1 : c1 = ci := Nat.eq_of_beq_eq_true b1
      obtain ⟨r1, g1, g2⟩ := hV.2.2.2.2.1 n ci hq
      intro H locs la hR hC hS hL
      obtain ⟨r2, e1, cell, q1, q2, q3, -⟩ := zat_cls (hR.1.1 k i hl) hc
      have hr : r2 = r1 := Option.some.inj (e1.symm.trans (by rw [b1]; exact g1))
      subst hr
      have hca := (hK.1.1 _ _ e1).2
      exact va_castS hx hb hown (hts _ g2) hca ⟨cell, q1, by rw [q3]; rfl, by rw [q2]; exact hca.1⟩ hdg (h1 _ _ _ _ ht3 H locs la hR hC hS hL)
theorem zs_iastore {cl : List vw_C} {own : String} {cc : ByteArray} {nL : Nat} {rt : Option FieldType} {Z : zZ} {G : zG} {d : Nat} {C0 : Nat → Nat} {Q : Option zV → zS → Prop} {AW W' : zAW} {pc tg : Nat} {ls : List (Option zV)} {st : List zV} {σ : zS} {V : zRes} (E : zEnv cl own cc nL rt Z G d C0 Q W') (h1 : ∀ pc ls st σ, AW pc ls st σ → W' pc ls st σ) (hdg : decode cc pc = .ok (.iastore, 1)) (ht : zop cl V rt Z G d Q AW pc (.iastore) tg ls st σ) : W' pc ls st σ := by
  obtain ⟨p, l, e, s, m, args, below, meth, c, A, R, nc, ns, QQ, ⟨hx, hb, hml, hown, hts, hK, hr, hlocks, hA1, hA2, hST, hRm, hQ⟩, rfl⟩ := E
  dsimp only [zop] at ht
  obtain ⟨x, r00, rfl, ht00⟩ := zi_inv ht
  obtain ⟨j, r0, rfl, ht0⟩ := zi_inv ht00
  obtain ⟨k, i, r, rfl, ht1⟩ := zr_inv ht0
  obtain ⟨hfz, ht1⟩ := zb_inv ht1
  have hfz : Z.2.2.2.2 k = false := by simpa using hfz
  obtain ⟨q, hc, ha, hl, ht2⟩ := zarr_inv ht1
  obtain ⟨t, n, tk⟩ := q
  split at ht2
  · rename_i hq
    obtain rfl : t = 0 := hq
    obtain ⟨hin, ht3⟩ := ht2
    intro H locs la hR hC hS hL
    have hcell : H[G.2.1 k i]? = some (arrV (G.2.2.1 0) n (fun j => .int (σ.2.2.1 k i j))) := zat_arr (hR.1.1 k i hl) hc ha
    have hAk : A (G.2.1 k i) := hA1 _ ⟨k, i, ⟨by rw [← hC]; exact hl, by rw [ha]; simp⟩, zwr_arr hfz ha (fun e => by cases e), rfl⟩
    refine W.iast hx hb hcell ((hK.1.2 0 _ rfl).1 n _) (fun q => by cases q) (by rw [arrV_size]; exact hin) rfl rfl hdg (fun H' e1 e2 e3 => ?_)
    refine h1 _ _ _ _ ht3 H' _ la (zRel_setA hR hl (zwr_arr hfz ha (fun e => by cases e)) hc ha ?_ e2 e3) hC (hS.put e2 e3 hAk) hL
    rw [e1, zst_i]
    unfold zcell
    simp only [zuA_self]
  · exact ht2.elim
theorem zs_bastore {cl : List vw_C} {own : String} {cc : ByteArray} {nL : Nat} {rt : Option FieldType} {Z : zZ} {G : zG} {d : Nat} {C0 : Nat → Nat} {Q : Option zV → zS → Prop} {AW W' : zAW} {pc tg : Nat} {ls : List (Option zV)} {st : List zV} {σ : zS} {V : zRes} (E : zEnv cl own cc nL rt Z G d C0 Q W') (h1 : ∀ pc ls st σ, AW pc ls st σ → W' pc ls st σ) (hdg : decode cc pc = .ok (.bastore, 1)) (ht : zop cl V rt Z G d Q AW pc (.bastore) tg ls st σ) : W' pc ls st σ := by
  obtain ⟨p, l, e, s, m, args, below, meth, c, A, R, nc, ns, QQ, ⟨hx, hb, hml, hown, hts, hK, hr, hlocks, hA1, hA2, hST, hRm, hQ⟩, rfl⟩ := E
  dsimp only [zop] at ht
  obtain ⟨x, r00, rfl, ht00⟩ := zi_inv ht
  obtain ⟨j, r0, rfl, ht0⟩ := zi_inv ht00
  obtain ⟨k, i, r, rfl, ht1⟩ := zr_inv ht0
  obtain ⟨hfz, ht1⟩ := zb_inv ht1
  have hfz : Z.2.2.2.2 k = false := by simpa using hfz
  obtain ⟨q, hc, ha, hl, ht2⟩ := zarr_inv ht1
  obtain ⟨t, n, tk⟩ := q
  split at ht2
  · rename_i hq
    obtain rfl : t = 1 := hq
    obtain ⟨hin, ht3⟩ := ht2
    intro H locs la hR hC hS hL
    have hcell : H[G.2.1 k i]? = some (arrV (G.2.2.1 1) n (fun j => .int (σ.2.2.1 k i j))) := zat_arr (hR.1.1 k i hl) hc ha
    have hAk : A (G.2.1 k i) := hA1 _ ⟨k, i, ⟨by rw [← hC]; exact hl, by rw [ha]; simp⟩, zwr_arr hfz ha (fun e => by cases e), rfl⟩
    refine W.bast hx hb hcell ((hK.1.2 1 _ rfl).1 n _) (fun q => by cases q) (by rw [arrV_size]; exact hin) rfl rfl hdg (fun H' e1 e2 e3 => ?_)
    refine h1 _ _ _ _ ht3 H' _ la (zRel_setA hR hl (zwr_arr hfz ha (fun e => by cases e)) hc ha ?_ e2 e3) hC (hS.put e2 e3 hAk) hL
    rw [e1, znar_b, zst_i]
    unfold zcell
    simp only [zuA_self]
  · rename_i hq
    obtain rfl : t = 2 := hq
    obtain ⟨hin, ht3⟩ := ht2
    intro H locs la hR hC hS hL
    have hcell : H[G.2.1 k i]? = some (arrV (G.2.2.1 2) n (fun j => .int (σ.2.2.1 k i j))) := zat_arr (hR.1.1 k i hl) hc ha
    have hAk : A (G.2.1 k i) := hA1 _ ⟨k, i, ⟨by rw [← hC]; exact hl, by rw [ha]; simp⟩, zwr_arr hfz ha (fun e => by cases e), rfl⟩
    refine W.zast hx hb hcell ((hK.1.2 2 _ rfl).1 n _) (fun q => by cases q) (by rw [arrV_size]; exact hin) rfl rfl hdg (fun H' e1 e2 e3 => ?_)
    refine h1 _ _ _ _ ht3 H' _ la (zRel_setA hR hl (zwr_arr hfz ha (fun e => by cases e)) hc ha ?_ e2 e3) hC (hS.put e2 e3 hAk) hL
    rw [e1, znar_z, zst_i]
    unfold zcell
    simp only [zuA_self]
  · exact ht2.elim
theorem zs_lastore {cl : List vw_C} {own : String} {cc : ByteArray} {nL : Nat} {rt : Option FieldType} {Z : zZ} {G : zG} {d : Nat} {C0 : Nat → Nat} {Q : Option zV → zS → Prop} {AW W' : zAW} {pc tg : Nat} {ls : List (Option zV)} {st : List zV} {σ : zS} {V : zRes} (E : zEnv cl own cc nL rt Z G d C0 Q W') (h1 : ∀ pc ls st σ, AW pc ls st σ → W' pc ls st σ) (hdg : decode cc pc = .ok (.lastore, 1)) (ht : zop cl V rt Z G d Q AW pc (.lastore) tg ls st σ) : W' pc ls st σ := by
  obtain ⟨p, l, e, s, m, args, below, meth, c, A, R, nc, ns, QQ, ⟨hx, hb, hml, hown, hts, hK, hr, hlocks, hA1, hA2, hST, hRm, hQ⟩, rfl⟩ := E
  dsimp only [zop] at ht
  obtain ⟨x, r00, rfl, ht00⟩ := zl_inv ht
  obtain ⟨j, r0, rfl, ht0⟩ := zi_inv ht00
  obtain ⟨k, i, r, rfl, ht1⟩ := zr_inv ht0
  obtain ⟨hfz, ht1⟩ := zb_inv ht1
  have hfz : Z.2.2.2.2 k = false := by simpa using hfz
  obtain ⟨q, hc, ha, hl, ht2⟩ := zarr_inv ht1
  obtain ⟨t, n, tk⟩ := q
  split at ht2
  · rename_i hq
    obtain rfl : t = 3 := hq
    obtain ⟨hin, ht3⟩ := ht2
    intro H locs la hR hC hS hL
    have hcell : H[G.2.1 k i]? = some (arrV (G.2.2.1 3) n (fun j => .long (σ.2.2.2.1 k i j))) := zat_arr (hR.1.1 k i hl) hc ha
    have hAk : A (G.2.1 k i) := hA1 _ ⟨k, i, ⟨by rw [← hC]; exact hl, by rw [ha]; simp⟩, zwr_arr hfz ha (fun e => by cases e), rfl⟩
    refine W.last hx hb hcell ((hK.1.2 3 _ rfl).1 n _) (fun q => by cases q) (by rw [arrV_size]; exact hin) rfl rfl hdg (fun H' e1 e2 e3 => ?_)
    refine h1 _ _ _ _ ht3 H' _ la (zRel_setB hR hl (zwr_arr hfz ha (fun e => by cases e)) hc ha ?_ e2 e3) hC (hS.put e2 e3 hAk) hL
    rw [e1, zst_l]
    unfold zcell
    simp only [zuB_self]
  · exact ht2.elim
theorem zcell_of {G : zG} {q : Nat × Nat × Nat} {σ : zS} {k i : Nat} (ht : q.1 < 6) : ∃ (t : Nat) (w : ClassId × FieldType) (f : Nat → Value), (ztys G)[t]? = some w ∧ zcell G q σ k i = arrV w.1 q.2.1 f := by
  obtain ⟨t, n, tk⟩ := q
  have ht : t < 6 := ht
  match t, ht with
  | 0, _ => exact ⟨0, _, (fun j => .int (σ.2.2.1 k i j)), rfl, rfl⟩
  | 1, _ => exact ⟨1, _, (fun j => .int (σ.2.2.1 k i j)), rfl, rfl⟩
  | 2, _ => exact ⟨2, _, (fun j => .int (σ.2.2.1 k i j)), rfl, rfl⟩
  | 3, _ => exact ⟨3, _, (fun j => .long (σ.2.2.2.1 k i j)), rfl, rfl⟩
  | 4, _ => exact ⟨4, _, (fun j => .int (σ.2.2.1 k i j)), rfl, rfl⟩
  | 5, _ => exact ⟨5, _, (fun j => .ref (G.2.1 tk j)), rfl, rfl⟩

theorem zs_pop {cl : List vw_C} {own : String} {cc : ByteArray} {nL : Nat} {rt : Option FieldType} {Z : zZ} {G : zG} {d : Nat} {C0 : Nat → Nat} {Q : Option zV → zS → Prop} {AW W' : zAW} {pc tg : Nat} {ls : List (Option zV)} {st : List zV} {σ : zS} {V : zRes} (E : zEnv cl own cc nL rt Z G d C0 Q W') (h1 : ∀ pc ls st σ, AW pc ls st σ → W' pc ls st σ) (hdg : decode cc pc = .ok (.pop, 1)) (ht : zop cl V rt Z G d Q AW pc (.pop) tg ls st σ) : W' pc ls st σ := by
  obtain ⟨p, l, e, s, m, args, below, meth, c, A, R, nc, ns, QQ, ⟨hx, hb, hml, hown, hts, hK, hr, hlocks, hA1, hA2, hST, hRm, hQ⟩, rfl⟩ := E
  dsimp only [zop] at ht
  split at ht
  · intro H locs la hR hC hS hL
    exact lv_pop hx hb hdg rfl (h1 _ _ _ _ ht H locs la hR hC hS hL)
  · rename_i w r
    intro H locs la hR hC hS hL
    exact lv_pop hx hb hdg (by rcases w with w | w <;> rfl) (h1 _ _ _ _ ht H locs la hR hC hS hL)
  · exact ht.elim
theorem zs_dup {cl : List vw_C} {own : String} {cc : ByteArray} {nL : Nat} {rt : Option FieldType} {Z : zZ} {G : zG} {d : Nat} {C0 : Nat → Nat} {Q : Option zV → zS → Prop} {AW W' : zAW} {pc tg : Nat} {ls : List (Option zV)} {st : List zV} {σ : zS} {V : zRes} (E : zEnv cl own cc nL rt Z G d C0 Q W') (h1 : ∀ pc ls st σ, AW pc ls st σ → W' pc ls st σ) (hdg : decode cc pc = .ok (.dup, 1)) (ht : zop cl V rt Z G d Q AW pc (.dup) tg ls st σ) : W' pc ls st σ := by
  obtain ⟨p, l, e, s, m, args, below, meth, c, A, R, nc, ns, QQ, ⟨hx, hb, hml, hown, hts, hK, hr, hlocks, hA1, hA2, hST, hRm, hQ⟩, rfl⟩ := E
  dsimp only [zop] at ht
  split at ht
  · intro H locs la hR hC hS hL
    exact lv_dup hx hb hdg rfl (h1 _ _ _ _ ht H locs la hR hC hS hL)
  · rename_i w r
    intro H locs la hR hC hS hL
    exact lv_dup hx hb hdg (by rcases w with w | w <;> rfl) (h1 _ _ _ _ ht H locs la hR hC hS hL)
  · exact ht.elim
theorem zs_dup2 {cl : List vw_C} {own : String} {cc : ByteArray} {nL : Nat} {rt : Option FieldType} {Z : zZ} {G : zG} {d : Nat} {C0 : Nat → Nat} {Q : Option zV → zS → Prop} {AW W' : zAW} {pc tg : Nat} {ls : List (Option zV)} {st : List zV} {σ : zS} {V : zRes} (E : zEnv cl own cc nL rt Z G d C0 Q W') (h1 : ∀ pc ls st σ, AW pc ls st σ → W' pc ls st σ) (hdg : decode cc pc = .ok (.dup2, 1)) (ht : zop cl V rt Z G d Q AW pc (.dup2) tg ls st σ) : W' pc ls st σ := by
  obtain ⟨p, l, e, s, m, args, below, meth, c, A, R, nc, ns, QQ, ⟨hx, hb, hml, hown, hts, hK, hr, hlocks, hA1, hA2, hST, hRm, hQ⟩, rfl⟩ := E
  dsimp only [zop] at ht
  split at ht
  · rename_i x w r
    intro H locs la hR hC hS hL
    exact lv_dup2_11 hx hb hdg rfl (by rcases w with w | w <;> rfl) (h1 _ _ _ _ ht H locs la hR hC hS hL)
  · exact ht.elim
theorem zs_ldc {cl : List vw_C} {own : String} {cc : ByteArray} {nL : Nat} {rt : Option FieldType} {Z : zZ} {G : zG} {d : Nat} {C0 : Nat → Nat} {Q : Option zV → zS → Prop} {AW W' : zAW} {pc tg : Nat} {ls : List (Option zV)} {st : List zV} {σ : zS} {V : zRes} (E : zEnv cl own cc nL rt Z G d C0 Q W') (h1 : ∀ pc ls st σ, AW pc ls st σ → W' pc ls st σ) (hV : zVok cl own V) {n : Nat} (hdg : decode cc pc = .ok (.ldc n, 2)) (ht : zop cl V rt Z G d Q AW pc (.ldc n) tg ls st σ) : W' pc ls st σ := by
  obtain ⟨p, l, e, s, m, args, below, meth, c, A, R, nc, ns, QQ, ⟨hx, hb, hml, hown, hts, hK, hr, hlocks, hA1, hA2, hST, hRm, hQ⟩, rfl⟩ := E
  dsimp only [zop] at ht
  cases hq : V.2.2.1 n with
  | none =>
    rw [hq] at ht
    cases hq2 : V.2.2.2.2.2.2 n with
    | none => rw [hq2] at ht; exact ht.elim
    | some j =>
      rw [hq2] at ht
      obtain ⟨tx, g1⟩ := hV.2.2.2.2.2.2 n j hq2
      intro H locs la hR hC hS hL
      exact va_ldcS hx hb hown (hST.2.1 _ g1) hdg (h1 _ _ _ _ ht H locs la hR hC hS hL)
  | some x =>
    rw [hq] at ht
    intro H locs la hR hC hS hL
    exact lv_ldc hx hb hown (hts _ (hV.2.2.1 n x hq)) hdg (h1 _ _ _ _ ht H locs la hR hC hS hL)
theorem zs_ldcw {cl : List vw_C} {own : String} {cc : ByteArray} {nL : Nat} {rt : Option FieldType} {Z : zZ} {G : zG} {d : Nat} {C0 : Nat → Nat} {Q : Option zV → zS → Prop} {AW W' : zAW} {pc tg : Nat} {ls : List (Option zV)} {st : List zV} {σ : zS} {V : zRes} (E : zEnv cl own cc nL rt Z G d C0 Q W') (h1 : ∀ pc ls st σ, AW pc ls st σ → W' pc ls st σ) (hV : zVok cl own V) {n : Nat} (hdg : decode cc pc = .ok (.ldc_w n, 3)) (ht : zop cl V rt Z G d Q AW pc (.ldc_w n) tg ls st σ) : W' pc ls st σ := by
  obtain ⟨p, l, e, s, m, args, below, meth, c, A, R, nc, ns, QQ, ⟨hx, hb, hml, hown, hts, hK, hr, hlocks, hA1, hA2, hST, hRm, hQ⟩, rfl⟩ := E
  dsimp only [zop] at ht
  cases hq : V.2.2.1 n with
  | none => rw [hq] at ht; exact ht.elim
  | some x =>
    rw [hq] at ht
    intro H locs la hR hC hS hL
    exact lv_ldcw hx hb hown (hts _ (hV.2.2.1 n x hq)) hdg (h1 _ _ _ _ ht H locs la hR hC hS hL)
theorem zs_ldc2 {cl : List vw_C} {own : String} {cc : ByteArray} {nL : Nat} {rt : Option FieldType} {Z : zZ} {G : zG} {d : Nat} {C0 : Nat → Nat} {Q : Option zV → zS → Prop} {AW W' : zAW} {pc tg : Nat} {ls : List (Option zV)} {st : List zV} {σ : zS} {V : zRes} (E : zEnv cl own cc nL rt Z G d C0 Q W') (h1 : ∀ pc ls st σ, AW pc ls st σ → W' pc ls st σ) (hV : zVok cl own V) {n : Nat} (hdg : decode cc pc = .ok (.ldc2_w n, 3)) (ht : zop cl V rt Z G d Q AW pc (.ldc2_w n) tg ls st σ) : W' pc ls st σ := by
  obtain ⟨p, l, e, s, m, args, below, meth, c, A, R, nc, ns, QQ, ⟨hx, hb, hml, hown, hts, hK, hr, hlocks, hA1, hA2, hST, hRm, hQ⟩, rfl⟩ := E
  dsimp only [zop] at ht
  cases hq : V.2.2.2.1 n with
  | none => rw [hq] at ht; exact ht.elim
  | some x =>
    rw [hq] at ht
    intro H locs la hR hC hS hL
    exact lv_ldc2 hx hb hown (hts _ (hV.2.2.2.1 n x hq)) hdg (h1 _ _ _ _ ht H locs la hR hC hS hL)
theorem zs_ireturn {cl : List vw_C} {own : String} {cc : ByteArray} {nL : Nat} {rt : Option FieldType} {Z : zZ} {G : zG} {d : Nat} {C0 : Nat → Nat} {Q : Option zV → zS → Prop} {AW W' : zAW} {pc tg : Nat} {ls : List (Option zV)} {st : List zV} {σ : zS} {V : zRes} (E : zEnv cl own cc nL rt Z G d C0 Q W') (h1 : ∀ pc ls st σ, AW pc ls st σ → W' pc ls st σ) (hdg : decode cc pc = .ok (.ireturn, 1)) (ht : zop cl V rt Z G d Q AW pc (.ireturn) tg ls st σ) : W' pc ls st σ := by
  obtain ⟨p, l, e, s, m, args, below, meth, c, A, R, nc, ns, QQ, ⟨hx, hb, hml, hown, hts, hK, hr, hlocks, hA1, hA2, hST, hRm, hQ⟩, rfl⟩ := E
  dsimp only [zop] at ht
  split at ht
  · intro H locs la hR hC hS hL
    exact hQ _ _ _ (W.iret hx hb hr (fun t ht' hW => ⟨⟨some (zI _), σ, rfl, by rw [ht']; exact hR, hC, ht⟩, hS.F ht'⟩) hS.2.2 hdg hlocks)
  · rename_i x
    obtain ⟨h0, ht0⟩ := ht
    intro H locs la hR hC hS hL
    exact hQ _ _ _ (W.zret hx hb hr (by rcases h0 with h0 | h0 <;> rw [h0] <;> rfl) (fun t ht' hW => ⟨⟨some (zI _), σ, rfl, by rw [ht']; exact hR, hC, ht0⟩, hS.F ht'⟩) hS.2.2 hdg hlocks)
  · rename_i x
    obtain ⟨h0, ht0⟩ := ht
    intro H locs la hR hC hS hL
    exact hQ _ _ _ (W.zret hx hb hr h0 (fun t ht' hW => ⟨⟨some (zI _), σ, rfl, by rw [ht']; exact hR, hC, ht0⟩, hS.F ht'⟩) hS.2.2 hdg hlocks)
  · rename_i x
    obtain ⟨h0, ht0⟩ := ht
    intro H locs la hR hC hS hL
    exact hQ _ _ _ (W.zret hx hb hr h0 (fun t ht' hW => ⟨⟨some (zI _), σ, rfl, by rw [ht']; exact hR, hC, ht0⟩, hS.F ht'⟩) hS.2.2 hdg hlocks)
  · exact ht.elim
theorem zs_lreturn {cl : List vw_C} {own : String} {cc : ByteArray} {nL : Nat} {rt : Option FieldType} {Z : zZ} {G : zG} {d : Nat} {C0 : Nat → Nat} {Q : Option zV → zS → Prop} {AW W' : zAW} {pc tg : Nat} {ls : List (Option zV)} {st : List zV} {σ : zS} {V : zRes} (E : zEnv cl own cc nL rt Z G d C0 Q W') (h1 : ∀ pc ls st σ, AW pc ls st σ → W' pc ls st σ) (hdg : decode cc pc = .ok (.lreturn, 1)) (ht : zop cl V rt Z G d Q AW pc (.lreturn) tg ls st σ) : W' pc ls st σ := by
  obtain ⟨p, l, e, s, m, args, below, meth, c, A, R, nc, ns, QQ, ⟨hx, hb, hml, hown, hts, hK, hr, hlocks, hA1, hA2, hST, hRm, hQ⟩, rfl⟩ := E
  dsimp only [zop] at ht
  split at ht
  · intro H locs la hR hC hS hL
    exact hQ _ _ _ (W.lret hx hb hr (fun t ht' hW => ⟨⟨some (zL _), σ, rfl, by rw [ht']; exact hR, hC, ht⟩, hS.F ht'⟩) hS.2.2 hdg hlocks)
  · exact ht.elim
theorem zs_areturn {cl : List vw_C} {own : String} {cc : ByteArray} {nL : Nat} {rt : Option FieldType} {Z : zZ} {G : zG} {d : Nat} {C0 : Nat → Nat} {Q : Option zV → zS → Prop} {AW W' : zAW} {pc tg : Nat} {ls : List (Option zV)} {st : List zV} {σ : zS} {V : zRes} (E : zEnv cl own cc nL rt Z G d C0 Q W') (h1 : ∀ pc ls st σ, AW pc ls st σ → W' pc ls st σ) (hdg : decode cc pc = .ok (.areturn, 1)) (ht : zop cl V rt Z G d Q AW pc (.areturn) tg ls st σ) : W' pc ls st σ := by
  obtain ⟨p, l, e, s, m, args, below, meth, c, A, R, nc, ns, QQ, ⟨hx, hb, hml, hown, hts, hK, hr, hlocks, hA1, hA2, hST, hRm, hQ⟩, rfl⟩ := E
  dsimp only [zop] at ht
  split at ht
  · rename_i q _
    intro H locs la hR hC hS hL
    exact hQ _ _ _ (W.aret hx hb hr (Or.inl ⟨_, rfl⟩) (Or.inr ⟨_, rfl⟩) (fun t ht' hW => ⟨⟨some (zR q.1 q.2), σ, rfl, by rw [ht']; exact hR, hC, ht⟩, hS.F ht'⟩) hS.2.2 hdg hlocks)
  · exact ht.elim
theorem zs_return {cl : List vw_C} {own : String} {cc : ByteArray} {nL : Nat} {rt : Option FieldType} {Z : zZ} {G : zG} {d : Nat} {C0 : Nat → Nat} {Q : Option zV → zS → Prop} {AW W' : zAW} {pc tg : Nat} {ls : List (Option zV)} {st : List zV} {σ : zS} {V : zRes} (E : zEnv cl own cc nL rt Z G d C0 Q W') (h1 : ∀ pc ls st σ, AW pc ls st σ → W' pc ls st σ) (hdg : decode cc pc = .ok (.return_, 1)) (ht : zop cl V rt Z G d Q AW pc (.return_) tg ls st σ) : W' pc ls st σ := by
  obtain ⟨p, l, e, s, m, args, below, meth, c, A, R, nc, ns, QQ, ⟨hx, hb, hml, hown, hts, hK, hr, hlocks, hA1, hA2, hST, hRm, hQ⟩, rfl⟩ := E
  dsimp only [zop] at ht
  split at ht
  · intro H locs la hR hC hS hL
    exact hQ _ _ _ (W.vret hx hb hr (fun t ht' hW => ⟨⟨none, σ, rfl, by rw [ht']; exact hR, hC, ht⟩, hS.F ht'⟩) hS.2.2 hdg hlocks)
  · exact ht.elim
theorem zs_arraylength {cl : List vw_C} {own : String} {cc : ByteArray} {nL : Nat} {rt : Option FieldType} {Z : zZ} {G : zG} {d : Nat} {C0 : Nat → Nat} {Q : Option zV → zS → Prop} {AW W' : zAW} {pc tg : Nat} {ls : List (Option zV)} {st : List zV} {σ : zS} {V : zRes} (E : zEnv cl own cc nL rt Z G d C0 Q W') (h1 : ∀ pc ls st σ, AW pc ls st σ → W' pc ls st σ) (hdg : decode cc pc = .ok (.arraylength, 1)) (ht : zop cl V rt Z G d Q AW pc (.arraylength) tg ls st σ) : W' pc ls st σ := by
  obtain ⟨p, l, e, s, m, args, below, meth, c, A, R, nc, ns, QQ, ⟨hx, hb, hml, hown, hts, hK, hr, hlocks, hA1, hA2, hST, hRm, hQ⟩, rfl⟩ := E
  dsimp only [zop] at ht
  obtain ⟨k, i, r, rfl, ht1⟩ := zr_inv ht
  obtain ⟨q, hc, ha, hl, ht2⟩ := zarr_inv ht1
  obtain ⟨t, n, tk⟩ := q
  split at ht2
  · rename_i hq
    obtain rfl : t = 6 := hq
    intro H locs la hR hC hS hL
    have hcell : H[G.2.1 k i]? = some (arrV (G.2.2.1 6) (σ.2.2.2.2 n) (fun j => va_rf (if j < σ.2.2.2.2 (n - 10) then some (G.2.1 tk j) else none))) := zat_arr (hR.1.1 k i hl) hc ha
    exact W.alen (n := Int32.ofNat (σ.2.2.2.2 n)) hx hb hcell ((hK.1.2 6 _ rfl).1 _ _) (by rw [arrV_size] <;> rfl) rfl rfl hdg (h1 _ _ _ _ ht2 H locs la hR hC hS hL)
  · rename_i hq
    obtain rfl : t = 8 := hq
    intro H locs la hR hC hS hL
    have hcell : H[G.2.1 k i]? = some (arrV (G.2.2.1 1) (σ.2.2.2.2 (n + i)) (fun j => .int (σ.2.2.1 k i j))) := zat_arr (hR.1.1 k i hl) hc ha
    exact W.alen (n := Int32.ofNat (σ.2.2.2.2 (n + i))) hx hb hcell ((hK.1.2 1 _ rfl).1 _ _) (by rw [arrV_size] <;> rfl) rfl rfl hdg (h1 _ _ _ _ ht2 H locs la hR hC hS hL)
  · obtain ⟨h7, ht2⟩ := ht2
    intro H locs la hR hC hS hL
    have hcell := zat_arr (hR.1.1 k i hl) hc ha
    obtain ⟨t1, w, f, e1, e2⟩ := zcell_of (G := G) (q := (t, n, tk)) (σ := σ) (k := k) (i := i) h7
    rw [e2] at hcell
    exact W.alen (n := Int32.ofNat n) hx hb hcell ((hK.1.2 t1 _ e1).1 _ _) (by rw [arrV_size] <;> rfl) rfl rfl hdg (h1 _ _ _ _ ht2 H locs la hR hC hS hL)
theorem zs_getstatic {cl : List vw_C} {own : String} {cc : ByteArray} {nL : Nat} {rt : Option FieldType} {Z : zZ} {G : zG} {d : Nat} {C0 : Nat → Nat} {Q : Option zV → zS → Prop} {AW W' : zAW} {pc tg : Nat} {ls : List (Option zV)} {st : List zV} {σ : zS} {V : zRes} (E : zEnv cl own cc nL rt Z G d C0 Q W') (h1 : ∀ pc ls st σ, AW pc ls st σ → W' pc ls st σ) (hV : zVok cl own V) {n : Nat} (hdg : decode cc pc = .ok (.getstatic n, 3)) (ht : zop cl V rt Z G d Q AW pc (.getstatic n) tg ls st σ) : W' pc ls st σ := by
  obtain ⟨p, l, e, s, m, args, below, meth, c, A, R, nc, ns, QQ, ⟨hx, hb, hml, hown, hts, hK, hr, hlocks, hA1, hA2, hST, hRm, hQ⟩, rfl⟩ := E
  dsimp only [zop] at ht
  cases hq : V.2.2.2.2.2.1 n with
  | none => rw [hq] at ht; exact ht.elim
  | some j =>
    rw [hq] at ht
    obtain ⟨w, g1, g2⟩ := hV.2.2.2.2.2.1 n j hq
    dsimp only at ht
    rw [g1] at ht
    obtain ⟨v, q1, q2⟩ := hST.1 w (List.mem_of_getElem? g1)
    obtain ⟨C, nm, ds, x⟩ := w
    intro H locs la hR hC hS hL
    refine va_gets hx hb q2 hS hown (hts _ g2) (fun _ h => h) hdg ?_
    rcases x with x | ⟨j1, x⟩
    · obtain rfl : v = .int x := q1
      exact h1 _ _ _ _ ht H locs la hR hC hS hL
    · cases x with
      | true =>
        obtain rfl : v = .ref (G.2.1 95 j1) := q1
        exact h1 _ _ _ _ ht H locs la hR hC hS hL
      | false =>
        have q1 : v = .null ∨ v = .ref (G.2.1 95 j1) := q1
        rcases q1 with rfl | rfl
        · exact h1 _ _ _ _ ht.1 H locs la hR hC hS hL
        · exact h1 _ _ _ _ ht.2 H locs la hR hC hS hL
theorem zs_dup_x1 {cl : List vw_C} {own : String} {cc : ByteArray} {nL : Nat} {rt : Option FieldType} {Z : zZ} {G : zG} {d : Nat} {C0 : Nat → Nat} {Q : Option zV → zS → Prop} {AW W' : zAW} {pc tg : Nat} {ls : List (Option zV)} {st : List zV} {σ : zS} {V : zRes} (E : zEnv cl own cc nL rt Z G d C0 Q W') (h1 : ∀ pc ls st σ, AW pc ls st σ → W' pc ls st σ) (hdg : decode cc pc = .ok (.dup_x1, 1)) (ht : zop cl V rt Z G d Q AW pc (.dup_x1) tg ls st σ) : W' pc ls st σ := by
  obtain ⟨p, l, e, s, m, args, below, meth, c, A, R, nc, ns, QQ, ⟨hx, hb, hml, hown, hts, hK, hr, hlocks, hA1, hA2, hST, hRm, hQ⟩, rfl⟩ := E
  dsimp only [zop] at ht
  split at ht
  · rename_i x w r
    intro H locs la hR hC hS hL
    exact lv_dup_x1 hx hb hdg rfl (by rcases w with w | w <;> rfl) (h1 _ _ _ _ ht H locs la hR hC hS hL)
  · intro H locs la hR hC hS hL
    exact lv_dup_x1 hx hb hdg rfl rfl (h1 _ _ _ _ ht H locs la hR hC hS hL)
  · exact ht.elim
theorem zs_ifnull {cl : List vw_C} {own : String} {cc : ByteArray} {nL : Nat} {rt : Option FieldType} {Z : zZ} {G : zG} {d : Nat} {C0 : Nat → Nat} {Q : Option zV → zS → Prop} {AW W' : zAW} {pc tg : Nat} {ls : List (Option zV)} {st : List zV} {σ : zS} {V : zRes} (E : zEnv cl own cc nL rt Z G d C0 Q W') (h1 : ∀ pc ls st σ, AW pc ls st σ → W' pc ls st σ) {n : Int} (hg : (pc : Int) + n = (tg : Int)) (hdg : decode cc pc = .ok (.ifnull n, 3)) (ht : zop cl V rt Z G d Q AW pc (.ifnull n) tg ls st σ) : W' pc ls st σ := by
  obtain ⟨p, l, e, s, m, args, below, meth, c, A, R, nc, ns, QQ, ⟨hx, hb, hml, hown, hts, hK, hr, hlocks, hA1, hA2, hST, hRm, hQ⟩, rfl⟩ := E
  dsimp only [zop] at ht
  cases st with
  | nil => exact ht.elim
  | cons v r =>
    intro H locs la hR hC hS hL
    rcases v with x | x | x | x
    · exact ht.elim
    · exact ht.elim
    · exact lv_ifnull hx hb hdg (h1 _ _ _ _ ht H locs la hR hC hS hL)
    · exact lv_ifnullN hx hb hdg hg (h1 _ _ _ _ ht H locs la hR hC hS hL)
theorem zs_ifnonnull {cl : List vw_C} {own : String} {cc : ByteArray} {nL : Nat} {rt : Option FieldType} {Z : zZ} {G : zG} {d : Nat} {C0 : Nat → Nat} {Q : Option zV → zS → Prop} {AW W' : zAW} {pc tg : Nat} {ls : List (Option zV)} {st : List zV} {σ : zS} {V : zRes} (E : zEnv cl own cc nL rt Z G d C0 Q W') (h1 : ∀ pc ls st σ, AW pc ls st σ → W' pc ls st σ) {n : Int} (hg : (pc : Int) + n = (tg : Int)) (hdg : decode cc pc = .ok (.ifnonnull n, 3)) (ht : zop cl V rt Z G d Q AW pc (.ifnonnull n) tg ls st σ) : W' pc ls st σ := by
  obtain ⟨p, l, e, s, m, args, below, meth, c, A, R, nc, ns, QQ, ⟨hx, hb, hml, hown, hts, hK, hr, hlocks, hA1, hA2, hST, hRm, hQ⟩, rfl⟩ := E
  dsimp only [zop] at ht
  cases st with
  | nil => exact ht.elim
  | cons v r =>
    intro H locs la hR hC hS hL
    rcases v with x | x | x | x
    · exact ht.elim
    · exact ht.elim
    · exact lv_ifnonnull hx hb hdg hg (h1 _ _ _ _ ht H locs la hR hC hS hL)
    · exact lv_ifnonnullN hx hb hdg (h1 _ _ _ _ ht H locs la hR hC hS hL)
