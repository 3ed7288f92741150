/-! SOUNDNESS, an instruction a row -/
theorem zs_iconst {cl : List vw_C} {own : String} {cc : ByteArray} {nL : Nat} {rt : Option FieldType} {Z : zZ} {G : zG} {d : Nat} {C0 : Nat → Nat} {Q : Option zV → zS → Prop} {AW W' : zAW} {pc tg : Nat} {ls : List (Option zV)} {st : List zV} {σ : zS} {V : zRes} (E : zEnv cl own cc nL rt Z G d C0 Q W') (h1 : ∀ pc ls st σ, AW pc ls st σ → W' pc ls st σ) {n : Int} (hv : Int32.ofInt n = zcst n) (hdg : decode cc pc = .ok (.iconst n, 1)) (ht : zop cl V rt Z G d Q AW pc (.iconst n) tg ls st σ) : W' pc ls st σ := by
  obtain ⟨p, l, e, s, m, args, below, meth, c, A, R, nc, ns, QQ, ⟨hx, hb, hml, hown, hts, hK, hr, hlocks, hA1, hA2, hST, hRm, hQ⟩, rfl⟩ := E
  dsimp only [zop] at ht
  intro H locs la hR hC hS hL
  exact lv_iconst hx hb hdg hv (h1 _ _ _ _ ht H locs la hR hC hS hL)
theorem zs_bipush {cl : List vw_C} {own : String} {cc : ByteArray} {nL : Nat} {rt : Option FieldType} {Z : zZ} {G : zG} {d : Nat} {C0 : Nat → Nat} {Q : Option zV → zS → Prop} {AW W' : zAW} {pc tg : Nat} {ls : List (Option zV)} {st : List zV} {σ : zS} {V : zRes} (E : zEnv cl own cc nL rt Z G d C0 Q W') (h1 : ∀ pc ls st σ, AW pc ls st σ → W' pc ls st σ) {n : Int} (hv : (Int8.ofInt n).toInt32 = zcst n) (hdg : decode cc pc = .ok (.bipush n, 2)) (ht : zop cl V rt Z G d Q AW pc (.bipush n) tg ls st σ) : W' pc ls st σ := by
  obtain ⟨p, l, e, s, m, args, below, meth, c, A, R, nc, ns, QQ, ⟨hx, hb, hml, hown, hts, hK, hr, hlocks, hA1, hA2, hST, hRm, hQ⟩, rfl⟩ := E
  dsimp only [zop] at ht
  intro H locs la hR hC hS hL
  exact lv_bipush hx hb hdg hv (h1 _ _ _ _ ht H locs la hR hC hS hL)
theorem zs_sipush {cl : List vw_C} {own : String} {cc : ByteArray} {nL : Nat} {rt : Option FieldType} {Z : zZ} {G : zG} {d : Nat} {C0 : Nat → Nat} {Q : Option zV → zS → Prop} {AW W' : zAW} {pc tg : Nat} {ls : List (Option zV)} {st : List zV} {σ : zS} {V : zRes} (E : zEnv cl own cc nL rt Z G d C0 Q W') (h1 : ∀ pc ls st σ, AW pc ls st σ → W' pc ls st σ) {n : Int} (hv : (Int16.ofInt n).toInt32 = zcst n) (hdg : decode cc pc = .ok (.sipush n, 3)) (ht : zop cl V rt Z G d Q AW pc (.sipush n) tg ls st σ) : W' pc ls st σ := by
  obtain ⟨p, l, e, s, m, args, below, meth, c, A, R, nc, ns, QQ, ⟨hx, hb, hml, hown, hts, hK, hr, hlocks, hA1, hA2, hST, hRm, hQ⟩, rfl⟩ := E
  dsimp only [zop] at ht
  intro H locs la hR hC hS hL
  exact lv_sipush hx hb hdg hv (h1 _ _ _ _ ht H locs la hR hC hS hL)
theorem zs_lconst {cl : List vw_C} {own : String} {cc : ByteArray} {nL : Nat} {rt : Option FieldType} {Z : zZ} {G : zG} {d : Nat} {C0 : Nat → Nat} {Q : Option zV → zS → Prop} {AW W' : zAW} {pc tg : Nat} {ls : List (Option zV)} {st : List zV} {σ : zS} {V : zRes} (E : zEnv cl own cc nL rt Z G d C0 Q W') (h1 : ∀ pc ls st σ, AW pc ls st σ → W' pc ls st σ) {n : Fin 2} (hdg : decode cc pc = .ok (.lconst n, 1)) (ht : zop cl V rt Z G d Q AW pc (.lconst n) tg ls st σ) : W' pc ls st σ := by
  obtain ⟨p, l, e, s, m, args, below, meth, c, A, R, nc, ns, QQ, ⟨hx, hb, hml, hown, hts, hK, hr, hlocks, hA1, hA2, hST, hRm, hQ⟩, rfl⟩ := E
  dsimp only [zop] at ht
  intro H locs la hR hC hS hL
  exact lv_lconst hx hb hdg rfl (h1 _ _ _ _ ht H locs la hR hC hS hL)
theorem zs_goto {cl : List vw_C} {own : String} {cc : ByteArray} {nL : Nat} {rt : Option FieldType} {Z : zZ} {G : zG} {d : Nat} {C0 : Nat → Nat} {Q : Option zV → zS → Prop} {AW W' : zAW} {pc tg : Nat} {ls : List (Option zV)} {st : List zV} {σ : zS} {V : zRes} (E : zEnv cl own cc nL rt Z G d C0 Q W') (h1 : ∀ pc ls st σ, AW pc ls st σ → W' pc ls st σ) {n : Int} (hg : (pc : Int) + n = (tg : Int)) (hdg : decode cc pc = .ok (.goto n, 3)) (ht : zop cl V rt Z G d Q AW pc (.goto n) tg ls st σ) : W' pc ls st σ := by
  obtain ⟨p, l, e, s, m, args, below, meth, c, A, R, nc, ns, QQ, ⟨hx, hb, hml, hown, hts, hK, hr, hlocks, hA1, hA2, hST, hRm, hQ⟩, rfl⟩ := E
  dsimp only [zop] at ht
  intro H locs la hR hC hS hL
  exact lv_goto hx hb hdg hg (h1 _ _ _ _ ht H locs la hR hC hS hL)
theorem zs_iload_n {cl : List vw_C} {own : String} {cc : ByteArray} {nL : Nat} {rt : Option FieldType} {Z : zZ} {G : zG} {d : Nat} {C0 : Nat → Nat} {Q : Option zV → zS → Prop} {AW W' : zAW} {pc tg : Nat} {ls : List (Option zV)} {st : List zV} {σ : zS} {V : zRes} (E : zEnv cl own cc nL rt Z G d C0 Q W') (h1 : ∀ pc ls st σ, AW pc ls st σ → W' pc ls st σ) {k : Fin 4} (hdg : decode cc pc = .ok (.iload_n k, 1)) (ht : zop cl V rt Z G d Q AW pc (.iload_n k) tg ls st σ) : W' pc ls st σ := by
  obtain ⟨p, l, e, s, m, args, below, meth, c, A, R, nc, ns, QQ, ⟨hx, hb, hml, hown, hts, hK, hr, hlocks, hA1, hA2, hST, hRm, hQ⟩, rfl⟩ := E
  dsimp only [zop] at ht
  obtain ⟨v, hv, ht⟩ := zlo_inv ht
  obtain ⟨x, rfl, ht⟩ := zi1_inv ht
  intro H locs la hR hC hS hL
  exact lv_iload_n hx hb hdg rfl (hL.at hv) (h1 _ _ _ _ ht H locs la hR hC hS hL)
theorem zs_iload {cl : List vw_C} {own : String} {cc : ByteArray} {nL : Nat} {rt : Option FieldType} {Z : zZ} {G : zG} {d : Nat} {C0 : Nat → Nat} {Q : Option zV → zS → Prop} {AW W' : zAW} {pc tg : Nat} {ls : List (Option zV)} {st : List zV} {σ : zS} {V : zRes} (E : zEnv cl own cc nL rt Z G d C0 Q W') (h1 : ∀ pc ls st σ, AW pc ls st σ → W' pc ls st σ) {k : Nat} (hdg : decode cc pc = .ok (.iload k, 2)) (ht : zop cl V rt Z G d Q AW pc (.iload k) tg ls st σ) : W' pc ls st σ := by
  obtain ⟨p, l, e, s, m, args, below, meth, c, A, R, nc, ns, QQ, ⟨hx, hb, hml, hown, hts, hK, hr, hlocks, hA1, hA2, hST, hRm, hQ⟩, rfl⟩ := E
  dsimp only [zop] at ht
  obtain ⟨v, hv, ht⟩ := zlo_inv ht
  obtain ⟨x, rfl, ht⟩ := zi1_inv ht
  intro H locs la hR hC hS hL
  exact lv_iload hx hb hdg (hL.at hv) (h1 _ _ _ _ ht H locs la hR hC hS hL)
theorem zs_lload_n {cl : List vw_C} {own : String} {cc : ByteArray} {nL : Nat} {rt : Option FieldType} {Z : zZ} {G : zG} {d : Nat} {C0 : Nat → Nat} {Q : Option zV → zS → Prop} {AW W' : zAW} {pc tg : Nat} {ls : List (Option zV)} {st : List zV} {σ : zS} {V : zRes} (E : zEnv cl own cc nL rt Z G d C0 Q W') (h1 : ∀ pc ls st σ, AW pc ls st σ → W' pc ls st σ) {k : Fin 4} (hdg : decode cc pc = .ok (.lload_n k, 1)) (ht : zop cl V rt Z G d Q AW pc (.lload_n k) tg ls st σ) : W' pc ls st σ := by
  obtain ⟨p, l, e, s, m, args, below, meth, c, A, R, nc, ns, QQ, ⟨hx, hb, hml, hown, hts, hK, hr, hlocks, hA1, hA2, hST, hRm, hQ⟩, rfl⟩ := E
  dsimp only [zop] at ht
  obtain ⟨v, hv, ht⟩ := zlo_inv ht
  obtain ⟨x, rfl, ht⟩ := zl1_inv ht
  intro H locs la hR hC hS hL
  exact lv_lload_n hx hb hdg rfl (hL.at hv) (h1 _ _ _ _ ht H locs la hR hC hS hL)
theorem zs_lload {cl : List vw_C} {own : String} {cc : ByteArray} {nL : Nat} {rt : Option FieldType} {Z : zZ} {G : zG} {d : Nat} {C0 : Nat → Nat} {Q : Option zV → zS → Prop} {AW W' : zAW} {pc tg : Nat} {ls : List (Option zV)} {st : List zV} {σ : zS} {V : zRes} (E : zEnv cl own cc nL rt Z G d C0 Q W') (h1 : ∀ pc ls st σ, AW pc ls st σ → W' pc ls st σ) {k : Nat} (hdg : decode cc pc = .ok (.lload k, 2)) (ht : zop cl V rt Z G d Q AW pc (.lload k) tg ls st σ) : W' pc ls st σ := by
  obtain ⟨p, l, e, s, m, args, below, meth, c, A, R, nc, ns, QQ, ⟨hx, hb, hml, hown, hts, hK, hr, hlocks, hA1, hA2, hST, hRm, hQ⟩, rfl⟩ := E
  dsimp only [zop] at ht
  obtain ⟨v, hv, ht⟩ := zlo_inv ht
  obtain ⟨x, rfl, ht⟩ := zl1_inv ht
  intro H locs la hR hC hS hL
  exact lv_lload hx hb hdg (hL.at hv) (h1 _ _ _ _ ht H locs la hR hC hS hL)
theorem zs_aload_n {cl : List vw_C} {own : String} {cc : ByteArray} {nL : Nat} {rt : Option FieldType} {Z : zZ} {G : zG} {d : Nat} {C0 : Nat → Nat} {Q : Option zV → zS → Prop} {AW W' : zAW} {pc tg : Nat} {ls : List (Option zV)} {st : List zV} {σ : zS} {V : zRes} (E : zEnv cl own cc nL rt Z G d C0 Q W') (h1 : ∀ pc ls st σ, AW pc ls st σ → W' pc ls st σ) {k : Fin 4} (hdg : decode cc pc = .ok (.aload_n k, 1)) (ht : zop cl V rt Z G d Q AW pc (.aload_n k) tg ls st σ) : W' pc ls st σ := by
  obtain ⟨p, l, e, s, m, args, below, meth, c, A, R, nc, ns, QQ, ⟨hx, hb, hml, hown, hts, hK, hr, hlocks, hA1, hA2, hST, hRm, hQ⟩, rfl⟩ := E
  dsimp only [zop] at ht
  obtain ⟨v, hv, ht⟩ := zlo_inv ht
  obtain ⟨a, b, r, hvr, ht⟩ := zr_inv ht
  obtain ⟨rfl, -⟩ := List.cons.inj hvr
  intro H locs la hR hC hS hL
  exact lv_aload_n hx hb hdg rfl (hL.at hv) (h1 _ _ _ _ ht H locs la hR hC hS hL)
theorem zs_aload {cl : List vw_C} {own : String} {cc : ByteArray} {nL : Nat} {rt : Option FieldType} {Z : zZ} {G : zG} {d : Nat} {C0 : Nat → Nat} {Q : Option zV → zS → Prop} {AW W' : zAW} {pc tg : Nat} {ls : List (Option zV)} {st : List zV} {σ : zS} {V : zRes} (E : zEnv cl own cc nL rt Z G d C0 Q W') (h1 : ∀ pc ls st σ, AW pc ls st σ → W' pc ls st σ) {k : Nat} (hdg : decode cc pc = .ok (.aload k, 2)) (ht : zop cl V rt Z G d Q AW pc (.aload k) tg ls st σ) : W' pc ls st σ := by
  obtain ⟨p, l, e, s, m, args, below, meth, c, A, R, nc, ns, QQ, ⟨hx, hb, hml, hown, hts, hK, hr, hlocks, hA1, hA2, hST, hRm, hQ⟩, rfl⟩ := E
  dsimp only [zop] at ht
  obtain ⟨v, hv, ht⟩ := zlo_inv ht
  obtain ⟨a, b, r, hvr, ht⟩ := zr_inv ht
  obtain ⟨rfl, -⟩ := List.cons.inj hvr
  intro H locs la hR hC hS hL
  exact lv_aload hx hb hdg (hL.at hv) (h1 _ _ _ _ ht H locs la hR hC hS hL)
theorem zs_istore_n {cl : List vw_C} {own : String} {cc : ByteArray} {nL : Nat} {rt : Option FieldType} {Z : zZ} {G : zG} {d : Nat} {C0 : Nat → Nat} {Q : Option zV → zS → Prop} {AW W' : zAW} {pc tg : Nat} {ls : List (Option zV)} {st : List zV} {σ : zS} {V : zRes} (E : zEnv cl own cc nL rt Z G d C0 Q W') (h1 : ∀ pc ls st σ, AW pc ls st σ → W' pc ls st σ) {k : Fin 4} (hn : (k : Nat) < nL) (hdg : decode cc pc = .ok (.istore_n k, 1)) (ht : zop cl V rt Z G d Q AW pc (.istore_n k) tg ls st σ) : W' pc ls st σ := by
  obtain ⟨p, l, e, s, m, args, below, meth, c, A, R, nc, ns, QQ, ⟨hx, hb, hml, hown, hts, hK, hr, hlocks, hA1, hA2, hST, hRm, hQ⟩, rfl⟩ := E
  dsimp only [zop] at ht
  obtain ⟨x, r, rfl, ht0⟩ := zi_inv ht
  have ht := ht0
  intro H locs la hR hC hS hL
  exact lv_istore_n hx hb hdg rfl hL.has hn rfl (fun la' hl' => h1 _ _ _ _ ht H locs la' hR hC hS (zLs.st1 (v := zI x) hL.2.2.1 hl'))
theorem zs_istore {cl : List vw_C} {own : String} {cc : ByteArray} {nL : Nat} {rt : Option FieldType} {Z : zZ} {G : zG} {d : Nat} {C0 : Nat → Nat} {Q : Option zV → zS → Prop} {AW W' : zAW} {pc tg : Nat} {ls : List (Option zV)} {st : List zV} {σ : zS} {V : zRes} (E : zEnv cl own cc nL rt Z G d C0 Q W') (h1 : ∀ pc ls st σ, AW pc ls st σ → W' pc ls st σ) {k : Nat} (hn : (k : Nat) < nL) (hdg : decode cc pc = .ok (.istore k, 2)) (ht : zop cl V rt Z G d Q AW pc (.istore k) tg ls st σ) : W' pc ls st σ := by
  obtain ⟨p, l, e, s, m, args, below, meth, c, A, R, nc, ns, QQ, ⟨hx, hb, hml, hown, hts, hK, hr, hlocks, hA1, hA2, hST, hRm, hQ⟩, rfl⟩ := E
  dsimp only [zop] at ht
  obtain ⟨x, r, rfl, ht0⟩ := zi_inv ht
  have ht := ht0
  intro H locs la hR hC hS hL
  exact lv_istore hx hb hdg hL.has hn rfl (fun la' hl' => h1 _ _ _ _ ht H locs la' hR hC hS (zLs.st1 (v := zI x) hL.2.2.1 hl'))
theorem zs_lstore_n {cl : List vw_C} {own : String} {cc : ByteArray} {nL : Nat} {rt : Option FieldType} {Z : zZ} {G : zG} {d : Nat} {C0 : Nat → Nat} {Q : Option zV → zS → Prop} {AW W' : zAW} {pc tg : Nat} {ls : List (Option zV)} {st : List zV} {σ : zS} {V : zRes} (E : zEnv cl own cc nL rt Z G d C0 Q W') (h1 : ∀ pc ls st σ, AW pc ls st σ → W' pc ls st σ) {k : Fin 4} (hn : (k : Nat) + 1 < nL) (hdg : decode cc pc = .ok (.lstore_n k, 1)) (ht : zop cl V rt Z G d Q AW pc (.lstore_n k) tg ls st σ) : W' pc ls st σ := by
  obtain ⟨p, l, e, s, m, args, below, meth, c, A, R, nc, ns, QQ, ⟨hx, hb, hml, hown, hts, hK, hr, hlocks, hA1, hA2, hST, hRm, hQ⟩, rfl⟩ := E
  dsimp only [zop] at ht
  obtain ⟨x, r, rfl, ht0⟩ := zl_inv ht
  have ht := ht0
  intro H locs la hR hC hS hL
  exact lv_lstore_n hx hb hdg rfl hL.has hn rfl (fun la' hl' => h1 _ _ _ _ ht H locs la' hR hC hS (zLs.st2 (v := zL x) hL.2.2.1 hl'))
theorem zs_lstore {cl : List vw_C} {own : String} {cc : ByteArray} {nL : Nat} {rt : Option FieldType} {Z : zZ} {G : zG} {d : Nat} {C0 : Nat → Nat} {Q : Option zV → zS → Prop} {AW W' : zAW} {pc tg : Nat} {ls : List (Option zV)} {st : List zV} {σ : zS} {V : zRes} (E : zEnv cl own cc nL rt Z G d C0 Q W') (h1 : ∀ pc ls st σ, AW pc ls st σ → W' pc ls st σ) {k : Nat} (hn : (k : Nat) + 1 < nL) (hdg : decode cc pc = .ok (.lstore k, 2)) (ht : zop cl V rt Z G d Q AW pc (.lstore k) tg ls st σ) : W' pc ls st σ := by
  obtain ⟨p, l, e, s, m, args, below, meth, c, A, R, nc, ns, QQ, ⟨hx, hb, hml, hown, hts, hK, hr, hlocks, hA1, hA2, hST, hRm, hQ⟩, rfl⟩ := E
  dsimp only [zop] at ht
  obtain ⟨x, r, rfl, ht0⟩ := zl_inv ht
  have ht := ht0
  intro H locs la hR hC hS hL
  exact lv_lstore hx hb hdg hL.has hn rfl (fun la' hl' => h1 _ _ _ _ ht H locs la' hR hC hS (zLs.st2 (v := zL x) hL.2.2.1 hl'))
theorem zs_astore_n {cl : List vw_C} {own : String} {cc : ByteArray} {nL : Nat} {rt : Option FieldType} {Z : zZ} {G : zG} {d : Nat} {C0 : Nat → Nat} {Q : Option zV → zS → Prop} {AW W' : zAW} {pc tg : Nat} {ls : List (Option zV)} {st : List zV} {σ : zS} {V : zRes} (E : zEnv cl own cc nL rt Z G d C0 Q W') (h1 : ∀ pc ls st σ, AW pc ls st σ → W' pc ls st σ) {k : Fin 4} (hn : (k : Nat) < nL) (hdg : decode cc pc = .ok (.astore_n k, 1)) (ht : zop cl V rt Z G d Q AW pc (.astore_n k) tg ls st σ) : W' pc ls st σ := by
  obtain ⟨p, l, e, s, m, args, below, meth, c, A, R, nc, ns, QQ, ⟨hx, hb, hml, hown, hts, hK, hr, hlocks, hA1, hA2, hST, hRm, hQ⟩, rfl⟩ := E
  dsimp only [zop] at ht
  obtain ⟨a, b, r, rfl, ht0⟩ := zr_inv ht
  have ht := ht0
  intro H locs la hR hC hS hL
  exact lv_astore_n hx hb hdg rfl hL.has hn rfl (fun la' hl' => h1 _ _ _ _ ht H locs la' hR hC hS (zLs.st1 (v := zR a b) hL.2.2.1 hl'))
theorem zs_astore {cl : List vw_C} {own : String} {cc : ByteArray} {nL : Nat} {rt : Option FieldType} {Z : zZ} {G : zG} {d : Nat} {C0 : Nat → Nat} {Q : Option zV → zS → Prop} {AW W' : zAW} {pc tg : Nat} {ls : List (Option zV)} {st : List zV} {σ : zS} {V : zRes} (E : zEnv cl own cc nL rt Z G d C0 Q W') (h1 : ∀ pc ls st σ, AW pc ls st σ → W' pc ls st σ) {k : Nat} (hn : (k : Nat) < nL) (hdg : decode cc pc = .ok (.astore k, 2)) (ht : zop cl V rt Z G d Q AW pc (.astore k) tg ls st σ) : W' pc ls st σ := by
  obtain ⟨p, l, e, s, m, args, below, meth, c, A, R, nc, ns, QQ, ⟨hx, hb, hml, hown, hts, hK, hr, hlocks, hA1, hA2, hST, hRm, hQ⟩, rfl⟩ := E
  dsimp only [zop] at ht
  obtain ⟨a, b, r, rfl, ht0⟩ := zr_inv ht
  have ht := ht0
  intro H locs la hR hC hS hL
  exact lv_astore hx hb hdg hL.has hn rfl (fun la' hl' => h1 _ _ _ _ ht H locs la' hR hC hS (zLs.st1 (v := zR a b) hL.2.2.1 hl'))
theorem zs_iinc {cl : List vw_C} {own : String} {cc : ByteArray} {nL : Nat} {rt : Option FieldType} {Z : zZ} {G : zG} {d : Nat} {C0 : Nat → Nat} {Q : Option zV → zS → Prop} {AW W' : zAW} {pc tg : Nat} {ls : List (Option zV)} {st : List zV} {σ : zS} {V : zRes} (E : zEnv cl own cc nL rt Z G d C0 Q W') (h1 : ∀ pc ls st σ, AW pc ls st σ → W' pc ls st σ) {k : Nat} {n : Int} (hn : k < nL) (hv0 : Int32.ofInt n = zcst n) (hdg : decode cc pc = .ok (.iinc k n, 3)) (ht : zop cl V rt Z G d Q AW pc (.iinc k n) tg ls st σ) : W' pc ls st σ := by
  obtain ⟨p, l, e, s, m, args, below, meth, c, A, R, nc, ns, QQ, ⟨hx, hb, hml, hown, hts, hK, hr, hlocks, hA1, hA2, hST, hRm, hQ⟩, rfl⟩ := E
  dsimp only [zop] at ht
  obtain ⟨v, hv, ht⟩ := zlo_inv ht
  obtain ⟨x, rfl, ht⟩ := zi1_inv ht
  intro H locs la hR hC hS hL
  obtain ⟨w, hw⟩ := List.getElem?_of_mem (zpairs_mem (ρ := G.2.1) (q := (k, .int x)).mpr ⟨zI x, hv, rfl⟩)
  exact lv_iinc hx hb hdg hL.has hw (by rw [hv0]) hn rfl (fun la' hl' => h1 _ _ _ _ ht H locs la' hR hC hS (zLs.st1 (v := zI (x + zcst n)) hL.2.2.1 hl'))
theorem zs_iadd {cl : List vw_C} {own : String} {cc : ByteArray} {nL : Nat} {rt : Option FieldType} {Z : zZ} {G : zG} {d : Nat} {C0 : Nat → Nat} {Q : Option zV → zS → Prop} {AW W' : zAW} {pc tg : Nat} {ls : List (Option zV)} {st : List zV} {σ : zS} {V : zRes} (E : zEnv cl own cc nL rt Z G d C0 Q W') (h1 : ∀ pc ls st σ, AW pc ls st σ → W' pc ls st σ) (hdg : decode cc pc = .ok (.iadd, 1)) (ht : zop cl V rt Z G d Q AW pc (.iadd) tg ls st σ) : W' pc ls st σ := by
  obtain ⟨p, l, e, s, m, args, below, meth, c, A, R, nc, ns, QQ, ⟨hx, hb, hml, hown, hts, hK, hr, hlocks, hA1, hA2, hST, hRm, hQ⟩, rfl⟩ := E
  dsimp only [zop] at ht
  obtain ⟨y, r0, rfl, ht0⟩ := zi_inv ht
  obtain ⟨x, r, rfl, ht⟩ := zi_inv ht0
  intro H locs la hR hC hS hL
  exact lv_iadd hx hb hdg (h1 _ _ _ _ ht H locs la hR hC hS hL)
theorem zs_isub {cl : List vw_C} {own : String} {cc : ByteArray} {nL : Nat} {rt : Option FieldType} {Z : zZ} {G : zG} {d : Nat} {C0 : Nat → Nat} {Q : Option zV → zS → Prop} {AW W' : zAW} {pc tg : Nat} {ls : List (Option zV)} {st : List zV} {σ : zS} {V : zRes} (E : zEnv cl own cc nL rt Z G d C0 Q W') (h1 : ∀ pc ls st σ, AW pc ls st σ → W' pc ls st σ) (hdg : decode cc pc = .ok (.isub, 1)) (ht : zop cl V rt Z G d Q AW pc (.isub) tg ls st σ) : W' pc ls st σ := by
  obtain ⟨p, l, e, s, m, args, below, meth, c, A, R, nc, ns, QQ, ⟨hx, hb, hml, hown, hts, hK, hr, hlocks, hA1, hA2, hST, hRm, hQ⟩, rfl⟩ := E
  dsimp only [zop] at ht
  obtain ⟨y, r0, rfl, ht0⟩ := zi_inv ht
  obtain ⟨x, r, rfl, ht⟩ := zi_inv ht0
  intro H locs la hR hC hS hL
  exact lv_isub hx hb hdg (h1 _ _ _ _ ht H locs la hR hC hS hL)
theorem zs_imul {cl : List vw_C} {own : String} {cc : ByteArray} {nL : Nat} {rt : Option FieldType} {Z : zZ} {G : zG} {d : Nat} {C0 : Nat → Nat} {Q : Option zV → zS → Prop} {AW W' : zAW} {pc tg : Nat} {ls : List (Option zV)} {st : List zV} {σ : zS} {V : zRes} (E : zEnv cl own cc nL rt Z G d C0 Q W') (h1 : ∀ pc ls st σ, AW pc ls st σ → W' pc ls st σ) (hdg : decode cc pc = .ok (.imul, 1)) (ht : zop cl V rt Z G d Q AW pc (.imul) tg ls st σ) : W' pc ls st σ := by
  obtain ⟨p, l, e, s, m, args, below, meth, c, A, R, nc, ns, QQ, ⟨hx, hb, hml, hown, hts, hK, hr, hlocks, hA1, hA2, hST, hRm, hQ⟩, rfl⟩ := E
  dsimp only [zop] at ht
  obtain ⟨y, r0, rfl, ht0⟩ := zi_inv ht
  obtain ⟨x, r, rfl, ht⟩ := zi_inv ht0
  intro H locs la hR hC hS hL
  exact lv_imul hx hb hdg (h1 _ _ _ _ ht H locs la hR hC hS hL)
theorem zs_iand {cl : List vw_C} {own : String} {cc : ByteArray} {nL : Nat} {rt : Option FieldType} {Z : zZ} {G : zG} {d : Nat} {C0 : Nat → Nat} {Q : Option zV → zS → Prop} {AW W' : zAW} {pc tg : Nat} {ls : List (Option zV)} {st : List zV} {σ : zS} {V : zRes} (E : zEnv cl own cc nL rt Z G d C0 Q W') (h1 : ∀ pc ls st σ, AW pc ls st σ → W' pc ls st σ) (hdg : decode cc pc = .ok (.iand, 1)) (ht : zop cl V rt Z G d Q AW pc (.iand) tg ls st σ) : W' pc ls st σ := by
  obtain ⟨p, l, e, s, m, args, below, meth, c, A, R, nc, ns, QQ, ⟨hx, hb, hml, hown, hts, hK, hr, hlocks, hA1, hA2, hST, hRm, hQ⟩, rfl⟩ := E
  dsimp only [zop] at ht
  obtain ⟨y, r0, rfl, ht0⟩ := zi_inv ht
  obtain ⟨x, r, rfl, ht⟩ := zi_inv ht0
  intro H locs la hR hC hS hL
  exact lv_iand hx hb hdg (h1 _ _ _ _ ht H locs la hR hC hS hL)
theorem zs_ior {cl : List vw_C} {own : String} {cc : ByteArray} {nL : Nat} {rt : Option FieldType} {Z : zZ} {G : zG} {d : Nat} {C0 : Nat → Nat} {Q : Option zV → zS → Prop} {AW W' : zAW} {pc tg : Nat} {ls : List (Option zV)} {st : List zV} {σ : zS} {V : zRes} (E : zEnv cl own cc nL rt Z G d C0 Q W') (h1 : ∀ pc ls st σ, AW pc ls st σ → W' pc ls st σ) (hdg : decode cc pc = .ok (.ior, 1)) (ht : zop cl V rt Z G d Q AW pc (.ior) tg ls st σ) : W' pc ls st σ := by
  obtain ⟨p, l, e, s, m, args, below, meth, c, A, R, nc, ns, QQ, ⟨hx, hb, hml, hown, hts, hK, hr, hlocks, hA1, hA2, hST, hRm, hQ⟩, rfl⟩ := E
  dsimp only [zop] at ht
  obtain ⟨y, r0, rfl, ht0⟩ := zi_inv ht
  obtain ⟨x, r, rfl, ht⟩ := zi_inv ht0
  intro H locs la hR hC hS hL
  exact lv_ior hx hb hdg (h1 _ _ _ _ ht H locs la hR hC hS hL)
theorem zs_ixor {cl : List vw_C} {own : String} {cc : ByteArray} {nL : Nat} {rt : Option FieldType} {Z : zZ} {G : zG} {d : Nat} {C0 : Nat → Nat} {Q : Option zV → zS → Prop} {AW W' : zAW} {pc tg : Nat} {ls : List (Option zV)} {st : List zV} {σ : zS} {V : zRes} (E : zEnv cl own cc nL rt Z G d C0 Q W') (h1 : ∀ pc ls st σ, AW pc ls st σ → W' pc ls st σ) (hdg : decode cc pc = .ok (.ixor, 1)) (ht : zop cl V rt Z G d Q AW pc (.ixor) tg ls st σ) : W' pc ls st σ := by
  obtain ⟨p, l, e, s, m, args, below, meth, c, A, R, nc, ns, QQ, ⟨hx, hb, hml, hown, hts, hK, hr, hlocks, hA1, hA2, hST, hRm, hQ⟩, rfl⟩ := E
  dsimp only [zop] at ht
  obtain ⟨y, r0, rfl, ht0⟩ := zi_inv ht
  obtain ⟨x, r, rfl, ht⟩ := zi_inv ht0
  intro H locs la hR hC hS hL
  exact lv_ixor hx hb hdg (h1 _ _ _ _ ht H locs la hR hC hS hL)
theorem zs_ishl {cl : List vw_C} {own : String} {cc : ByteArray} {nL : Nat} {rt : Option FieldType} {Z : zZ} {G : zG} {d : Nat} {C0 : Nat → Nat} {Q : Option zV → zS → Prop} {AW W' : zAW} {pc tg : Nat} {ls : List (Option zV)} {st : List zV} {σ : zS} {V : zRes} (E : zEnv cl own cc nL rt Z G d C0 Q W') (h1 : ∀ pc ls st σ, AW pc ls st σ → W' pc ls st σ) (hdg : decode cc pc = .ok (.ishl, 1)) (ht : zop cl V rt Z G d Q AW pc (.ishl) tg ls st σ) : W' pc ls st σ := by
  obtain ⟨p, l, e, s, m, args, below, meth, c, A, R, nc, ns, QQ, ⟨hx, hb, hml, hown, hts, hK, hr, hlocks, hA1, hA2, hST, hRm, hQ⟩, rfl⟩ := E
  dsimp only [zop] at ht
  obtain ⟨y, r0, rfl, ht0⟩ := zi_inv ht
  obtain ⟨x, r, rfl, ht⟩ := zi_inv ht0
  intro H locs la hR hC hS hL
  exact lv_ishl hx hb hdg (h1 _ _ _ _ ht H locs la hR hC hS hL)
theorem zs_ishr {cl : List vw_C} {own : String} {cc : ByteArray} {nL : Nat} {rt : Option FieldType} {Z : zZ} {G : zG} {d : Nat} {C0 : Nat → Nat} {Q : Option zV → zS → Prop} {AW W' : zAW} {pc tg : Nat} {ls : List (Option zV)} {st : List zV} {σ : zS} {V : zRes} (E : zEnv cl own cc nL rt Z G d C0 Q W') (h1 : ∀ pc ls st σ, AW pc ls st σ → W' pc ls st σ) (hdg : decode cc pc = .ok (.ishr, 1)) (ht : zop cl V rt Z G d Q AW pc (.ishr) tg ls st σ) : W' pc ls st σ := by
  obtain ⟨p, l, e, s, m, args, below, meth, c, A, R, nc, ns, QQ, ⟨hx, hb, hml, hown, hts, hK, hr, hlocks, hA1, hA2, hST, hRm, hQ⟩, rfl⟩ := E
  dsimp only [zop] at ht
  obtain ⟨y, r0, rfl, ht0⟩ := zi_inv ht
  obtain ⟨x, r, rfl, ht⟩ := zi_inv ht0
  intro H locs la hR hC hS hL
  exact lv_ishr hx hb hdg (h1 _ _ _ _ ht H locs la hR hC hS hL)
theorem zs_ladd {cl : List vw_C} {own : String} {cc : ByteArray} {nL : Nat} {rt : Option FieldType} {Z : zZ} {G : zG} {d : Nat} {C0 : Nat → Nat} {Q : Option zV → zS → Prop} {AW W' : zAW} {pc tg : Nat} {ls : List (Option zV)} {st : List zV} {σ : zS} {V : zRes} (E : zEnv cl own cc nL rt Z G d C0 Q W') (h1 : ∀ pc ls st σ, AW pc ls st σ → W' pc ls st σ) (hdg : decode cc pc = .ok (.ladd, 1)) (ht : zop cl V rt Z G d Q AW pc (.ladd) tg ls st σ) : W' pc ls st σ := by
  obtain ⟨p, l, e, s, m, args, below, meth, c, A, R, nc, ns, QQ, ⟨hx, hb, hml, hown, hts, hK, hr, hlocks, hA1, hA2, hST, hRm, hQ⟩, rfl⟩ := E
  dsimp only [zop] at ht
  obtain ⟨y, r0, rfl, ht0⟩ := zl_inv ht
  obtain ⟨x, r, rfl, ht⟩ := zl_inv ht0
  intro H locs la hR hC hS hL
  exact lv_ladd hx hb hdg (h1 _ _ _ _ ht H locs la hR hC hS hL)
theorem zs_lsub {cl : List vw_C} {own : String} {cc : ByteArray} {nL : Nat} {rt : Option FieldType} {Z : zZ} {G : zG} {d : Nat} {C0 : Nat → Nat} {Q : Option zV → zS → Prop} {AW W' : zAW} {pc tg : Nat} {ls : List (Option zV)} {st : List zV} {σ : zS} {V : zRes} (E : zEnv cl own cc nL rt Z G d C0 Q W') (h1 : ∀ pc ls st σ, AW pc ls st σ → W' pc ls st σ) (hdg : decode cc pc = .ok (.lsub, 1)) (ht : zop cl V rt Z G d Q AW pc (.lsub) tg ls st σ) : W' pc ls st σ := by
  obtain ⟨p, l, e, s, m, args, below, meth, c, A, R, nc, ns, QQ, ⟨hx, hb, hml, hown, hts, hK, hr, hlocks, hA1, hA2, hST, hRm, hQ⟩, rfl⟩ := E
  dsimp only [zop] at ht
  obtain ⟨y, r0, rfl, ht0⟩ := zl_inv ht
  obtain ⟨x, r, rfl, ht⟩ := zl_inv ht0
  intro H locs la hR hC hS hL
  exact lv_lsub hx hb hdg (h1 _ _ _ _ ht H locs la hR hC hS hL)
theorem zs_lmul {cl : List vw_C} {own : String} {cc : ByteArray} {nL : Nat} {rt : Option FieldType} {Z : zZ} {G : zG} {d : Nat} {C0 : Nat → Nat} {Q : Option zV → zS → Prop} {AW W' : zAW} {pc tg : Nat} {ls : List (Option zV)} {st : List zV} {σ : zS} {V : zRes} (E : zEnv cl own cc nL rt Z G d C0 Q W') (h1 : ∀ pc ls st σ, AW pc ls st σ → W' pc ls st σ) (hdg : decode cc pc = .ok (.lmul, 1)) (ht : zop cl V rt Z G d Q AW pc (.lmul) tg ls st σ) : W' pc ls st σ := by
  obtain ⟨p, l, e, s, m, args, below, meth, c, A, R, nc, ns, QQ, ⟨hx, hb, hml, hown, hts, hK, hr, hlocks, hA1, hA2, hST, hRm, hQ⟩, rfl⟩ := E
  dsimp only [zop] at ht
  obtain ⟨y, r0, rfl, ht0⟩ := zl_inv ht
  obtain ⟨x, r, rfl, ht⟩ := zl_inv ht0
  intro H locs la hR hC hS hL
  exact lv_lmul hx hb hdg (h1 _ _ _ _ ht H locs la hR hC hS hL)
theorem zs_lneg {cl : List vw_C} {own : String} {cc : ByteArray} {nL : Nat} {rt : Option FieldType} {Z : zZ} {G : zG} {d : Nat} {C0 : Nat → Nat} {Q : Option zV → zS → Prop} {AW W' : zAW} {pc tg : Nat} {ls : List (Option zV)} {st : List zV} {σ : zS} {V : zRes} (E : zEnv cl own cc nL rt Z G d C0 Q W') (h1 : ∀ pc ls st σ, AW pc ls st σ → W' pc ls st σ) (hdg : decode cc pc = .ok (.lneg, 1)) (ht : zop cl V rt Z G d Q AW pc (.lneg) tg ls st σ) : W' pc ls st σ := by
  obtain ⟨p, l, e, s, m, args, below, meth, c, A, R, nc, ns, QQ, ⟨hx, hb, hml, hown, hts, hK, hr, hlocks, hA1, hA2, hST, hRm, hQ⟩, rfl⟩ := E
  dsimp only [zop] at ht
  obtain ⟨x, r, rfl, ht0⟩ := zl_inv ht
  have ht := ht0
  intro H locs la hR hC hS hL
  exact lv_lneg hx hb hdg (h1 _ _ _ _ ht H locs la hR hC hS hL)
theorem zs_ineg {cl : List vw_C} {own : String} {cc : ByteArray} {nL : Nat} {rt : Option FieldType} {Z : zZ} {G : zG} {d : Nat} {C0 : Nat → Nat} {Q : Option zV → zS → Prop} {AW W' : zAW} {pc tg : Nat} {ls : List (Option zV)} {st : List zV} {σ : zS} {V : zRes} (E : zEnv cl own cc nL rt Z G d C0 Q W') (h1 : ∀ pc ls st σ, AW pc ls st σ → W' pc ls st σ) (hdg : decode cc pc = .ok (.ineg, 1)) (ht : zop cl V rt Z G d Q AW pc (.ineg) tg ls st σ) : W' pc ls st σ := by
  obtain ⟨p, l, e, s, m, args, below, meth, c, A, R, nc, ns, QQ, ⟨hx, hb, hml, hown, hts, hK, hr, hlocks, hA1, hA2, hST, hRm, hQ⟩, rfl⟩ := E
  dsimp only [zop] at ht
  obtain ⟨x, r, rfl, ht0⟩ := zi_inv ht
  have ht := ht0
  intro H locs la hR hC hS hL
  exact lv_ineg hx hb hdg (h1 _ _ _ _ ht H locs la hR hC hS hL)
theorem zs_i2c {cl : List vw_C} {own : String} {cc : ByteArray} {nL : Nat} {rt : Option FieldType} {Z : zZ} {G : zG} {d : Nat} {C0 : Nat → Nat} {Q : Option zV → zS → Prop} {AW W' : zAW} {pc tg : Nat} {ls : List (Option zV)} {st : List zV} {σ : zS} {V : zRes} (E : zEnv cl own cc nL rt Z G d C0 Q W') (h1 : ∀ pc ls st σ, AW pc ls st σ → W' pc ls st σ) (hdg : decode cc pc = .ok (.i2c, 1)) (ht : zop cl V rt Z G d Q AW pc (.i2c) tg ls st σ) : W' pc ls st σ := by
  obtain ⟨p, l, e, s, m, args, below, meth, c, A, R, nc, ns, QQ, ⟨hx, hb, hml, hown, hts, hK, hr, hlocks, hA1, hA2, hST, hRm, hQ⟩, rfl⟩ := E
  dsimp only [zop] at ht
  obtain ⟨x, r, rfl, ht0⟩ := zi_inv ht
  have ht := ht0
  intro H locs la hR hC hS hL
  exact lv_i2c hx hb hdg rfl (h1 _ _ _ _ ht H locs la hR hC hS hL)
theorem zs_lcmp {cl : List vw_C} {own : String} {cc : ByteArray} {nL : Nat} {rt : Option FieldType} {Z : zZ} {G : zG} {d : Nat} {C0 : Nat → Nat} {Q : Option zV → zS → Prop} {AW W' : zAW} {pc tg : Nat} {ls : List (Option zV)} {st : List zV} {σ : zS} {V : zRes} (E : zEnv cl own cc nL rt Z G d C0 Q W') (h1 : ∀ pc ls st σ, AW pc ls st σ → W' pc ls st σ) (hdg : decode cc pc = .ok (.lcmp, 1)) (ht : zop cl V rt Z G d Q AW pc (.lcmp) tg ls st σ) : W' pc ls st σ := by
  obtain ⟨p, l, e, s, m, args, below, meth, c, A, R, nc, ns, QQ, ⟨hx, hb, hml, hown, hts, hK, hr, hlocks, hA1, hA2, hST, hRm, hQ⟩, rfl⟩ := E
  dsimp only [zop] at ht
  obtain ⟨y, r0, rfl, ht0⟩ := zl_inv ht
  obtain ⟨x, r, rfl, ht⟩ := zl_inv ht0
  intro H locs la hR hC hS hL
  exact W.lcmp hx hb hdg (h1 _ _ _ _ ht H locs la hR hC hS hL)
theorem zs_idiv {cl : List vw_C} {own : String} {cc : ByteArray} {nL : Nat} {rt : Option FieldType} {Z : zZ} {G : zG} {d : Nat} {C0 : Nat → Nat} {Q : Option zV → zS → Prop} {AW W' : zAW} {pc tg : Nat} {ls : List (Option zV)} {st : List zV} {σ : zS} {V : zRes} (E : zEnv cl own cc nL rt Z G d C0 Q W') (h1 : ∀ pc ls st σ, AW pc ls st σ → W' pc ls st σ) (hdg : decode cc pc = .ok (.idiv, 1)) (ht : zop cl V rt Z G d Q AW pc (.idiv) tg ls st σ) : W' pc ls st σ := by
  obtain ⟨p, l, e, s, m, args, below, meth, c, A, R, nc, ns, QQ, ⟨hx, hb, hml, hown, hts, hK, hr, hlocks, hA1, hA2, hST, hRm, hQ⟩, rfl⟩ := E
  dsimp only [zop] at ht
  obtain ⟨y, r0, rfl, ht0⟩ := zi_inv ht
  obtain ⟨x, r, rfl, ht⟩ := zi_inv ht0
  intro H locs la hR hC hS hL
  exact lv_idiv hx hb hdg ht.1 (h1 _ _ _ _ ht.2 H locs la hR hC hS hL)
theorem zs_irem {cl : List vw_C} {own : String} {cc : ByteArray} {nL : Nat} {rt : Option FieldType} {Z : zZ} {G : zG} {d : Nat} {C0 : Nat → Nat} {Q : Option zV → zS → Prop} {AW W' : zAW} {pc tg : Nat} {ls : List (Option zV)} {st : List zV} {σ : zS} {V : zRes} (E : zEnv cl own cc nL rt Z G d C0 Q W') (h1 : ∀ pc ls st σ, AW pc ls st σ → W' pc ls st σ) (hdg : decode cc pc = .ok (.irem, 1)) (ht : zop cl V rt Z G d Q AW pc (.irem) tg ls st σ) : W' pc ls st σ := by
  obtain ⟨p, l, e, s, m, args, below, meth, c, A, R, nc, ns, QQ, ⟨hx, hb, hml, hown, hts, hK, hr, hlocks, hA1, hA2, hST, hRm, hQ⟩, rfl⟩ := E
  dsimp only [zop] at ht
  obtain ⟨y, r0, rfl, ht0⟩ := zi_inv ht
  obtain ⟨x, r, rfl, ht⟩ := zi_inv ht0
  intro H locs la hR hC hS hL
  exact lv_irem hx hb hdg ht.1 (h1 _ _ _ _ ht.2 H locs la hR hC hS hL)
theorem zs_ldiv {cl : List vw_C} {own : String} {cc : ByteArray} {nL : Nat} {rt : Option FieldType} {Z : zZ} {G : zG} {d : Nat} {C0 : Nat → Nat} {Q : Option zV → zS → Prop} {AW W' : zAW} {pc tg : Nat} {ls : List (Option zV)} {st : List zV} {σ : zS} {V : zRes} (E : zEnv cl own cc nL rt Z G d C0 Q W') (h1 : ∀ pc ls st σ, AW pc ls st σ → W' pc ls st σ) (hdg : decode cc pc = .ok (.ldiv, 1)) (ht : zop cl V rt Z G d Q AW pc (.ldiv) tg ls st σ) : W' pc ls st σ := by
  obtain ⟨p, l, e, s, m, args, below, meth, c, A, R, nc, ns, QQ, ⟨hx, hb, hml, hown, hts, hK, hr, hlocks, hA1, hA2, hST, hRm, hQ⟩, rfl⟩ := E
  dsimp only [zop] at ht
  obtain ⟨y, r0, rfl, ht0⟩ := zl_inv ht
  obtain ⟨x, r, rfl, ht⟩ := zl_inv ht0
  intro H locs la hR hC hS hL
  exact lv_ldiv hx hb hdg ht.1 (h1 _ _ _ _ ht.2 H locs la hR hC hS hL)
theorem zs_lrem {cl : List vw_C} {own : String} {cc : ByteArray} {nL : Nat} {rt : Option FieldType} {Z : zZ} {G : zG} {d : Nat} {C0 : Nat → Nat} {Q : Option zV → zS → Prop} {AW W' : zAW} {pc tg : Nat} {ls : List (Option zV)} {st : List zV} {σ : zS} {V : zRes} (E : zEnv cl own cc nL rt Z G d C0 Q W') (h1 : ∀ pc ls st σ, AW pc ls st σ → W' pc ls st σ) (hdg : decode cc pc = .ok (.lrem, 1)) (ht : zop cl V rt Z G d Q AW pc (.lrem) tg ls st σ) : W' pc ls st σ := by
  obtain ⟨p, l, e, s, m, args, below, meth, c, A, R, nc, ns, QQ, ⟨hx, hb, hml, hown, hts, hK, hr, hlocks, hA1, hA2, hST, hRm, hQ⟩, rfl⟩ := E
  dsimp only [zop] at ht
  obtain ⟨y, r0, rfl, ht0⟩ := zl_inv ht
  obtain ⟨x, r, rfl, ht⟩ := zl_inv ht0
  intro H locs la hR hC hS hL
  exact lv_lrem hx hb hdg ht.1 (h1 _ _ _ _ ht.2 H locs la hR hC hS hL)
theorem zs_lshl {cl : List vw_C} {own : String} {cc : ByteArray} {nL : Nat} {rt : Option FieldType} {Z : zZ} {G : zG} {d : Nat} {C0 : Nat → Nat} {Q : Option zV → zS → Prop} {AW W' : zAW} {pc tg : Nat} {ls : List (Option zV)} {st : List zV} {σ : zS} {V : zRes} (E : zEnv cl own cc nL rt Z G d C0 Q W') (h1 : ∀ pc ls st σ, AW pc ls st σ → W' pc ls st σ) (hdg : decode cc pc = .ok (.lshl, 1)) (ht : zop cl V rt Z G d Q AW pc (.lshl) tg ls st σ) : W' pc ls st σ := by
  obtain ⟨p, l, e, s, m, args, below, meth, c, A, R, nc, ns, QQ, ⟨hx, hb, hml, hown, hts, hK, hr, hlocks, hA1, hA2, hST, hRm, hQ⟩, rfl⟩ := E
  dsimp only [zop] at ht
  obtain ⟨y, r0, rfl, ht0⟩ := zi_inv ht
  obtain ⟨x, r, rfl, ht⟩ := zl_inv ht0
  intro H locs la hR hC hS hL
  exact lv_lshl hx hb hdg rfl (h1 _ _ _ _ ht H locs la hR hC hS hL)
theorem zs_lshr {cl : List vw_C} {own : String} {cc : ByteArray} {nL : Nat} {rt : Option FieldType} {Z : zZ} {G : zG} {d : Nat} {C0 : Nat → Nat} {Q : Option zV → zS → Prop} {AW W' : zAW} {pc tg : Nat} {ls : List (Option zV)} {st : List zV} {σ : zS} {V : zRes} (E : zEnv cl own cc nL rt Z G d C0 Q W') (h1 : ∀ pc ls st σ, AW pc ls st σ → W' pc ls st σ) (hdg : decode cc pc = .ok (.lshr, 1)) (ht : zop cl V rt Z G d Q AW pc (.lshr) tg ls st σ) : W' pc ls st σ := by
  obtain ⟨p, l, e, s, m, args, below, meth, c, A, R, nc, ns, QQ, ⟨hx, hb, hml, hown, hts, hK, hr, hlocks, hA1, hA2, hST, hRm, hQ⟩, rfl⟩ := E
  dsimp only [zop] at ht
  obtain ⟨y, r0, rfl, ht0⟩ := zi_inv ht
  obtain ⟨x, r, rfl, ht⟩ := zl_inv ht0
  intro H locs la hR hC hS hL
  exact lv_lshr hx hb hdg rfl (h1 _ _ _ _ ht H locs la hR hC hS hL)
theorem zs_i2l {cl : List vw_C} {own : String} {cc : ByteArray} {nL : Nat} {rt : Option FieldType} {Z : zZ} {G : zG} {d : Nat} {C0 : Nat → Nat} {Q : Option zV → zS → Prop} {AW W' : zAW} {pc tg : Nat} {ls : List (Option zV)} {st : List zV} {σ : zS} {V : zRes} (E : zEnv cl own cc nL rt Z G d C0 Q W') (h1 : ∀ pc ls st σ, AW pc ls st σ → W' pc ls st σ) (hdg : decode cc pc = .ok (.i2l, 1)) (ht : zop cl V rt Z G d Q AW pc (.i2l) tg ls st σ) : W' pc ls st σ := by
  obtain ⟨p, l, e, s, m, args, below, meth, c, A, R, nc, ns, QQ, ⟨hx, hb, hml, hown, hts, hK, hr, hlocks, hA1, hA2, hST, hRm, hQ⟩, rfl⟩ := E
  dsimp only [zop] at ht
  obtain ⟨x, r, rfl, ht0⟩ := zi_inv ht
  have ht := ht0
  intro H locs la hR hC hS hL
  exact lv_i2l hx hb hdg rfl (h1 _ _ _ _ ht H locs la hR hC hS hL)
theorem zs_i2b {cl : List vw_C} {own : String} {cc : ByteArray} {nL : Nat} {rt : Option FieldType} {Z : zZ} {G : zG} {d : Nat} {C0 : Nat → Nat} {Q : Option zV → zS → Prop} {AW W' : zAW} {pc tg : Nat} {ls : List (Option zV)} {st : List zV} {σ : zS} {V : zRes} (E : zEnv cl own cc nL rt Z G d C0 Q W') (h1 : ∀ pc ls st σ, AW pc ls st σ → W' pc ls st σ) (hdg : decode cc pc = .ok (.i2b, 1)) (ht : zop cl V rt Z G d Q AW pc (.i2b) tg ls st σ) : W' pc ls st σ := by
  obtain ⟨p, l, e, s, m, args, below, meth, c, A, R, nc, ns, QQ, ⟨hx, hb, hml, hown, hts, hK, hr, hlocks, hA1, hA2, hST, hRm, hQ⟩, rfl⟩ := E
  dsimp only [zop] at ht
  obtain ⟨x, r, rfl, ht0⟩ := zi_inv ht
  have ht := ht0
  intro H locs la hR hC hS hL
  exact lv_i2b hx hb hdg rfl (h1 _ _ _ _ ht H locs la hR hC hS hL)
theorem zs_l2i {cl : List vw_C} {own : String} {cc : ByteArray} {nL : Nat} {rt : Option FieldType} {Z : zZ} {G : zG} {d : Nat} {C0 : Nat → Nat} {Q : Option zV → zS → Prop} {AW W' : zAW} {pc tg : Nat} {ls : List (Option zV)} {st : List zV} {σ : zS} {V : zRes} (E : zEnv cl own cc nL rt Z G d C0 Q W') (h1 : ∀ pc ls st σ, AW pc ls st σ → W' pc ls st σ) (hdg : decode cc pc = .ok (.l2i, 1)) (ht : zop cl V rt Z G d Q AW pc (.l2i) tg ls st σ) : W' pc ls st σ := by
  obtain ⟨p, l, e, s, m, args, below, meth, c, A, R, nc, ns, QQ, ⟨hx, hb, hml, hown, hts, hK, hr, hlocks, hA1, hA2, hST, hRm, hQ⟩, rfl⟩ := E
  dsimp only [zop] at ht
  obtain ⟨x, r, rfl, ht0⟩ := zl_inv ht
  have ht := ht0
  intro H locs la hR hC hS hL
  exact lv_l2i hx hb hdg rfl (h1 _ _ _ _ ht H locs la hR hC hS hL)
theorem zs_if_eq {cl : List vw_C} {own : String} {cc : ByteArray} {nL : Nat} {rt : Option FieldType} {Z : zZ} {G : zG} {d : Nat} {C0 : Nat → Nat} {Q : Option zV → zS → Prop} {AW W' : zAW} {pc tg : Nat} {ls : List (Option zV)} {st : List zV} {σ : zS} {V : zRes} (E : zEnv cl own cc nL rt Z G d C0 Q W') (h1 : ∀ pc ls st σ, AW pc ls st σ → W' pc ls st σ) {n : Int} (hg : (pc : Int) + n = (tg : Int)) (hdg : decode cc pc = .ok (.ifCond .eq n, 3)) (ht : zop cl V rt Z G d Q AW pc (.ifCond .eq n) tg ls st σ) : W' pc ls st σ := by
  obtain ⟨p, l, e, s, m, args, below, meth, c, A, R, nc, ns, QQ, ⟨hx, hb, hml, hown, hts, hK, hr, hlocks, hA1, hA2, hST, hRm, hQ⟩, rfl⟩ := E
  dsimp only [zop] at ht
  obtain ⟨x, r, rfl, ht0⟩ := zi_inv ht
  have ht := ht0
  intro H locs la hR hC hS hL
  exact lv_if_eq hx hb hdg hg (fun q => h1 _ _ _ _ (ht.1 q) H locs la hR hC hS hL) (fun q => h1 _ _ _ _ (ht.2 q) H locs la hR hC hS hL)
theorem zs_icmp_eq {cl : List vw_C} {own : String} {cc : ByteArray} {nL : Nat} {rt : Option FieldType} {Z : zZ} {G : zG} {d : Nat} {C0 : Nat → Nat} {Q : Option zV → zS → Prop} {AW W' : zAW} {pc tg : Nat} {ls : List (Option zV)} {st : List zV} {σ : zS} {V : zRes} (E : zEnv cl own cc nL rt Z G d C0 Q W') (h1 : ∀ pc ls st σ, AW pc ls st σ → W' pc ls st σ) {n : Int} (hg : (pc : Int) + n = (tg : Int)) (hdg : decode cc pc = .ok (.if_icmp .eq n, 3)) (ht : zop cl V rt Z G d Q AW pc (.if_icmp .eq n) tg ls st σ) : W' pc ls st σ := by
  obtain ⟨p, l, e, s, m, args, below, meth, c, A, R, nc, ns, QQ, ⟨hx, hb, hml, hown, hts, hK, hr, hlocks, hA1, hA2, hST, hRm, hQ⟩, rfl⟩ := E
  dsimp only [zop] at ht
  obtain ⟨y, r0, rfl, ht0⟩ := zi_inv ht
  obtain ⟨x, r, rfl, ht⟩ := zi_inv ht0
  intro H locs la hR hC hS hL
  exact lv_icmp_eq hx hb hdg hg (fun q => h1 _ _ _ _ (ht.1 q) H locs la hR hC hS hL) (fun q => h1 _ _ _ _ (ht.2 q) H locs la hR hC hS hL)
theorem zs_if_ne {cl : List vw_C} {own : String} {cc : ByteArray} {nL : Nat} {rt : Option FieldType} {Z : zZ} {G : zG} {d : Nat} {C0 : Nat → Nat} {Q : Option zV → zS → Prop} {AW W' : zAW} {pc tg : Nat} {ls : List (Option zV)} {st : List zV} {σ : zS} {V : zRes} (E : zEnv cl own cc nL rt Z G d C0 Q W') (h1 : ∀ pc ls st σ, AW pc ls st σ → W' pc ls st σ) {n : Int} (hg : (pc : Int) + n = (tg : Int)) (hdg : decode cc pc = .ok (.ifCond .ne n, 3)) (ht : zop cl V rt Z G d Q AW pc (.ifCond .ne n) tg ls st σ) : W' pc ls st σ := by
  obtain ⟨p, l, e, s, m, args, below, meth, c, A, R, nc, ns, QQ, ⟨hx, hb, hml, hown, hts, hK, hr, hlocks, hA1, hA2, hST, hRm, hQ⟩, rfl⟩ := E
  dsimp only [zop] at ht
  obtain ⟨x, r, rfl, ht0⟩ := zi_inv ht
  have ht := ht0
  intro H locs la hR hC hS hL
  exact lv_if_ne hx hb hdg hg (fun q => h1 _ _ _ _ (ht.2 q) H locs la hR hC hS hL) (fun q => h1 _ _ _ _ (ht.1 q) H locs la hR hC hS hL)
theorem zs_icmp_ne {cl : List vw_C} {own : String} {cc : ByteArray} {nL : Nat} {rt : Option FieldType} {Z : zZ} {G : zG} {d : Nat} {C0 : Nat → Nat} {Q : Option zV → zS → Prop} {AW W' : zAW} {pc tg : Nat} {ls : List (Option zV)} {st : List zV} {σ : zS} {V : zRes} (E : zEnv cl own cc nL rt Z G d C0 Q W') (h1 : ∀ pc ls st σ, AW pc ls st σ → W' pc ls st σ) {n : Int} (hg : (pc : Int) + n = (tg : Int)) (hdg : decode cc pc = .ok (.if_icmp .ne n, 3)) (ht : zop cl V rt Z G d Q AW pc (.if_icmp .ne n) tg ls st σ) : W' pc ls st σ := by
  obtain ⟨p, l, e, s, m, args, below, meth, c, A, R, nc, ns, QQ, ⟨hx, hb, hml, hown, hts, hK, hr, hlocks, hA1, hA2, hST, hRm, hQ⟩, rfl⟩ := E
  dsimp only [zop] at ht
  obtain ⟨y, r0, rfl, ht0⟩ := zi_inv ht
  obtain ⟨x, r, rfl, ht⟩ := zi_inv ht0
  intro H locs la hR hC hS hL
  exact lv_icmp_ne hx hb hdg hg (fun q => h1 _ _ _ _ (ht.2 q) H locs la hR hC hS hL) (fun q => h1 _ _ _ _ (ht.1 q) H locs la hR hC hS hL)
theorem zs_if_lt {cl : List vw_C} {own : String} {cc : ByteArray} {nL : Nat} {rt : Option FieldType} {Z : zZ} {G : zG} {d : Nat} {C0 : Nat → Nat} {Q : Option zV → zS → Prop} {AW W' : zAW} {pc tg : Nat} {ls : List (Option zV)} {st : List zV} {σ : zS} {V : zRes} (E : zEnv cl own cc nL rt Z G d C0 Q W') (h1 : ∀ pc ls st σ, AW pc ls st σ → W' pc ls st σ) {n : Int} (hg : (pc : Int) + n = (tg : Int)) (hdg : decode cc pc = .ok (.ifCond .lt n, 3)) (ht : zop cl V rt Z G d Q AW pc (.ifCond .lt n) tg ls st σ) : W' pc ls st σ := by
  obtain ⟨p, l, e, s, m, args, below, meth, c, A, R, nc, ns, QQ, ⟨hx, hb, hml, hown, hts, hK, hr, hlocks, hA1, hA2, hST, hRm, hQ⟩, rfl⟩ := E
  dsimp only [zop] at ht
  obtain ⟨x, r, rfl, ht0⟩ := zi_inv ht
  have ht := ht0
  intro H locs la hR hC hS hL
  exact lv_if_lt hx hb hdg hg (fun q => h1 _ _ _ _ (ht.1 q) H locs la hR hC hS hL) (fun q => h1 _ _ _ _ (ht.2 q) H locs la hR hC hS hL)
theorem zs_icmp_lt {cl : List vw_C} {own : String} {cc : ByteArray} {nL : Nat} {rt : Option FieldType} {Z : zZ} {G : zG} {d : Nat} {C0 : Nat → Nat} {Q : Option zV → zS → Prop} {AW W' : zAW} {pc tg : Nat} {ls : List (Option zV)} {st : List zV} {σ : zS} {V : zRes} (E : zEnv cl own cc nL rt Z G d C0 Q W') (h1 : ∀ pc ls st σ, AW pc ls st σ → W' pc ls st σ) {n : Int} (hg : (pc : Int) + n = (tg : Int)) (hdg : decode cc pc = .ok (.if_icmp .lt n, 3)) (ht : zop cl V rt Z G d Q AW pc (.if_icmp .lt n) tg ls st σ) : W' pc ls st σ := by
  obtain ⟨p, l, e, s, m, args, below, meth, c, A, R, nc, ns, QQ, ⟨hx, hb, hml, hown, hts, hK, hr, hlocks, hA1, hA2, hST, hRm, hQ⟩, rfl⟩ := E
  dsimp only [zop] at ht
  obtain ⟨y, r0, rfl, ht0⟩ := zi_inv ht
  obtain ⟨x, r, rfl, ht⟩ := zi_inv ht0
  intro H locs la hR hC hS hL
  exact lv_icmp_lt hx hb hdg hg (fun q => h1 _ _ _ _ (ht.1 q) H locs la hR hC hS hL) (fun q => h1 _ _ _ _ (ht.2 q) H locs la hR hC hS hL)
theorem zs_if_ge {cl : List vw_C} {own : String} {cc : ByteArray} {nL : Nat} {rt : Option FieldType} {Z : zZ} {G : zG} {d : Nat} {C0 : Nat → Nat} {Q : Option zV → zS → Prop} {AW W' : zAW} {pc tg : Nat} {ls : List (Option zV)} {st : List zV} {σ : zS} {V : zRes} (E : zEnv cl own cc nL rt Z G d C0 Q W') (h1 : ∀ pc ls st σ, AW pc ls st σ → W' pc ls st σ) {n : Int} (hg : (pc : Int) + n = (tg : Int)) (hdg : decode cc pc = .ok (.ifCond .ge n, 3)) (ht : zop cl V rt Z G d Q AW pc (.ifCond .ge n) tg ls st σ) : W' pc ls st σ := by
  obtain ⟨p, l, e, s, m, args, below, meth, c, A, R, nc, ns, QQ, ⟨hx, hb, hml, hown, hts, hK, hr, hlocks, hA1, hA2, hST, hRm, hQ⟩, rfl⟩ := E
  dsimp only [zop] at ht
  obtain ⟨x, r, rfl, ht0⟩ := zi_inv ht
  have ht := ht0
  intro H locs la hR hC hS hL
  exact lv_if_ge hx hb hdg hg (fun q => h1 _ _ _ _ (ht.2 (Int32.not_lt.mpr q)) H locs la hR hC hS hL) (fun q => h1 _ _ _ _ (ht.1 (Int32.not_le.mp q)) H locs la hR hC hS hL)
theorem zs_icmp_ge {cl : List vw_C} {own : String} {cc : ByteArray} {nL : Nat} {rt : Option FieldType} {Z : zZ} {G : zG} {d : Nat} {C0 : Nat → Nat} {Q : Option zV → zS → Prop} {AW W' : zAW} {pc tg : Nat} {ls : List (Option zV)} {st : List zV} {σ : zS} {V : zRes} (E : zEnv cl own cc nL rt Z G d C0 Q W') (h1 : ∀ pc ls st σ, AW pc ls st σ → W' pc ls st σ) {n : Int} (hg : (pc : Int) + n = (tg : Int)) (hdg : decode cc pc = .ok (.if_icmp .ge n, 3)) (ht : zop cl V rt Z G d Q AW pc (.if_icmp .ge n) tg ls st σ) : W' pc ls st σ := by
  obtain ⟨p, l, e, s, m, args, below, meth, c, A, R, nc, ns, QQ, ⟨hx, hb, hml, hown, hts, hK, hr, hlocks, hA1, hA2, hST, hRm, hQ⟩, rfl⟩ := E
  dsimp only [zop] at ht
  obtain ⟨y, r0, rfl, ht0⟩ := zi_inv ht
  obtain ⟨x, r, rfl, ht⟩ := zi_inv ht0
  intro H locs la hR hC hS hL
  exact lv_icmp_ge hx hb hdg hg (fun q => h1 _ _ _ _ (ht.2 (Int32.not_lt.mpr q)) H locs la hR hC hS hL) (fun q => h1 _ _ _ _ (ht.1 (Int32.not_le.mp q)) H locs la hR hC hS hL)
theorem zs_if_gt {cl : List vw_C} {own : String} {cc : ByteArray} {nL : Nat} {rt : Option FieldType} {Z : zZ} {G : zG} {d : Nat} {C0 : Nat → Nat} {Q : Option zV → zS → Prop} {AW W' : zAW} {pc tg : Nat} {ls : List (Option zV)} {st : List zV} {σ : zS} {V : zRes} (E : zEnv cl own cc nL rt Z G d C0 Q W') (h1 : ∀ pc ls st σ, AW pc ls st σ → W' pc ls st σ) {n : Int} (hg : (pc : Int) + n = (tg : Int)) (hdg : decode cc pc = .ok (.ifCond .gt n, 3)) (ht : zop cl V rt Z G d Q AW pc (.ifCond .gt n) tg ls st σ) : W' pc ls st σ := by
  obtain ⟨p, l, e, s, m, args, below, meth, c, A, R, nc, ns, QQ, ⟨hx, hb, hml, hown, hts, hK, hr, hlocks, hA1, hA2, hST, hRm, hQ⟩, rfl⟩ := E
  dsimp only [zop] at ht
  obtain ⟨x, r, rfl, ht0⟩ := zi_inv ht
  have ht := ht0
  intro H locs la hR hC hS hL
  exact lv_if_gt hx hb hdg hg (fun q => h1 _ _ _ _ (ht.1 q) H locs la hR hC hS hL) (fun q => h1 _ _ _ _ (ht.2 q) H locs la hR hC hS hL)
theorem zs_icmp_gt {cl : List vw_C} {own : String} {cc : ByteArray} {nL : Nat} {rt : Option FieldType} {Z : zZ} {G : zG} {d : Nat} {C0 : Nat → Nat} {Q : Option zV → zS → Prop} {AW W' : zAW} {pc tg : Nat} {ls : List (Option zV)} {st : List zV} {σ : zS} {V : zRes} (E : zEnv cl own cc nL rt Z G d C0 Q W') (h1 : ∀ pc ls st σ, AW pc ls st σ → W' pc ls st σ) {n : Int} (hg : (pc : Int) + n = (tg : Int)) (hdg : decode cc pc = .ok (.if_icmp .gt n, 3)) (ht : zop cl V rt Z G d Q AW pc (.if_icmp .gt n) tg ls st σ) : W' pc ls st σ := by
  obtain ⟨p, l, e, s, m, args, below, meth, c, A, R, nc, ns, QQ, ⟨hx, hb, hml, hown, hts, hK, hr, hlocks, hA1, hA2, hST, hRm, hQ⟩, rfl⟩ := E
  dsimp only [zop] at ht
  obtain ⟨y, r0, rfl, ht0⟩ := zi_inv ht
  obtain ⟨x, r, rfl, ht⟩ := zi_inv ht0
  intro H locs la hR hC hS hL
  exact lv_icmp_gt hx hb hdg hg (fun q => h1 _ _ _ _ (ht.1 q) H locs la hR hC hS hL) (fun q => h1 _ _ _ _ (ht.2 q) H locs la hR hC hS hL)
theorem zs_if_le {cl : List vw_C} {own : String} {cc : ByteArray} {nL : Nat} {rt : Option FieldType} {Z : zZ} {G : zG} {d : Nat} {C0 : Nat → Nat} {Q : Option zV → zS → Prop} {AW W' : zAW} {pc tg : Nat} {ls : List (Option zV)} {st : List zV} {σ : zS} {V : zRes} (E : zEnv cl own cc nL rt Z G d C0 Q W') (h1 : ∀ pc ls st σ, AW pc ls st σ → W' pc ls st σ) {n : Int} (hg : (pc : Int) + n = (tg : Int)) (hdg : decode cc pc = .ok (.ifCond .le n, 3)) (ht : zop cl V rt Z G d Q AW pc (.ifCond .le n) tg ls st σ) : W' pc ls st σ := by
  obtain ⟨p, l, e, s, m, args, below, meth, c, A, R, nc, ns, QQ, ⟨hx, hb, hml, hown, hts, hK, hr, hlocks, hA1, hA2, hST, hRm, hQ⟩, rfl⟩ := E
  dsimp only [zop] at ht
  obtain ⟨x, r, rfl, ht0⟩ := zi_inv ht
  have ht := ht0
  intro H locs la hR hC hS hL
  exact lv_if_le hx hb hdg hg (fun q => h1 _ _ _ _ (ht.2 (Int32.not_lt.mpr q)) H locs la hR hC hS hL) (fun q => h1 _ _ _ _ (ht.1 (Int32.not_le.mp q)) H locs la hR hC hS hL)
theorem zs_icmp_le {cl : List vw_C} {own : String} {cc : ByteArray} {nL : Nat} {rt : Option FieldType} {Z : zZ} {G : zG} {d : Nat} {C0 : Nat → Nat} {Q : Option zV → zS → Prop} {AW W' : zAW} {pc tg : Nat} {ls : List (Option zV)} {st : List zV} {σ : zS} {V : zRes} (E : zEnv cl own cc nL rt Z G d C0 Q W') (h1 : ∀ pc ls st σ, AW pc ls st σ → W' pc ls st σ) {n : Int} (hg : (pc : Int) + n = (tg : Int)) (hdg : decode cc pc = .ok (.if_icmp .le n, 3)) (ht : zop cl V rt Z G d Q AW pc (.if_icmp .le n) tg ls st σ) : W' pc ls st σ := by
  obtain ⟨p, l, e, s, m, args, below, meth, c, A, R, nc, ns, QQ, ⟨hx, hb, hml, hown, hts, hK, hr, hlocks, hA1, hA2, hST, hRm, hQ⟩, rfl⟩ := E
  dsimp only [zop] at ht
  obtain ⟨y, r0, rfl, ht0⟩ := zi_inv ht
  obtain ⟨x, r, rfl, ht⟩ := zi_inv ht0
  intro H locs la hR hC hS hL
  exact lv_icmp_le hx hb hdg hg (fun q => h1 _ _ _ _ (ht.2 (Int32.not_lt.mpr q)) H locs la hR hC hS hL) (fun q => h1 _ _ _ _ (ht.1 (Int32.not_le.mp q)) H locs la hR hC hS hL)
