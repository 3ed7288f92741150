/-! SOUNDNESS: fields, arrays, calls, ends -/
def zFok (cl : List vw_C) (own : String) (n : Nat) (q : Nat × Nat × Nat) : Prop := ∃ (C : String) (T : u_T) (N : Nat) (ty : Nat → FieldType), cl[q.1]? = some (C, T, N) ∧ (∀ w ∈ u_ws C T N, w ∈ lw_all) ∧ q.2.1 < N ∧ (∀ k, k < N → parseFieldDescriptor (T k).2.2.1 = some (ty k)) ∧ (∀ a, a < N → ∀ b, b < N → a ≠ b → (T a).2.1 ≠ (T b).2.1) ∧
  (Cond.fieldLink own n (T q.2.1).1 (T q.2.1).2.1 (T q.2.1).2.2.1 ∈ lw_all ∨ ∃ host, Cond.fieldLinkNest own n (T q.2.1).1 (T q.2.1).2.1 (T q.2.1).2.2.1 host ∈ lw_tbl) ∧
  (q.2.2 = 1 → (T q.2.1).2.2.2 = false ∧ ty q.2.1 = .int) ∧ (q.2.2 = 2 → (T q.2.1).2.2.2 = false ∧ ty q.2.1 = .long)
def zMok (cl : List vw_C) (own : String) (n : Nat) (e : zM × Nat × Nat × Nat × Nat) : Prop :=
  (e.1.1.cls ≠ "java/lang/invoke/MethodHandle" ∧ e.1.1.cls ≠ "java/lang/invoke/VarHandle" ∧ (parseMethodDescriptor e.1.1.desc).map (fun d => d.parameters.length) = some e.2.1) ∧ e.1.2.2.1 ≤ 29 ∧
  match e.2.2.1 with
  | 0 => GoodIn lw_all (wsV own n e.1.1.cls e.1.1 (ws_ e.1.1 e.1.2.1 e.1.2.2.1 e.1.2.2.2)) ∧ ∃ r, cl[e.2.2.2.1]? = some r ∧ r.1 = e.1.1.cls
  | 1 => GoodIn lw_all (va_wsS own n e.1.1 (ws_ e.1.1 e.1.2.1 e.1.2.2.1 e.1.2.2.2))
  | 2 => GoodIn lw_all (ws_ e.1.1 e.1.2.1 e.1.2.2.1 e.1.2.2.2) ∧ (∃ host, Cond.methodLinkNest own n e.1.1 host ∈ lw_tbl) ∧ Cond.initialized e.1.1.cls ∈ lw_all ∧ Cond.instanceMethod e.1.1 ∈ lw_all ∧ Cond.selects e.1.1.cls e.1.1 e.1.1 ∈ lw_all ∧ ∃ r, cl[e.2.2.2.1]? = some r ∧ r.1 = e.1.1.cls
  | 3 => GoodIn lw_all (ws_ e.1.1 e.1.2.1 e.1.2.2.1 e.1.2.2.2) ∧ (∃ host, Cond.methodLinkNest own n e.1.1 host ∈ lw_tbl) ∧ Cond.initialized e.1.1.cls ∈ lw_all ∧ Cond.static e.1.1 ∈ lw_all
  | 4 => ∃ (x : MethodName) (r : vw_C), GoodIn lw_all (va_wsF own n r.1 x e.1.1 (ws_ e.1.1 e.1.2.1 e.1.2.2.1 e.1.2.2.2)) ∧ (x.cls ≠ "java/lang/invoke/MethodHandle" ∧ x.cls ≠ "java/lang/invoke/VarHandle" ∧ (parseMethodDescriptor x.desc).map (fun d => d.parameters.length) = some e.2.1) ∧ cl[e.2.2.2.1]? = some r ∧ Cond.declares x ∈ lw_tbl ∧ Cond.interfaceMethod x.cls x.cls x.name x.desc ∈ lw_tbl ∧ Cond.publicMethod e.1.1 ∈ lw_tbl ∧ Cond.unhidden r.1 x.name x.desc ∈ lw_tbl ∧ Cond.castable r.1 x.cls ∈ lw_tbl
  | _ => False
def zVok (cl : List vw_C) (own : String) (V : zRes) : Prop := (∀ n q, V.1 n = some q → zFok cl own n q) ∧ (∀ n e, V.2.1 n = some e → zMok cl own n e) ∧ (∀ n x, V.2.2.1 n = some x → Cond.constant own n x ∈ lw_all) ∧ (∀ n x, V.2.2.2.1 n = some x → Cond.constantLong own n x ∈ lw_all) ∧ (∀ n ci, V.2.2.2.2.1 n = some ci → ∃ r : vw_C, cl[ci]? = some r ∧ Cond.classLink own n r.1 ∈ lw_all) ∧ (∀ n j, V.2.2.2.2.2.1 n = some j → ∃ q, zSts[j]? = some q ∧ Cond.fieldLink own n q.1 q.2.1 q.2.2.1 ∈ lw_all) ∧ ∀ n j, V.2.2.2.2.2.2 n = some j → ∃ tx, (own, n, tx, j) ∈ zStr
theorem zat_cls {cl : List vw_C} {Z : zZ} {G : zG} {σ : zS} {k i ci : Nat} {H : Heap} (h : zat cl Z G σ k i H) (hc : Z.1 k = some ci) : ∃ r : vw_C, cl[ci]? = some r ∧ t_OB (G.2.1 k i) (G.1.1 ci) r.2.2 (G.1.2 ci) H (fun f => zC G.2.1 (zfv (Z.2.1 k f) k f i σ)) := by
  unfold zat at h
  simp only [hc] at h
  exact h
theorem zat_arr {cl : List vw_C} {Z : zZ} {G : zG} {σ : zS} {k i : Nat} {q : Nat × Nat × Nat} {H : Heap} (h : zat cl Z G σ k i H) (hc : Z.1 k = none) (ha : Z.2.2.1 k = some q) : H[G.2.1 k i]? = some (zcell G q σ k i) := by
  unfold zat at h
  simp only [hc, ha] at h
  exact h
theorem zat_ofcls {cl : List vw_C} {Z : zZ} {G : zG} {σ : zS} {k i ci : Nat} {H : Heap} (hc : Z.1 k = some ci) (h : ∃ r : vw_C, cl[ci]? = some r ∧ t_OB (G.2.1 k i) (G.1.1 ci) r.2.2 (G.1.2 ci) H (fun f => zC G.2.1 (zfv (Z.2.1 k f) k f i σ))) : zat cl Z G σ k i H := by
  unfold zat
  simp only [hc]
  exact h
theorem zat_ofarr {cl : List vw_C} {Z : zZ} {G : zG} {σ : zS} {k i : Nat} {q : Nat × Nat × Nat} {H : Heap} (hc : Z.1 k = none) (ha : Z.2.2.1 k = some q) (h : H[G.2.1 k i]? = some (zcell G q σ k i)) : zat cl Z G σ k i H := by
  unfold zat
  simp only [hc, ha]
  exact h
theorem zgetf_inv {Z : zZ} {q : Nat × Nat × Nat} {K : zV → Prop} {k i : Nat} {σ : zS} (h : zgetf Z q K k i σ) : Z.1 k = some q.1 ∧ zlv Z σ.2.2.2.2 k i ∧ K (zfv (Z.2.1 k q.2.1) k q.2.1 i σ) := by
  unfold zgetf at h
  cases hc : Z.1 k with
  | none => simp only [hc] at h
  | some ci =>
    simp only [hc] at h
    obtain ⟨h1, h2⟩ := zb_inv h
    obtain ⟨h3, h4⟩ := zliv_inv h2
    exact ⟨by rw [Nat.eq_of_beq_eq_true h1], h3, h4⟩
theorem zarr_inv {Z : zZ} {k i : Nat} {σ : zS} {K : Nat × Nat × Nat → Prop} (h : zarr Z k i σ K) : ∃ q, Z.1 k = none ∧ Z.2.2.1 k = some q ∧ zlv Z σ.2.2.2.2 k i ∧ K q := by
  unfold zarr at h
  cases hc : Z.1 k with
  | some ci => simp only [hc] at h
  | none =>
    simp only [hc] at h
    cases ha : Z.2.2.1 k with
    | none => simp only [ha] at h
    | some q =>
      simp only [ha] at h
      obtain ⟨h3, h4⟩ := zliv_inv h
      exact ⟨q, rfl, rfl, h3, h4⟩
theorem zs_getfield {cl : List vw_C} {own : String} {cc : ByteArray} {nL : Nat} {rt : Option FieldType} {Z : zZ} {G : zG} {d : Nat} {C0 : Nat → Nat} {Q : Option zV → zS → Prop} {AW W' : zAW} {pc tg : Nat} {ls : List (Option zV)} {st : List zV} {σ : zS} {V : zRes} (E : zEnv cl own cc nL rt Z G d C0 Q W') (h1 : ∀ pc ls st σ, AW pc ls st σ → W' pc ls st σ) (hV : zVok cl own V) {n : Nat} (hdg : decode cc pc = .ok (.getfield n, 3)) (ht : zop cl V rt Z G d Q AW pc (.getfield n) tg ls st σ) : W' pc ls st σ := by
  obtain ⟨p, l, e, s, m, args, below, meth, c, A, R, nc, ns, QQ, ⟨hx, hb, hml, hown, hts, hK, hr, hlocks, hA1, hA2, hST, hRm, hQ⟩, rfl⟩ := E
  dsimp only [zop] at ht
  cases hq : V.1 n with
  | none => rw [hq] at ht; exact ht.elim
  | some q =>
    rw [hq] at ht
    obtain ⟨k, i, r, rfl, h0⟩ := zr_inv ht
    obtain ⟨hc, hl, h2⟩ := zgetf_inv h0
    obtain ⟨C, T, N, ty, g1, g2, g3, g4, g5, g6, -⟩ := hV.1 n q hq
    intro H locs la hR hC hS hL
    obtain ⟨r', e1, cell, q1, q2, q3, q4⟩ := zat_cls (hR.1.1 k i hl) hc
    have hr' : r' = (C, T, N) := Option.some.inj (e1.symm.trans g1)
    subst hr'
    obtain ⟨hSl, hfc, kC, hkC, hkind⟩ := hK.1.1 _ _ g1
    obtain ⟨cf, kf, fi, f, hi, hsl⟩ := hSl q.2.1 g3
    have hst := (u_facts hfc hkC (u_lays hts g2 g3) hi).1
    have hslot : cell.slots[f.slot]? = some (zC G.2.1 (zfv (Z.2.1 k q.2.1) k q.2.1 i σ)) := by rw [hsl]; exact q4 _ g3
    have kk := h1 _ _ _ _ h2 H locs la hR hC hS hL
    rcases g6 with g6 | ⟨host, g6⟩
    · exact W.getf hx hb hown (hts _ g6) hi hst q1 (by rw [q3]; exact fun h => by cases h) hslot rfl rfl hdg kk
    · exact va_Wgetf hx hb hown (va_Nw.use rfl (hK.2.1 _ g6 rfl)) hi hst q1 (by rw [q3]; exact fun h => by cases h) hslot rfl rfl hdg kk
theorem zRel_setI {cl : List vw_C} {Z : zZ} {G : zG} {σ : zS} {H H1 : Heap} {k f i ci : Nat} {x : Int32} {r : vw_C} {cell : Cell} (hR : zRel cl Z G σ H) (hl : zlv Z σ.2.2.2.2 k i) (hfz : Z.2.2.2.2 k = false) (hc : Z.1 k = some ci) (hs : Z.2.1 k f = 0) (g1 : cl[ci]? = some r) (hf : f < r.2.2) (q1 : H[G.2.1 k i]? = some cell) (q2 : cell.cls = G.1.1 ci) (q3 : cell.vm = .none) (q4 : ∀ j, j < r.2.2 → cell.slots[G.1.2 ci j]? = some (zC G.2.1 (zfv (Z.2.1 k j) k j i σ))) (hap : ∀ a b, a < r.2.2 → b < r.2.2 → a ≠ b → G.1.2 ci a ≠ G.1.2 ci b)
    (e1 : H1[G.2.1 k i]? = some (cell.setSlot (G.1.2 ci f) (.int x))) (e2 : H1.size = H.size) (e3 : ∀ q, q ≠ G.2.1 k i → H1[q]? = H[q]?) : zRel cl Z G (uI σ k f i x) H1 := by
  refine zHp.step hR ⟨hl, by rw [hc]; rfl⟩ (zwr_obj hfz hc) rfl e2 e3 (zat_ofcls hc ⟨r, g1, _, e1, q2, q3, fun j hj => ?_⟩) (fun k' i' hne h => zat_obj (σ := σ) rfl rfl rfl (fun f' => zfv_uI (fun w => hne ⟨w.1, w.2.2⟩)) h)
  rw [t_set q4 hap hf (.int x) j hj]
  show some (updV _ f (Value.int x) j) = some (zC G.2.1 (zfv (Z.2.1 k j) k j i (uI σ k f i x)))
  by_cases hjf : j = f
  · subst hjf
    have : zfv (Z.2.1 k j) k j i (uI σ k j i x) = zI x := by
      rw [hs]
      show zI (bif Nat.beq k k && (Nat.beq j j && Nat.beq i i) then x else σ.1 k j i) = _
      rw [zself3]
      rfl
    rw [this]
    simp [updV, zC]
  · rw [zfv_uI (fun w => hjf w.2.1)]
    simp [updV, hjf]
theorem zRel_setL {cl : List vw_C} {Z : zZ} {G : zG} {σ : zS} {H H1 : Heap} {k f i ci : Nat} {x : Int64} {r : vw_C} {cell : Cell} (hR : zRel cl Z G σ H) (hl : zlv Z σ.2.2.2.2 k i) (hfz : Z.2.2.2.2 k = false) (hc : Z.1 k = some ci) (hs : Z.2.1 k f = 1) (g1 : cl[ci]? = some r) (hf : f < r.2.2) (q1 : H[G.2.1 k i]? = some cell) (q2 : cell.cls = G.1.1 ci) (q3 : cell.vm = .none) (q4 : ∀ j, j < r.2.2 → cell.slots[G.1.2 ci j]? = some (zC G.2.1 (zfv (Z.2.1 k j) k j i σ))) (hap : ∀ a b, a < r.2.2 → b < r.2.2 → a ≠ b → G.1.2 ci a ≠ G.1.2 ci b)
    (e1 : H1[G.2.1 k i]? = some (cell.setSlot (G.1.2 ci f) (.long x))) (e2 : H1.size = H.size) (e3 : ∀ q, q ≠ G.2.1 k i → H1[q]? = H[q]?) : zRel cl Z G (uL σ k f i x) H1 := by
  refine zHp.step hR ⟨hl, by rw [hc]; rfl⟩ (zwr_obj hfz hc) rfl e2 e3 (zat_ofcls hc ⟨r, g1, _, e1, q2, q3, fun j hj => ?_⟩) (fun k' i' hne h => zat_obj (σ := σ) rfl rfl rfl (fun f' => zfv_uL (fun w => hne ⟨w.1, w.2.2⟩)) h)
  rw [t_set q4 hap hf (.long x) j hj]
  show some (updV _ f (Value.long x) j) = some (zC G.2.1 (zfv (Z.2.1 k j) k j i (uL σ k f i x)))
  by_cases hjf : j = f
  · subst hjf
    have : zfv (Z.2.1 k j) k j i (uL σ k j i x) = zL x := by
      rw [hs]
      show zL (bif Nat.beq k k && (Nat.beq j j && Nat.beq i i) then x else σ.2.1 k j i) = _
      rw [zself3]
      rfl
    rw [this]
    simp [updV, zC]
  · rw [zfv_uL (fun w => hjf w.2.1)]
    simp [updV, hjf]
theorem zputf_inv {Z : zZ} {q : Nat × Nat × Nat} {v : zV} {K : zS → Prop} {k i : Nat} {σ : zS} (h : zputf Z q v K k i σ) : Z.1 k = some q.1 ∧ Z.2.2.2.2 k = false ∧ zlv Z σ.2.2.2.2 k i ∧ ((Z.2.1 k q.2.1 = 0 ∧ q.2.2 = 1 ∧ ∃ x, v = zI x ∧ K (uI σ k q.2.1 i x)) ∨ (Z.2.1 k q.2.1 = 1 ∧ q.2.2 = 2 ∧ ∃ x, v = zL x ∧ K (uL σ k q.2.1 i x))) := by
  unfold zputf at h
  cases hc : Z.1 k with
  | none => simp only [hc] at h
  | some ci =>
    simp only [hc] at h
    obtain ⟨h1, h2⟩ := zb_inv h
    obtain ⟨hf, h2⟩ := zb_inv h2
    obtain ⟨h3, h4⟩ := zliv_inv h2
    refine ⟨by rw [Nat.eq_of_beq_eq_true h1], by simpa using hf, h3, ?_⟩
    split at h4
    · exact Or.inl ⟨by assumption, by assumption, _, rfl, h4⟩
    · exact Or.inr ⟨by assumption, by assumption, _, rfl, h4⟩
    · exact h4.elim
theorem zs_putfield {cl : List vw_C} {own : String} {cc : ByteArray} {nL : Nat} {rt : Option FieldType} {Z : zZ} {G : zG} {d : Nat} {C0 : Nat → Nat} {Q : Option zV → zS → Prop} {AW W' : zAW} {pc tg : Nat} {ls : List (Option zV)} {st : List zV} {σ : zS} {V : zRes} (E : zEnv cl own cc nL rt Z G d C0 Q W') (h1 : ∀ pc ls st σ, AW pc ls st σ → W' pc ls st σ) (hV : zVok cl own V) {n : Nat} (hdg : decode cc pc = .ok (.putfield n, 3)) (ht : zop cl V rt Z G d Q AW pc (.putfield n) tg ls st σ) : W' pc ls st σ := by
  obtain ⟨p, l, e, s, m, args, below, meth, c, A, R, nc, ns, QQ, ⟨hx, hb, hml, hown, hts, hK, hr, hlocks, hA1, hA2, hST, hRm, hQ⟩, rfl⟩ := E
  dsimp only [zop] at ht
  cases hq : V.1 n with
  | none => rw [hq] at ht; exact ht.elim
  | some q =>
    rw [hq] at ht
    cases st with
    | nil => exact ht.elim
    | cons v st =>
      have ht : zr st (fun k i r => zputf Z q v (fun σ1 => AW (pc + 3) ls r σ1) k i σ) := ht
      obtain ⟨k, i, r, rfl, h0⟩ := zr_inv ht
      obtain ⟨hc, hfz, hl, h2⟩ := zputf_inv h0
      obtain ⟨C, T, N, ty, g1, g2, g3, g4, g5, g6, g7, g8⟩ := hV.1 n q hq
      intro H locs la hR hC hS hL
      obtain ⟨r', e1, cell, q1, q2, q3, q4⟩ := zat_cls (hR.1.1 k i hl) hc
      have hr' : r' = (C, T, N) := Option.some.inj (e1.symm.trans g1)
      subst hr'
      have hap := va_apart (own := own) hts g2 ty g4 g5 hK.1 g1
      obtain ⟨hSl, hfc, kC, hkC, hkind⟩ := hK.1.1 _ _ g1
      obtain ⟨cf, kf, fi, f, hi, hsl⟩ := hSl q.2.1 g3
      have hst := (u_facts hfc hkC (u_lays hts g2 g3) hi).1
      have hlay := hts _ (g2 _ (u_in_lay g3))
      unfold u_lay at hlay
      have hAk : A (G.2.1 k i) := hA1 _ ⟨k, i, ⟨by rw [← hC]; exact hl, by rw [hc]; rfl⟩, zwr_obj hfz hc, rfl⟩
      rcases h2 with ⟨s1, s2, x, rfl, h2⟩ | ⟨s1, s2, x, rfl, h2⟩
      · obtain ⟨f1, f2⟩ := g7 s2
        rw [if_neg (by rw [f1]; decide)] at hlay
        have h6 : k2_Sd s f cell.cls (.int x) := by rw [q2]; exact u_store hfc hkC hkind hlay hi ((g4 _ g3).trans (by rw [f2])) rfl rfl
        have kk : ∀ H' : Heap, H'[G.2.1 k i]? = some (cell.setSlot f.slot (.int x)) → H'.size = H.size → (∀ q, q ≠ G.2.1 k i → H'[q]? = H[q]?) → W p l e R s m args below meth c H' (locs ++ [⟨G.2.1 k i, f.slot⟩]) nc ns QQ (F0 m (pc + 3) la (r.map (zC G.2.1))) := by
          intro H' e1 e2 e3
          rw [hsl] at e1
          exact h1 _ _ _ _ h2 H' _ la (zRel_setI hR hl hfz hc s1 g1 g3 q1 q2 q3 q4 hap e1 e2 e3) hC (hS.put e2 e3 hAk) hL
        rcases g6 with g6 | ⟨host, g6⟩
        · exact W.putK hx hb (f := f) ⟨hown, hts _ g6, ⟨_, _, _, hi⟩, hst⟩ h6 q1 q3 (by rw [hsl]; exact k2_hasslot (q4 _ g3)) rfl rfl hdg kk
        · exact va_WputK hx hb (f := f) hown (va_Nw.use rfl (hK.2.1 _ g6 rfl)) hi hst h6 q1 q3 (by rw [hsl]; exact k2_hasslot (q4 _ g3)) rfl rfl hdg kk
      · obtain ⟨f1, f2⟩ := g8 s2
        rw [if_neg (by rw [f1]; decide)] at hlay
        have h6 : k2_Sd s f cell.cls (.long x) := by rw [q2]; exact u_store hfc hkC hkind hlay hi ((g4 _ g3).trans (by rw [f2])) rfl rfl
        have kk : ∀ H' : Heap, H'[G.2.1 k i]? = some (cell.setSlot f.slot (.long x)) → H'.size = H.size → (∀ q, q ≠ G.2.1 k i → H'[q]? = H[q]?) → W p l e R s m args below meth c H' (locs ++ [⟨G.2.1 k i, f.slot⟩]) nc ns QQ (F0 m (pc + 3) la (r.map (zC G.2.1))) := by
          intro H' e1 e2 e3
          rw [hsl] at e1
          exact h1 _ _ _ _ h2 H' _ la (zRel_setL hR hl hfz hc s1 g1 g3 q1 q2 q3 q4 hap e1 e2 e3) hC (hS.put e2 e3 hAk) hL
        rcases g6 with g6 | ⟨host, g6⟩
        · exact W.putK hx hb (f := f) ⟨hown, hts _ g6, ⟨_, _, _, hi⟩, hst⟩ h6 q1 q3 (by rw [hsl]; exact k2_hasslot (q4 _ g3)) rfl rfl hdg kk
        · exact va_WputK hx hb (f := f) hown (va_Nw.use rfl (hK.2.1 _ g6 rfl)) hi hst h6 q1 q3 (by rw [hsl]; exact k2_hasslot (q4 _ g3)) rfl rfl hdg kk
