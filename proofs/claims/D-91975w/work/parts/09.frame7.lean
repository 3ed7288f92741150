/-! SOUNDNESS: calls; a method's contract out of its closed predicate -/
theorem zblind {cl : List vw_C} {Z : zZ} {G : zG} {σ : zS} {av : List Value} {sz : Nat} : FrameBlind (va_Pc av (fun U => U.heap.size = sz ∧ zRel cl Z G σ U.heap ∧ zK cl G U ∧ zST (zfoot Z G σ.2.2.2.2) G U)) := fun a U g mk q => ⟨q.1, q.2.1, q.2.2.1, zK.same (u := U) (U := U.calling g mk a) rfl q.2.2.2.1, zST.go (U := U.calling g mk a) q.2.2.2.2 (State.WarmedH.refl U) (fun _ _ _ => rfl) (fun _ h => h)⟩
theorem zW_call {p : Program} {l : Launch} {e : Env} {s : State} {m : MethodId} {args : Array Value} {below : List Frame} {meth : Method} {c : Code} {R : Room} {cl : List vw_C} {Z : zZ} {G : zG} {C0 : Nat → Nat} {A : Nat → Prop} {QQ : State → Prop} {K : Option zV → zS → Prop} {H : Heap} {locs : List Loc} {pc nc ns : Nat} {la : Array Slot} {st0 rest : List Value} {a : Array Value}
    (hr : va_Run p l e R s m args below meth c H locs nc ns 0 0 (F0 m pc la st0) rest (zQc cl Z G C0 (zA Z G C0 H.size) K a) (zA Z G C0 H.size)) (hA1 : ∀ q, zfoot Z G C0 q → A q) (hA2 : ∀ q, s.heap.size ≤ q → A q) (hS : va_S A s.heap H locs)
    (kk : ∀ (r : Option zV) (σ1 : zS) (H1 : Heap) (locs1 : List Loc), K r σ1 → zRel cl Z G σ1 H1 → σ1.2.2.2.2 = C0 → va_S A s.heap H1 locs1 → W p l e R s m args below meth c H1 locs1 nc ns QQ (F0 m (pc + 3) la ((r.map (zC G.2.1)).toList ++ rest))) : W p l e R s m args below meth c H locs nc ns QQ (F0 m pc la st0) := by
  intro T hT X
  obtain ⟨v, st₀, t, T', L, h0, X', hL, e1, e2, ⟨⟨r, σ1, hv, hR1, hC1, hq⟩, hz, hk⟩, st⟩ := hr T hT X
  have hv : v = r.map (zC G.2.1) := by injection hv
  subst hv
  rw [h0] at hz hk
  have hfree : ∀ q, zA Z G C0 H.size q → A q := fun q h => by
    rcases h with h | h
    · exact hA1 q h
    · exact hA2 q (Nat.le_trans hS.1 h)
  obtain ⟨t2, a1, b1⟩ := kk r σ1 T'.heap (locs ++ L) hq (by rw [e1]; exact hR1) hC1
    ⟨Nat.le_trans hS.1 (by rw [e1]; exact hz), fun q h1 h2 => by rw [e1, hk q (Nat.lt_of_lt_of_le h1 hS.1) (fun z => h2 (hfree q z))]; exact hS.2.1 q h1 h2, fun q hq => by
      rcases List.mem_append.mp hq with h | h
      · exact hS.2.2 q h
      · exact hfree _ (hL q h)⟩ T' rfl X'
  exact ⟨t2, st t2 a1, b1⟩
theorem zW_call5 {p : Program} {l : Launch} {e : Env} {s : State} {m : MethodId} {args : Array Value} {below : List Frame} {meth : Method} {c : Code} {R : Room} {cl : List vw_C} {Z : zZ} {G : zG} {C0 : Nat → Nat} {A : Nat → Prop} {QQ : State → Prop} {K : Option zV → zS → Prop} {H : Heap} {locs : List Loc} {pc nc ns : Nat} {la : Array Slot} {st0 rest : List Value} {a : Array Value}
    (hr : va_Run5 p l e R s m args below meth c H locs nc ns 0 0 (F0 m pc la st0) rest (zQc cl Z G C0 (zA Z G C0 H.size) K a) (zA Z G C0 H.size)) (hA1 : ∀ q, zfoot Z G C0 q → A q) (hA2 : ∀ q, s.heap.size ≤ q → A q) (hS : va_S A s.heap H locs)
    (kk : ∀ (r : Option zV) (σ1 : zS) (H1 : Heap) (locs1 : List Loc), K r σ1 → zRel cl Z G σ1 H1 → σ1.2.2.2.2 = C0 → va_S A s.heap H1 locs1 → W p l e R s m args below meth c H1 locs1 nc ns QQ (F0 m (pc + 5) la ((r.map (zC G.2.1)).toList ++ rest))) : W p l e R s m args below meth c H locs nc ns QQ (F0 m pc la st0) := by
  intro T hT X
  obtain ⟨v, st₀, t, T', L, h0, X', hL, e1, e2, ⟨⟨r, σ1, hv, hR1, hC1, hq⟩, hz, hk⟩, st⟩ := hr T hT X
  have hv : v = r.map (zC G.2.1) := by injection hv
  subst hv
  rw [h0] at hz hk
  have hfree : ∀ q, zA Z G C0 H.size q → A q := fun q h => by
    rcases h with h | h
    · exact hA1 q h
    · exact hA2 q (Nat.le_trans hS.1 h)
  obtain ⟨t2, a1, b1⟩ := kk r σ1 T'.heap (locs ++ L) hq (by rw [e1]; exact hR1) hC1
    ⟨Nat.le_trans hS.1 (by rw [e1]; exact hz), fun q h1 h2 => by rw [e1, hk q (Nat.lt_of_lt_of_le h1 hS.1) (fun z => h2 (hfree q z))]; exact hS.2.1 q h1 h2, fun q hq => by
      rcases List.mem_append.mp hq with h | h
      · exact hS.2.2 q h
      · exact hfree _ (hL q h)⟩ T' rfl X'
  exact ⟨t2, st t2 a1, b1⟩
theorem zroom_le {d mL : Nat} {R : Room} (h : mL ≤ 29) (hR : (zRoom (d + 1)).frames ≤ R.frames ∧ (zRoom (d + 1)).locals ≤ R.locals) : (zRoom d).frames + 1 ≤ R.frames ∧ 8 + (mL + 11) + (zRoom d).locals ≤ R.locals := by
  obtain ⟨h1, h2⟩ := hR
  constructor
  · exact h1
  · refine Nat.le_trans ?_ h2
    show 8 + (mL + 11) + 48 * (d + 1) ≤ 48 * (d + 1 + 1)
    omega
/-- the end of a call, by the answer's kind -/
theorem zans_of {cl : List vw_C} {Z : zZ} {G : zG} {d : Nat} {mm : zM} {ak : Nat} {as : List zV} {σ : zS} {AW : zAW} {pc : Nat} {ls : List (Option zV)} {rest : List zV} (h : zans cl Z G d mm ak as σ AW pc ls rest) : ∃ K : Option zV → zS → Prop, zCall cl Z G d mm as σ K ∧ ∀ r σ1, K r σ1 → AW pc ls (r.toList ++ rest) σ1 := by
  unfold zans at h
  split at h
  · exact ⟨_, h, fun r σ1 q => by obtain ⟨rfl, q⟩ := q; exact q⟩
  · exact ⟨_, h, fun r σ1 q => by obtain ⟨x, rfl, q⟩ := q; exact q⟩
  · exact ⟨_, h, fun r σ1 q => by obtain ⟨x, rfl, q⟩ := q; exact q⟩
  · exact ⟨_, h, fun r σ1 q => by obtain ⟨x, rfl, q⟩ := q; exact q⟩
  · exact ⟨_, h, fun r σ1 q => by obtain ⟨x, rfl, q⟩ := q; exact q⟩
theorem zs_invV {cl : List vw_C} {own : String} {cc : ByteArray} {nL : Nat} {rt : Option FieldType} {Z : zZ} {G : zG} {d : Nat} {C0 : Nat → Nat} {Q : Option zV → zS → Prop} {AW W' : zAW} {pc : Nat} {ls : List (Option zV)} {st : List zV} {σ : zS} (E : zEnv cl own cc nL rt Z G d C0 Q W') (h1 : ∀ pc ls st σ, AW pc ls st σ → W' pc ls st σ) {n : Nat} {w : zM × Nat × Nat × Nat × Nat} (hM : zMok cl own n w) (hk : w.2.2.1 = 0 ∨ w.2.2.1 = 2) (hdg : decode cc pc = .ok (.invokevirtual n, 3)) (ht : zinvV cl Z G d w AW pc ls st σ) : W' pc ls st σ := by
  obtain ⟨p, l, e, s, m, args, below, meth, c, A, R, nc, ns, QQ, ⟨hx, hb, hml, hown, hts, hK, hr, hlocks, hA1, hA2, hST, hRm, hQ⟩, rfl⟩ := E
  obtain ⟨as, rest, rfl, hlen, ht1⟩ := zpop_inv _ _ _ _ ht
  clear ht
  rw [List.append_nil] at ht1
  have ht := ht1
  clear ht1
  have hE : as = as.reverse.reverse := (List.reverse_reverse as).symm
  generalize as.reverse = av at hE ht
  subst hE
  cases av with
  | nil => exact ht.elim
  | cons v av =>
    rcases v with x | x | x | x
    · exact ht.elim
    · exact ht.elim
    · cases hc : Z.1 x.1 with
      | none => simp only [hc] at ht
      | some ci =>
        simp only [hc] at ht
        obtain ⟨b1, hu⟩ := zb_inv ht
        obtain ⟨hl, hu1⟩ := zliv_inv hu
        obtain ⟨b2, hu2⟩ := zb_inv hu1
        have b1 : ci = w.2.2.2.1 := Nat.eq_of_beq_eq_true b1
        subst b1
        have b2 : zsum rest ≤ 8 := Nat.le_of_ble_eq_true b2
        cases d with
        | zero => exact hu2.elim
        | succ d =>
          obtain ⟨K, hcall, hK2⟩ := zans_of hu2
          intro H locs la hR hC hS hL
          subst hC
          have hob := zat_cls (hR.1.1 x.1 x.2 hl) hc
          obtain ⟨r, g1, cell, q1, q2, q3, -⟩ := hob
          obtain ⟨⟨y1, y2, y3⟩, hmL, hM⟩ := hM
          have hlen : av.length = w.2.1 := by simpa using hlen
          have hn : (av.map (zC G.2.1)).length = w.2.1 := by rw [List.length_map]; exact hlen
          have hst : (F0 m pc la (((zR x.1 x.2 :: av).reverse ++ rest).map (zC G.2.1))).stack = (av.map (zC G.2.1)).reverse ++ .ref (G.2.1 x.1 x.2) :: rest.map (zC G.2.1) := by
            show List.map (zC G.2.1) ((zR x.1 x.2 :: av).reverse ++ rest) = _
            simp [List.map_append, List.map_reverse, zC]
          have hwt : 2 * (F0 m pc la (((zR x.1 x.2 :: av).reverse ++ rest).map (zC G.2.1))).monitorRoom + ((rest.map (zC G.2.1)).map fun v => v.category).sum ≤ 8 := lv_room (by rw [zsum_C]; exact b2)
          have hpc : ∀ U : State, U.heap = H → s.WarmedH U.vm → (va_Pc ((zR x.1 x.2 :: av).map (zC G.2.1)) (fun U => U.heap.size = H.size ∧ zRel cl Z G σ U.heap ∧ zK cl G U ∧ zST (zfoot Z G σ.2.2.2.2) G U)) (Value.ref (G.2.1 x.1 x.2) :: av.map (zC G.2.1)).toArray U := fun U hU hW => ⟨rfl, by rw [hU], by rw [hU]; exact hR, hK.warm hW, hST.go hW (fun a h1 h2 => by rw [hU]; exact hS.2.1 a h1 h2) (fun a h => hA1 a h)⟩
          have fin : ∀ (r' : Option zV) (σ1 : zS) (H1 : Heap) (locs1 : List Loc), K r' σ1 → zRel cl Z G σ1 H1 → σ1.2.2.2.2 = σ.2.2.2.2 → va_S A s.heap H1 locs1 → W p l e R s m args below meth c H1 locs1 nc ns QQ (F0 m (pc + 3) la ((r'.map (zC G.2.1)).toList ++ rest.map (zC G.2.1))) := by
            intro r' σ1 H1 locs1 k1 k2 k3 k4
            have := h1 _ _ _ _ (hK2 r' σ1 k1) H1 locs1 la k2 k3 k4 hL
            cases r' <;> exact this
          have hcall := hcall l H.size
          rcases hk with hk | hk
          · rw [hk] at hM
            obtain ⟨hG, r2, e1, e2⟩ := hM
            have hr2 : r2 = r := Option.some.inj (e1.symm.trans g1)
            subst hr2
            exact zW_call (va_runV ⟨hx, hb, hml, hown, hts⟩ hcall (cwV w.2.1 hts hG rfl rfl rfl ⟨rfl, y1, y2, y3⟩ (zroom_le hmL ⟨hRm.1, hRm.2.1⟩)) ⟨zblind, ⟨cell, q1, by rw [q3]; rfl, by rw [q2, ← e2]; exact (hK.1.1 _ _ g1).2.1⟩, hpc⟩ rfl hn hL.1 hst hwt hdg ⟨hRm.2.2.1, hRm.2.2.2⟩) hA1 hA2 hS fin
          · rw [hk] at hM
            obtain ⟨hG, ⟨host, hlk⟩, hini, hins, hsel, r2, e1, e2⟩ := hM
            have hr2 : r2 = r := Option.some.inj (e1.symm.trans g1)
            subst hr2
            exact zW_call (va_runVN ⟨hx, hb, hml, hown, hts⟩ hcall ⟨va_cnB w.2.1 hts hG rfl rfl rfl (hK.2.1 _ hlk rfl) (hts _ hini) ⟨y1, y2, y3⟩ (zroom_le hmL ⟨hRm.1, hRm.2.1⟩), hts _ hins, hts _ hsel⟩ ⟨zblind, ⟨cell, q1, by rw [q3]; rfl, by rw [q2, ← e2]; exact (hK.1.1 _ _ g1).2.1⟩, hpc⟩ rfl hn hL.1 hst hwt hdg ⟨hRm.2.2.1, hRm.2.2.2⟩) hA1 hA2 hS fin
    · exact ht.elim
theorem zs_invF {cl : List vw_C} {own : String} {cc : ByteArray} {nL : Nat} {rt : Option FieldType} {Z : zZ} {G : zG} {d : Nat} {C0 : Nat → Nat} {Q : Option zV → zS → Prop} {AW W' : zAW} {pc : Nat} {ls : List (Option zV)} {st : List zV} {σ : zS} (E : zEnv cl own cc nL rt Z G d C0 Q W') (h1 : ∀ pc ls st σ, AW pc ls st σ → W' pc ls st σ) {n : Nat} {w : zM × Nat × Nat × Nat × Nat} (hM : zMok cl own n w) (hk : w.2.2.1 = 4) {cnt : Nat} (hdg : decode cc pc = .ok (.invokeinterface n cnt, 5)) (ht : zinvF cl Z G d w AW pc ls st σ) : W' pc ls st σ := by
  obtain ⟨p, l, e, s, m, args, below, meth, c, A, R, nc, ns, QQ, ⟨hx, hb, hml, hown, hts, hK, hr, hlocks, hA1, hA2, hST, hRm, hQ⟩, rfl⟩ := E
  obtain ⟨as, rest, rfl, hlen, ht1⟩ := zpop_inv _ _ _ _ ht
  clear ht
  rw [List.append_nil] at ht1
  have ht := ht1
  clear ht1
  have hE : as = as.reverse.reverse := (List.reverse_reverse as).symm
  generalize as.reverse = av at hE ht
  subst hE
  cases av with
  | nil => exact ht.elim
  | cons v av =>
    rcases v with x | x | x | x
    · exact ht.elim
    · exact ht.elim
    · cases hc : Z.1 x.1 with
      | none => simp only [hc] at ht
      | some ci =>
        simp only [hc] at ht
        obtain ⟨b1, hu⟩ := zb_inv ht
        obtain ⟨hl, hu1⟩ := zliv_inv hu
        obtain ⟨b2, hu2⟩ := zb_inv hu1
        have b1 : ci = w.2.2.2.1 := Nat.eq_of_beq_eq_true b1
        subst b1
        have b2 : zsum rest ≤ 8 := Nat.le_of_ble_eq_true b2
        cases d with
        | zero => exact hu2.elim
        | succ d =>
          obtain ⟨K, hcall, hK2⟩ := zans_of hu2
          intro H locs la hR hC hS hL
          subst hC
          have hob := zat_cls (hR.1.1 x.1 x.2 hl) hc
          obtain ⟨r, g1, cell, q1, q2, q3, -⟩ := hob
          obtain ⟨⟨y1, y2, y3⟩, hmL, hM⟩ := hM
          have hlen : av.length = w.2.1 := by simpa using hlen
          have hn : (av.map (zC G.2.1)).length = w.2.1 := by rw [List.length_map]; exact hlen
          have hst : (F0 m pc la (((zR x.1 x.2 :: av).reverse ++ rest).map (zC G.2.1))).stack = (av.map (zC G.2.1)).reverse ++ .ref (G.2.1 x.1 x.2) :: rest.map (zC G.2.1) := by
            show List.map (zC G.2.1) ((zR x.1 x.2 :: av).reverse ++ rest) = _
            simp [List.map_append, List.map_reverse, zC]
          have hwt : 2 * (F0 m pc la (((zR x.1 x.2 :: av).reverse ++ rest).map (zC G.2.1))).monitorRoom + ((rest.map (zC G.2.1)).map fun v => v.category).sum ≤ 8 := lv_room (by rw [zsum_C]; exact b2)
          have hpc : ∀ U : State, U.heap = H → s.WarmedH U.vm → (va_Pc ((zR x.1 x.2 :: av).map (zC G.2.1)) (fun U => U.heap.size = H.size ∧ zRel cl Z G σ U.heap ∧ zK cl G U ∧ zST (zfoot Z G σ.2.2.2.2) G U)) (Value.ref (G.2.1 x.1 x.2) :: av.map (zC G.2.1)).toArray U := fun U hU hW => ⟨rfl, by rw [hU], by rw [hU]; exact hR, hK.warm hW, hST.go hW (fun a h1 h2 => by rw [hU]; exact hS.2.1 a h1 h2) (fun a h => hA1 a h)⟩
          have fin : ∀ (r' : Option zV) (σ1 : zS) (H1 : Heap) (locs1 : List Loc), K r' σ1 → zRel cl Z G σ1 H1 → σ1.2.2.2.2 = σ.2.2.2.2 → va_S A s.heap H1 locs1 → W p l e R s m args below meth c H1 locs1 nc ns QQ (F0 m (pc + 5) la ((r'.map (zC G.2.1)).toList ++ rest.map (zC G.2.1))) := by
            intro r' σ1 H1 locs1 k1 k2 k3 k4
            have := h1 _ _ _ _ (hK2 r' σ1 k1) H1 locs1 la k2 k3 k4 hL
            cases r' <;> exact this
          have hcall := hcall l H.size
          rw [hk] at hM
          obtain ⟨x0, r2, hG, ⟨z1, z2, z3⟩, e1, k1, k2, k3, k4, k5⟩ := hM
          have hr2 : r2 = r := Option.some.inj (e1.symm.trans g1)
          subst hr2
          have hca := (hK.1.1 _ _ g1).2
          exact zW_call5 (va_runF hca ⟨hx, hb, hml, hown, hts⟩ hcall (va_cwF w.2.1 hts hG rfl rfl rfl (hK.2.2 _ _ _ ⟨z1, z2⟩ k1 k2 k3 k4 k5) ⟨z1, z2, z3⟩ (zroom_le hmL ⟨hRm.1, hRm.2.1⟩)) ⟨zblind, ⟨cell, q1, by rw [q3]; rfl, by rw [q2]; exact hca.1⟩, hpc⟩ rfl hn hL.1 hst hwt hdg ⟨hRm.2.2.1, hRm.2.2.2⟩) hA1 hA2 hS fin
    · exact ht.elim
theorem zs_invS {cl : List vw_C} {own : String} {cc : ByteArray} {nL : Nat} {rt : Option FieldType} {Z : zZ} {G : zG} {d : Nat} {C0 : Nat → Nat} {Q : Option zV → zS → Prop} {AW W' : zAW} {pc : Nat} {ls : List (Option zV)} {st : List zV} {σ : zS} (E : zEnv cl own cc nL rt Z G d C0 Q W') (h1 : ∀ pc ls st σ, AW pc ls st σ → W' pc ls st σ) {n : Nat} {w : zM × Nat × Nat × Nat × Nat} (hM : zMok cl own n w) (hk : w.2.2.1 = 1 ∨ w.2.2.1 = 3) (hdg : decode cc pc = .ok (.invokestatic n, 3)) (ht : zinvS cl Z G d w AW pc ls st σ) : W' pc ls st σ := by
  obtain ⟨p, l, e, s, m, args, below, meth, c, A, R, nc, ns, QQ, ⟨hx, hb, hml, hown, hts, hK, hr, hlocks, hA1, hA2, hST, hRm, hQ⟩, rfl⟩ := E
  obtain ⟨as, rest, rfl, hlen, ht1⟩ := zpop_inv _ _ _ _ ht
  clear ht
  rw [List.append_nil] at ht1
  have ht := ht1
  clear ht1
  have hE : as = as.reverse.reverse := (List.reverse_reverse as).symm
  generalize as.reverse = av at hE ht
  subst hE
  obtain ⟨b2, ht⟩ := zb_inv ht
  have b2 : zsum rest ≤ 8 := Nat.le_of_ble_eq_true b2
  cases d with
  | zero => exact ht.elim
  | succ d =>
    obtain ⟨K, hcall, hK2⟩ := zans_of ht
    intro H locs la hR hC hS hL
    subst hC
    obtain ⟨⟨y1, y2, y3⟩, hmL, hM⟩ := hM
    have hlen : av.length = w.2.1 := by simpa using hlen
    have hn : (av.map (zC G.2.1)).length = w.2.1 := by rw [List.length_map]; exact hlen
    have hst : (F0 m pc la ((av.reverse ++ rest).map (zC G.2.1))).stack = (av.map (zC G.2.1)).reverse ++ rest.map (zC G.2.1) := by
      show List.map (zC G.2.1) (av.reverse ++ rest) = _
      simp [List.map_append, List.map_reverse]
    have hwt : 2 * (F0 m pc la ((av.reverse ++ rest).map (zC G.2.1))).monitorRoom + ((rest.map (zC G.2.1)).map fun v => v.category).sum ≤ 8 := lv_room (by rw [zsum_C]; exact b2)
    have hpc : ∀ U : State, U.heap = H → s.WarmedH U.vm → (va_Pc (av.map (zC G.2.1)) (fun U => U.heap.size = H.size ∧ zRel cl Z G σ U.heap ∧ zK cl G U ∧ zST (zfoot Z G σ.2.2.2.2) G U)) (av.map (zC G.2.1)).toArray U := fun U hU hW => ⟨rfl, by rw [hU], by rw [hU]; exact hR, hK.warm hW, hST.go hW (fun a h1 h2 => by rw [hU]; exact hS.2.1 a h1 h2) (fun a h => hA1 a h)⟩
    have fin : ∀ (r' : Option zV) (σ1 : zS) (H1 : Heap) (locs1 : List Loc), K r' σ1 → zRel cl Z G σ1 H1 → σ1.2.2.2.2 = σ.2.2.2.2 → va_S A s.heap H1 locs1 → W p l e R s m args below meth c H1 locs1 nc ns QQ (F0 m (pc + 3) la ((r'.map (zC G.2.1)).toList ++ rest.map (zC G.2.1))) := by
      intro r' σ1 H1 locs1 k1 k2 k3 k4
      have := h1 _ _ _ _ (hK2 r' σ1 k1) H1 locs1 la k2 k3 k4 hL
      cases r' <;> exact this
    have hcall := hcall l H.size
    rcases hk with hk | hk
    · rw [hk] at hM
      exact zW_call (va_runS ⟨hx, hb, hml, hown, hts⟩ hcall (va_cwS w.2.1 hts hM rfl rfl rfl ⟨y1, y2, y3⟩ (zroom_le hmL ⟨hRm.1, hRm.2.1⟩)) ⟨zblind, hpc⟩ rfl hn hL.1 hst hwt hdg ⟨hRm.2.2.1, hRm.2.2.2⟩) hA1 hA2 hS fin
    · rw [hk] at hM
      obtain ⟨hG, ⟨host, hlk⟩, hini, hins⟩ := hM
      exact zW_call (va_runSN ⟨hx, hb, hml, hown, hts⟩ hcall ⟨va_cnB w.2.1 hts hG rfl rfl rfl (hK.2.1 _ hlk rfl) (hts _ hini) ⟨y1, y2, y3⟩ (zroom_le hmL ⟨hRm.1, hRm.2.1⟩), hts _ hins, trivial⟩ ⟨zblind, hpc⟩ rfl hn hL.1 hst hwt hdg ⟨hRm.2.2.1, hRm.2.2.2⟩) hA1 hA2 hS fin
/-- an instruction is well placed: its length, its locals, where it goes -/
def zgo (pc : Nat) (n : Int) (tg : Nat) : Bool := decide ((pc : Int) + n = (tg : Int))
def zwell (nL : Nat) (q : Nat × Jvm.ClassFile.Instr × Nat × Nat) : Bool := match q.2.1 with
  | .iconst n => Nat.beq q.2.2.1 1 && decide (Int32.ofInt n = zcst n)
  | .bipush n => Nat.beq q.2.2.1 2 && decide ((Int8.ofInt n).toInt32 = zcst n)
  | .sipush n => Nat.beq q.2.2.1 3 && decide ((Int16.ofInt n).toInt32 = zcst n)
  | .lconst _ => Nat.beq q.2.2.1 1
  | .ldc _ => Nat.beq q.2.2.1 2
  | .ldc_w _ => Nat.beq q.2.2.1 3
  | .ldc2_w _ => Nat.beq q.2.2.1 3
  | .iload_n _ => Nat.beq q.2.2.1 1
  | .iload _ => Nat.beq q.2.2.1 2
  | .lload_n _ => Nat.beq q.2.2.1 1
  | .lload _ => Nat.beq q.2.2.1 2
  | .aload_n _ => Nat.beq q.2.2.1 1
  | .aload _ => Nat.beq q.2.2.1 2
  | .istore_n k => Nat.beq q.2.2.1 1 && Nat.blt k nL
  | .istore k => Nat.beq q.2.2.1 2 && Nat.blt k nL
  | .lstore_n k => Nat.beq q.2.2.1 1 && Nat.blt (k + 1) nL
  | .lstore k => Nat.beq q.2.2.1 2 && Nat.blt (k + 1) nL
  | .astore_n k => Nat.beq q.2.2.1 1 && Nat.blt k nL
  | .astore k => Nat.beq q.2.2.1 2 && Nat.blt k nL
  | .iinc k n => Nat.beq q.2.2.1 3 && (Nat.blt k nL && decide (Int32.ofInt n = zcst n))
  | .ifCond _ n => Nat.beq q.2.2.1 3 && zgo q.1 n q.2.2.2
  | .if_icmp _ n => Nat.beq q.2.2.1 3 && zgo q.1 n q.2.2.2
  | .goto n => Nat.beq q.2.2.1 3 && zgo q.1 n q.2.2.2
  | .ifnull n => Nat.beq q.2.2.1 3 && zgo q.1 n q.2.2.2
  | .ifnonnull n => Nat.beq q.2.2.1 3 && zgo q.1 n q.2.2.2
  | .getfield _ => Nat.beq q.2.2.1 3
  | .putfield _ => Nat.beq q.2.2.1 3
  | .invokevirtual _ => Nat.beq q.2.2.1 3
  | .invokestatic _ => Nat.beq q.2.2.1 3
  | .invokeinterface _ _ => Nat.beq q.2.2.1 5
  | .checkcast _ => Nat.beq q.2.2.1 3
  | .getstatic _ => Nat.beq q.2.2.1 3
  | _ => Nat.beq q.2.2.1 1
theorem zand {a b : Bool} (h : (a && b) = true) : a = true ∧ b = true := by simpa using h
theorem zop_ok {cl : List vw_C} {own : String} {cc : ByteArray} {nL : Nat} {rt : Option FieldType} {Z : zZ} {G : zG} {d : Nat} {C0 : Nat → Nat} {Q : Option zV → zS → Prop} {AW W' : zAW} {pc len tg : Nat} {ins : Jvm.ClassFile.Instr} {ls : List (Option zV)} {st : List zV} {σ : zS} {V : zRes} (E : zEnv cl own cc nL rt Z G d C0 Q W') (h1 : ∀ pc ls st σ, AW pc ls st σ → W' pc ls st σ) (hV : zVok cl own V) (hw : zwell nL (pc, ins, len, tg) = true) (hdg : decode cc pc = .ok (ins, len)) (ht : zop cl V rt Z G d Q AW pc ins tg ls st σ) : W' pc ls st σ := by
  cases ins with
  | iconst n => obtain ⟨a, b⟩ := zand hw; obtain rfl := Nat.eq_of_beq_eq_true a; exact zs_iconst E h1 (of_decide_eq_true b) hdg ht
  | bipush n => obtain ⟨a, b⟩ := zand hw; obtain rfl := Nat.eq_of_beq_eq_true a; exact zs_bipush E h1 (of_decide_eq_true b) hdg ht
  | sipush n => obtain ⟨a, b⟩ := zand hw; obtain rfl := Nat.eq_of_beq_eq_true a; exact zs_sipush E h1 (of_decide_eq_true b) hdg ht
  | lconst n => obtain rfl := Nat.eq_of_beq_eq_true hw; exact zs_lconst E h1 hdg ht
  | ldc n => obtain rfl := Nat.eq_of_beq_eq_true hw; exact zs_ldc E h1 hV hdg ht
  | ldc_w n => obtain rfl := Nat.eq_of_beq_eq_true hw; exact zs_ldcw E h1 hV hdg ht
  | ldc2_w n => obtain rfl := Nat.eq_of_beq_eq_true hw; exact zs_ldc2 E h1 hV hdg ht
  | iload_n n => obtain rfl := Nat.eq_of_beq_eq_true hw; exact zs_iload_n E h1 hdg ht
  | iload n => obtain rfl := Nat.eq_of_beq_eq_true hw; exact zs_iload E h1 hdg ht
  | lload_n n => obtain rfl := Nat.eq_of_beq_eq_true hw; exact zs_lload_n E h1 hdg ht
  | lload n => obtain rfl := Nat.eq_of_beq_eq_true hw; exact zs_lload E h1 hdg ht
  | aload_n n => obtain rfl := Nat.eq_of_beq_eq_true hw; exact zs_aload_n E h1 hdg ht
  | aload n => obtain rfl := Nat.eq_of_beq_eq_true hw; exact zs_aload E h1 hdg ht
  | istore_n n => obtain ⟨a, b⟩ := zand hw; obtain rfl := Nat.eq_of_beq_eq_true a; exact zs_istore_n E h1 (Nat.le_of_ble_eq_true b) hdg ht
  | istore n => obtain ⟨a, b⟩ := zand hw; obtain rfl := Nat.eq_of_beq_eq_true a; exact zs_istore E h1 (Nat.le_of_ble_eq_true b) hdg ht
  | lstore_n n => obtain ⟨a, b⟩ := zand hw; obtain rfl := Nat.eq_of_beq_eq_true a; exact zs_lstore_n E h1 (Nat.le_of_ble_eq_true b) hdg ht
  | lstore n => obtain ⟨a, b⟩ := zand hw; obtain rfl := Nat.eq_of_beq_eq_true a; exact zs_lstore E h1 (Nat.le_of_ble_eq_true b) hdg ht
  | astore_n n => obtain ⟨a, b⟩ := zand hw; obtain rfl := Nat.eq_of_beq_eq_true a; exact zs_astore_n E h1 (Nat.le_of_ble_eq_true b) hdg ht
  | astore n => obtain ⟨a, b⟩ := zand hw; obtain rfl := Nat.eq_of_beq_eq_true a; exact zs_astore E h1 (Nat.le_of_ble_eq_true b) hdg ht
  | iinc k n => obtain ⟨a, b⟩ := zand hw; obtain ⟨b1, b2⟩ := zand b; obtain rfl := Nat.eq_of_beq_eq_true a; exact zs_iinc E h1 (Nat.le_of_ble_eq_true b1) (of_decide_eq_true b2) hdg ht
  | ifCond o n =>
    obtain ⟨a, b⟩ := zand hw; obtain rfl := Nat.eq_of_beq_eq_true a
    have b := of_decide_eq_true b
    cases o
    · exact zs_if_eq E h1 b hdg ht
    · exact zs_if_ne E h1 b hdg ht
    · exact zs_if_lt E h1 b hdg ht
    · exact zs_if_ge E h1 b hdg ht
    · exact zs_if_gt E h1 b hdg ht
    · exact zs_if_le E h1 b hdg ht
  | if_icmp o n =>
    obtain ⟨a, b⟩ := zand hw; obtain rfl := Nat.eq_of_beq_eq_true a
    have b := of_decide_eq_true b
    cases o
    · exact zs_icmp_eq E h1 b hdg ht
    · exact zs_icmp_ne E h1 b hdg ht
    · exact zs_icmp_lt E h1 b hdg ht
    · exact zs_icmp_ge E h1 b hdg ht
    · exact zs_icmp_gt E h1 b hdg ht
    · exact zs_icmp_le E h1 b hdg ht
  | goto n => obtain ⟨a, b⟩ := zand hw; obtain rfl := Nat.eq_of_beq_eq_true a; exact zs_goto E h1 (of_decide_eq_true b) hdg ht
  | ifnull n => obtain ⟨a, b⟩ := zand hw; obtain rfl := Nat.eq_of_beq_eq_true a; exact zs_ifnull E h1 (of_decide_eq_true b) hdg ht
  | ifnonnull n => obtain ⟨a, b⟩ := zand hw; obtain rfl := Nat.eq_of_beq_eq_true a; exact zs_ifnonnull E h1 (of_decide_eq_true b) hdg ht
  | getfield n => obtain rfl := Nat.eq_of_beq_eq_true hw; exact zs_getfield E h1 hV hdg ht
  | putfield n => obtain rfl := Nat.eq_of_beq_eq_true hw; exact zs_putfield E h1 hV hdg ht
  | iadd => obtain rfl := Nat.eq_of_beq_eq_true hw; exact zs_iadd E h1 hdg ht
  | isub => obtain rfl := Nat.eq_of_beq_eq_true hw; exact zs_isub E h1 hdg ht
  | imul => obtain rfl := Nat.eq_of_beq_eq_true hw; exact zs_imul E h1 hdg ht
  | idiv => obtain rfl := Nat.eq_of_beq_eq_true hw; exact zs_idiv E h1 hdg ht
  | irem => obtain rfl := Nat.eq_of_beq_eq_true hw; exact zs_irem E h1 hdg ht
  | iand => obtain rfl := Nat.eq_of_beq_eq_true hw; exact zs_iand E h1 hdg ht
  | ior => obtain rfl := Nat.eq_of_beq_eq_true hw; exact zs_ior E h1 hdg ht
  | ixor => obtain rfl := Nat.eq_of_beq_eq_true hw; exact zs_ixor E h1 hdg ht
  | ishl => obtain rfl := Nat.eq_of_beq_eq_true hw; exact zs_ishl E h1 hdg ht
  | ishr => obtain rfl := Nat.eq_of_beq_eq_true hw; exact zs_ishr E h1 hdg ht
  | ladd => obtain rfl := Nat.eq_of_beq_eq_true hw; exact zs_ladd E h1 hdg ht
  | lsub => obtain rfl := Nat.eq_of_beq_eq_true hw; exact zs_lsub E h1 hdg ht
  | lmul => obtain rfl := Nat.eq_of_beq_eq_true hw; exact zs_lmul E h1 hdg ht
  | ldiv => obtain rfl := Nat.eq_of_beq_eq_true hw; exact zs_ldiv E h1 hdg ht
  | lrem => obtain rfl := Nat.eq_of_beq_eq_true hw; exact zs_lrem E h1 hdg ht
  | lneg => obtain rfl := Nat.eq_of_beq_eq_true hw; exact zs_lneg E h1 hdg ht
  | ineg => obtain rfl := Nat.eq_of_beq_eq_true hw; exact zs_ineg E h1 hdg ht
  | i2c => obtain rfl := Nat.eq_of_beq_eq_true hw; exact zs_i2c E h1 hdg ht
  | dup_x1 => obtain rfl := Nat.eq_of_beq_eq_true hw; exact zs_dup_x1 E h1 hdg ht
  | getstatic n => obtain rfl := Nat.eq_of_beq_eq_true hw; exact zs_getstatic E h1 hV hdg ht
  | lcmp => obtain rfl := Nat.eq_of_beq_eq_true hw; exact zs_lcmp E h1 hdg ht
  | lshl => obtain rfl := Nat.eq_of_beq_eq_true hw; exact zs_lshl E h1 hdg ht
  | lshr => obtain rfl := Nat.eq_of_beq_eq_true hw; exact zs_lshr E h1 hdg ht
  | i2l => obtain rfl := Nat.eq_of_beq_eq_true hw; exact zs_i2l E h1 hdg ht
  | l2i => obtain rfl := Nat.eq_of_beq_eq_true hw; exact zs_l2i E h1 hdg ht
  | i2b => obtain rfl := Nat.eq_of_beq_eq_true hw; exact zs_i2b E h1 hdg ht
  | pop => obtain rfl := Nat.eq_of_beq_eq_true hw; exact zs_pop E h1 hdg ht
  | dup => obtain rfl := Nat.eq_of_beq_eq_true hw; exact zs_dup E h1 hdg ht
  | dup2 => obtain rfl := Nat.eq_of_beq_eq_true hw; exact zs_dup2 E h1 hdg ht
  | iaload => obtain rfl := Nat.eq_of_beq_eq_true hw; exact zs_iaload E h1 hdg ht
  | baload => obtain rfl := Nat.eq_of_beq_eq_true hw; exact zs_baload E h1 hdg ht
  | laload => obtain rfl := Nat.eq_of_beq_eq_true hw; exact zs_laload E h1 hdg ht
  | aaload => obtain rfl := Nat.eq_of_beq_eq_true hw; exact zs_aaload E h1 hdg ht
  | iastore => obtain rfl := Nat.eq_of_beq_eq_true hw; exact zs_iastore E h1 hdg ht
  | bastore => obtain rfl := Nat.eq_of_beq_eq_true hw; exact zs_bastore E h1 hdg ht
  | lastore => obtain rfl := Nat.eq_of_beq_eq_true hw; exact zs_lastore E h1 hdg ht
  | arraylength => obtain rfl := Nat.eq_of_beq_eq_true hw; exact zs_arraylength E h1 hdg ht
  | ireturn => obtain rfl := Nat.eq_of_beq_eq_true hw; exact zs_ireturn E h1 hdg ht
  | lreturn => obtain rfl := Nat.eq_of_beq_eq_true hw; exact zs_lreturn E h1 hdg ht
  | areturn => obtain rfl := Nat.eq_of_beq_eq_true hw; exact zs_areturn E h1 hdg ht
  | return_ => obtain rfl := Nat.eq_of_beq_eq_true hw; exact zs_return E h1 hdg ht
  | invokevirtual n =>
    obtain rfl := Nat.eq_of_beq_eq_true hw
    dsimp only [zop] at ht
    cases hq : V.2.1 n with
    | none => rw [hq] at ht; exact ht.elim
    | some w =>
      rw [hq] at ht
      have hM := hV.2.1 n w hq
      obtain ⟨mm, a, k, ci, ak⟩ := w
      split at ht
      · rename_i e1; cases e1; exact zs_invV E h1 hM (Or.inl rfl) hdg ht
      · rename_i e1; cases e1; exact zs_invV E h1 hM (Or.inr rfl) hdg ht
      · exact ht.elim
  | aconst_null => obtain rfl := Nat.eq_of_beq_eq_true hw; exact zs_null E h1 hdg ht
  | iushr => obtain rfl := Nat.eq_of_beq_eq_true hw; exact zs_iushr E h1 hdg ht
  | checkcast n => obtain rfl := Nat.eq_of_beq_eq_true hw; exact zs_checkcast E h1 hV hdg ht
  | invokeinterface n k0 =>
    obtain rfl := Nat.eq_of_beq_eq_true hw
    dsimp only [zop] at ht
    cases hq : V.2.1 n with
    | none => rw [hq] at ht; exact ht.elim
    | some w =>
      rw [hq] at ht
      have hM := hV.2.1 n w hq
      obtain ⟨mm, a, k, ci, ak⟩ := w
      split at ht
      · rename_i e1; cases e1; exact zs_invF E h1 hM rfl hdg ht
      · exact ht.elim
  | invokestatic n =>
    obtain rfl := Nat.eq_of_beq_eq_true hw
    dsimp only [zop] at ht
    cases hq : V.2.1 n with
    | none => rw [hq] at ht; exact ht.elim
    | some w =>
      rw [hq] at ht
      have hM := hV.2.1 n w hq
      obtain ⟨mm, a, k, ci, ak⟩ := w
      split at ht
      · rename_i e1; cases e1; exact zs_invS E h1 hM (Or.inl rfl) hdg ht
      · rename_i e1; cases e1; exact zs_invS E h1 hM (Or.inr rfl) hdg ht
      · exact ht.elim
  | _ => exact False.elim ht
/-- a method's program is its code's -/
def zprog (cc : ByteArray) (nL : Nat) (g : zP) : Prop := ∀ q ∈ g, decode cc q.1 = .ok (q.2.1, q.2.2.1) ∧ zwell nL q = true
theorem zfind_mem {g : zP} {pc : Nat} {w : Jvm.ClassFile.Instr × Nat} (h : zfind g pc = some w) : ∃ len, (pc, w.1, len, w.2) ∈ g := by
  induction g with
  | nil => cases h
  | cons a l ih =>
    unfold zfind at h
    cases hb : Nat.beq a.1 pc with
    | true =>
      rw [hb] at h
      have e := Nat.eq_of_beq_eq_true hb
      have h := Option.some.inj h
      subst h
      subst e
      exact ⟨a.2.2.1, List.mem_cons_self⟩
    | false =>
      rw [hb] at h
      obtain ⟨len, q⟩ := ih h
      exact ⟨len, List.mem_cons_of_mem _ q⟩
/-- A METHOD: if every predicate closed under its micro-operations holds at its entry, the call comes back with Q -/
theorem zmethod {cl : List vw_C} {own : String} {V : zRes} {g : zP} {mm : zM} (hV : zVok cl own V) (hg : zprog mm.2.1 mm.2.2.1 g) (hown : mm.1.cls = own) (hpl : plainName mm.1.cls = true) {Z : zZ} {G : zG} {d : Nat} {as : List zV} {σ : zS} {Q : Option zV → zS → Prop} (hlen : (zent as).length ≤ mm.2.2.1)
    (body : ∀ AW : zAW, zClo cl V mm.2.2.2 g Z G d Q AW → AW 0 (zentry as mm.2.2.1) [] σ) : zCall cl Z G d mm as σ Q := by
  intro l sz
  refine Met.ofW (cc := mm.2.1) (maxL := mm.2.2.1) (ret := mm.2.2.2) hpl rfl ?_
  intro p e s m args below meth c s₁ B hml hv
  obtain ⟨rfl, hsz, hR, hK, hST⟩ := hv
  have hts := atoms_spec (ws := ws_ mm.1 mm.2.1 mm.2.2.1 mm.2.2.2) B.pre
  have hts : ∀ w ∈ lw_all, w.before _ s = true := fun w h => hts w (List.mem_cons_of_mem _ h)
  have hown2 : s.vm.findClass own = some m.cls := by rw [← hown]; exact findClass_of_methodNamed B.named
  subst hsz
  have key := body (zAWr p l e s m (as.map (zC G.2.1)).toArray below meth c cl Z G (zA Z G σ.2.2.2.2 s.heap.size) mm.2.2.1 σ.2.2.2.2 (zRoom d) 0 0 (MQ below (zQc cl Z G σ.2.2.2.2 (zA Z G σ.2.2.2.2 s.heap.size) Q) (as.map (zC G.2.1)).toArray s 0 0 (zA Z G σ.2.2.2.2 s.heap.size))) ?_
  · rw [lg_entry_eq]
    have hl := lv_entry (as.map (zC G.2.1)) (n := mm.2.2.1) (by rw [← zent_len]; exact hlen)
    exact key s.heap [] _ hR rfl va_S.rf (zentry_has hlen hl)
  · intro AW1 h1 pc ins tg ls st σ' hf ht
    obtain ⟨len, hmem⟩ := zfind_mem hf
    obtain ⟨hd, hw⟩ := hg _ hmem
    exact zop_ok ⟨p, l, e, s, m, _, below, meth, c, _, _, _, _, _, ⟨B.exec, B.bytes, hml, hown2, hts, hK, B.returns, B.notSynchronized, fun q h => Or.inl h, fun q h => Or.inr h, hST.avoid (Nat.le_refl _), ⟨Nat.le_refl _, Nat.le_refl _, Nat.zero_le _, Nat.zero_le _⟩, fun H locs g h => h⟩, rfl⟩ h1 hV hw hd ht
