/-! RAW: makers, lists -/
set_option maxHeartbeats 4000000 in
set_option maxRecDepth 100000 in
theorem rX1_width_0 (l : Launch) (G : zG) (d sz : Nat) (h0 : Nat) (r0 : Nat) (n0 : Nat) (f0 : Nat → Int32) : Met l yX1_width (ws_ yX1_width cX1_width 1 (some .int)) (eRoom d 0 0) (rPc G [.ref h0] [(h0, .inr (1, [.ref r0])), (r0, .inl (G.2.2.1 1, n0, .inl (f0)))] sz) (va_Qi (fun (r : Int32) _ => r = 0) (rB G (fun _ : Unit => [(h0, .inr (1, [.ref r0])), (r0, .inl (G.2.2.1 1, n0, .inl (f0)))]) (va_A [(h0, .inr (1, [.ref r0])), (r0, .inl (G.2.2.1 1, n0, .inl (f0)))] sz)) (va_A [(h0, .inr (1, [.ref r0])), (r0, .inl (G.2.2.1 1, n0, .inl (f0)))] sz)) 0 0 (va_A [(h0, .inr (1, [.ref r0])), (r0, .inl (G.2.2.1 1, n0, .inl (f0)))] sz) := by
  refine Met.ofW (cc := cX1_width) (maxL := 1) (ret := (some .int)) (by decide) rfl ?_
  intro p e s m args below meth c s₁ B hml hv
  obtain ⟨rfl, hsz, hP, hK, hST, hD0⟩ := hv
  have hx := B.exec
  have hb := B.bytes
  have hr := B.returns
  have hts := atoms_spec (ws := ws_ yX1_width cX1_width 1 (some .int)) B.pre
  have hts : ∀ w ∈ lw_all, w.before _ s = true := fun w h => hts w (List.mem_cons_of_mem _ h)
  have hown : s.vm.findClass RX1 = some m.cls := findClass_of_methodNamed B.named
  have hlocks := B.notSynchronized
  subst hsz
  have hD := hD0.self (sz := s.heap.size)
  generalize hAe : va_A [(h0, .inr (1, [.ref r0])), (r0, .inl (G.2.2.1 1, n0, .inl (f0)))] s.heap.size = A at hD hST ⊢
  have hA : ∀ q : Nat, s.heap.size ≤ q → A q := fun q h => by rw [← hAe]; exact Or.inr h
  have hS : va_S A s.heap s.heap [] := va_S.rf
  have hP : va_P G.1 zcl [(h0, .inr (1, [.ref r0])), (r0, .inl (G.2.2.1 1, n0, .inl (f0)))] s.heap := hP
  have hl := lv_entry ([.ref h0]) (n := 1) (Nat.le_of_ble_eq_true rfl)
  rw [lg_entry_eq]
  generalize (lg_sl ([.ref h0]) ++ List.replicate (1 - (lg_sl ([.ref h0])).length) Slot.unset).toArray = ls at hl ⊢
  have hl : lv_has ls 1 [(0, .ref h0)] := hl
  refine lv_aload_n hx hb (show decode cX1_width 0 = .ok (.aload_n 0, 1) by decide +kernel) rfl (lv_at hl 0 rfl) ?_
  refine va_get (D := G.1) (ci := 1) (v := .ref r0) (C := RX1) (T := TX1) (N := 1) hx hb hts in_X1 hown hK.1 hP 0 rfl rfl 0 (by decide) (hts _ q388) (fun _ h9 => h9) rfl (show decode cX1_width 1 = .ok (.getfield 9, 3) by decide +kernel) ?_
  refine va_instE hx hb hown (hts _ q338) (r_recvT 1 hK hP (i := 1) rfl rfl (fun _ h => by cases h) rfl) (show decode cX1_width 4 = .ok (.instanceof 17, 3) by decide +kernel) ?_
  refine lv_if_eq (tgt := 14) hx hb (show decode cX1_width 7 = .ok (.ifCond .eq 7, 3) by decide +kernel) (by decide) (fun cnd_ => absurd cnd_ (by decide)) (fun cnd_ => ?_)
  refine lv_iconst (v := 0) hx hb (show decode cX1_width 10 = .ok (.iconst 0, 1) by decide +kernel) (by decide) ?_
  refine lv_goto (tgt := 43) hx hb (show decode cX1_width 11 = .ok (.goto 32, 3) by decide +kernel) (by decide) ?_
  have hP9 := hP.sub (ws' := [(h0, .inr (1, [.ref r0])), (r0, .inl (G.2.2.1 1, n0, .inl (f0)))]) [0, 1] rfl
  have hD9 := hD.sub (ws' := [(h0, .inr (1, [.ref r0])), (r0, .inl (G.2.2.1 1, n0, .inl (f0)))]) [0, 1] (by decide) rfl
  exact W.iret (v := 0) hx hb hr (fun t ht hW => ⟨⟨0, (), rfl, rfl, by rw [ht]; exact hP9, hD9⟩, hS.F ht⟩) hS.2.2 (show decode cX1_width 43 = .ok (.ireturn, 1) by decide +kernel)

set_option maxHeartbeats 4000000 in
set_option maxRecDepth 100000 in
theorem rX1_many_0 (l : Launch) (G : zG) (d sz : Nat) (h0 : Nat) (r0 : Nat) (n0 : Nat) (f0 : Nat → Int32) : Met l yX1_many (ws_ yX1_many cX1_many 1 (some .int)) (eRoom d 0 0) (rPc G [.ref h0] [(h0, .inr (1, [.ref r0])), (r0, .inl (G.2.2.1 1, n0, .inl (f0)))] sz) (va_Qi (fun (r : Int32) _ => r = nI n0) (rB G (fun _ : Unit => [(h0, .inr (1, [.ref r0])), (r0, .inl (G.2.2.1 1, n0, .inl (f0)))]) (va_A [(h0, .inr (1, [.ref r0])), (r0, .inl (G.2.2.1 1, n0, .inl (f0)))] sz)) (va_A [(h0, .inr (1, [.ref r0])), (r0, .inl (G.2.2.1 1, n0, .inl (f0)))] sz)) 0 0 (va_A [(h0, .inr (1, [.ref r0])), (r0, .inl (G.2.2.1 1, n0, .inl (f0)))] sz) := by
  refine Met.ofW (cc := cX1_many) (maxL := 1) (ret := (some .int)) (by decide) rfl ?_
  intro p e s m args below meth c s₁ B hml hv
  obtain ⟨rfl, hsz, hP, hK, hST, hD0⟩ := hv
  have hx := B.exec
  have hb := B.bytes
  have hr := B.returns
  have hts := atoms_spec (ws := ws_ yX1_many cX1_many 1 (some .int)) B.pre
  have hts : ∀ w ∈ lw_all, w.before _ s = true := fun w h => hts w (List.mem_cons_of_mem _ h)
  have hown : s.vm.findClass RX1 = some m.cls := findClass_of_methodNamed B.named
  have hlocks := B.notSynchronized
  subst hsz
  have hD := hD0.self (sz := s.heap.size)
  generalize hAe : va_A [(h0, .inr (1, [.ref r0])), (r0, .inl (G.2.2.1 1, n0, .inl (f0)))] s.heap.size = A at hD hST ⊢
  have hA : ∀ q : Nat, s.heap.size ≤ q → A q := fun q h => by rw [← hAe]; exact Or.inr h
  have hS : va_S A s.heap s.heap [] := va_S.rf
  have hP : va_P G.1 zcl [(h0, .inr (1, [.ref r0])), (r0, .inl (G.2.2.1 1, n0, .inl (f0)))] s.heap := hP
  have hl := lv_entry ([.ref h0]) (n := 1) (Nat.le_of_ble_eq_true rfl)
  rw [lg_entry_eq]
  generalize (lg_sl ([.ref h0]) ++ List.replicate (1 - (lg_sl ([.ref h0])).length) Slot.unset).toArray = ls at hl ⊢
  have hl : lv_has ls 1 [(0, .ref h0)] := hl
  refine lv_aload_n hx hb (show decode cX1_many 0 = .ok (.aload_n 0, 1) by decide +kernel) rfl (lv_at hl 0 rfl) ?_
  refine va_get (D := G.1) (ci := 1) (v := .ref r0) (C := RX1) (T := TX1) (N := 1) hx hb hts in_X1 hown hK.1 hP 0 rfl rfl 0 (by decide) (hts _ q388) (fun _ h9 => h9) rfl (show decode cX1_many 1 = .ok (.getfield 9, 3) by decide +kernel) ?_
  refine va_instE hx hb hown (hts _ q338) (r_recvT 1 hK hP (i := 1) rfl rfl (fun _ h => by cases h) rfl) (show decode cX1_many 4 = .ok (.instanceof 17, 3) by decide +kernel) ?_
  refine lv_if_eq (tgt := 19) hx hb (show decode cX1_many 7 = .ok (.ifCond .eq 12, 3) by decide +kernel) (by decide) (fun cnd_ => absurd cnd_ (by decide)) (fun cnd_ => ?_)
  refine lv_aload_n hx hb (show decode cX1_many 10 = .ok (.aload_n 0, 1) by decide +kernel) rfl (lv_at hl 0 rfl) ?_
  refine va_get (D := G.1) (ci := 1) (v := .ref r0) (C := RX1) (T := TX1) (N := 1) hx hb hts in_X1 hown hK.1 hP 0 rfl rfl 0 (by decide) (hts _ q388) (fun _ h9 => h9) rfl (show decode cX1_many 11 = .ok (.getfield 9, 3) by decide +kernel) ?_
  refine va_castE hx hb hown (hts _ q338) (r_recvT 1 hK hP (i := 1) rfl rfl (fun _ h => by cases h) rfl) (show decode cX1_many 14 = .ok (.checkcast 17, 3) by decide +kernel) ?_
  refine va_alen (v := nI n0) hx hb hK.1 hP 1 1 rfl rfl rfl (show decode cX1_many 17 = .ok (.arraylength, 1) by decide +kernel) ?_
  have hP9 := hP.sub (ws' := [(h0, .inr (1, [.ref r0])), (r0, .inl (G.2.2.1 1, n0, .inl (f0)))]) [0, 1] rfl
  have hD9 := hD.sub (ws' := [(h0, .inr (1, [.ref r0])), (r0, .inl (G.2.2.1 1, n0, .inl (f0)))]) [0, 1] (by decide) rfl
  exact W.iret (v := (nI n0)) hx hb hr (fun t ht hW => ⟨⟨(nI n0), (), rfl, rfl, by rw [ht]; exact hP9, hD9⟩, hS.F ht⟩) hS.2.2 (show decode cX1_many 18 = .ok (.ireturn, 1) by decide +kernel)

set_option maxHeartbeats 4000000 in
set_option maxRecDepth 100000 in
theorem rX1_number_0 (l : Launch) (G : zG) (d sz : Nat) (h0 : Nat) (r0 : Nat) (n0 : Nat) (f0 : Nat → Int32) (i0 : Nat) (hi : i0 < n0) (hn : n0 < 2 ^ 31) : Met l yX1_number (ws_ yX1_number cX1_number 2 (some .long)) (eRoom d 0 0) (rPc G [.ref h0, .int (nI i0)] [(h0, .inr (1, [.ref r0])), (r0, .inl (G.2.2.1 1, n0, .inl (f0)))] sz) (va_Ql (fun (r : Int64) _ => r = (f0 i0).toInt64) (rB G (fun _ : Unit => [(h0, .inr (1, [.ref r0])), (r0, .inl (G.2.2.1 1, n0, .inl (f0)))]) (va_A [(h0, .inr (1, [.ref r0])), (r0, .inl (G.2.2.1 1, n0, .inl (f0)))] sz)) (va_A [(h0, .inr (1, [.ref r0])), (r0, .inl (G.2.2.1 1, n0, .inl (f0)))] sz)) 0 0 (va_A [(h0, .inr (1, [.ref r0])), (r0, .inl (G.2.2.1 1, n0, .inl (f0)))] sz) := by
  refine Met.ofW (cc := cX1_number) (maxL := 2) (ret := (some .long)) (by decide) rfl ?_
  intro p e s m args below meth c s₁ B hml hv
  obtain ⟨rfl, hsz, hP, hK, hST, hD0⟩ := hv
  have hx := B.exec
  have hb := B.bytes
  have hr := B.returns
  have hts := atoms_spec (ws := ws_ yX1_number cX1_number 2 (some .long)) B.pre
  have hts : ∀ w ∈ lw_all, w.before _ s = true := fun w h => hts w (List.mem_cons_of_mem _ h)
  have hown : s.vm.findClass RX1 = some m.cls := findClass_of_methodNamed B.named
  have hlocks := B.notSynchronized
  subst hsz
  have hD := hD0.self (sz := s.heap.size)
  generalize hAe : va_A [(h0, .inr (1, [.ref r0])), (r0, .inl (G.2.2.1 1, n0, .inl (f0)))] s.heap.size = A at hD hST ⊢
  have hA : ∀ q : Nat, s.heap.size ≤ q → A q := fun q h => by rw [← hAe]; exact Or.inr h
  have hS : va_S A s.heap s.heap [] := va_S.rf
  have hP : va_P G.1 zcl [(h0, .inr (1, [.ref r0])), (r0, .inl (G.2.2.1 1, n0, .inl (f0)))] s.heap := hP
  have hl := lv_entry ([.ref h0, .int (nI i0)]) (n := 2) (Nat.le_of_ble_eq_true rfl)
  rw [lg_entry_eq]
  generalize (lg_sl ([.ref h0, .int (nI i0)]) ++ List.replicate (2 - (lg_sl ([.ref h0, .int (nI i0)])).length) Slot.unset).toArray = ls at hl ⊢
  have hl : lv_has ls 2 [(0, .ref h0), (1, .int (nI i0))] := hl
  refine lv_aload_n hx hb (show decode cX1_number 0 = .ok (.aload_n 0, 1) by decide +kernel) rfl (lv_at hl 0 rfl) ?_
  refine va_get (D := G.1) (ci := 1) (v := .ref r0) (C := RX1) (T := TX1) (N := 1) hx hb hts in_X1 hown hK.1 hP 0 rfl rfl 0 (by decide) (hts _ q388) (fun _ h9 => h9) rfl (show decode cX1_number 1 = .ok (.getfield 9, 3) by decide +kernel) ?_
  refine va_instE hx hb hown (hts _ q338) (r_recvT 1 hK hP (i := 1) rfl rfl (fun _ h => by cases h) rfl) (show decode cX1_number 4 = .ok (.instanceof 17, 3) by decide +kernel) ?_
  refine lv_if_eq (tgt := 21) hx hb (show decode cX1_number 7 = .ok (.ifCond .eq 14, 3) by decide +kernel) (by decide) (fun cnd_ => absurd cnd_ (by decide)) (fun cnd_ => ?_)
  refine lv_aload_n hx hb (show decode cX1_number 10 = .ok (.aload_n 0, 1) by decide +kernel) rfl (lv_at hl 0 rfl) ?_
  refine va_get (D := G.1) (ci := 1) (v := .ref r0) (C := RX1) (T := TX1) (N := 1) hx hb hts in_X1 hown hK.1 hP 0 rfl rfl 0 (by decide) (hts _ q388) (fun _ h9 => h9) rfl (show decode cX1_number 11 = .ok (.getfield 9, 3) by decide +kernel) ?_
  refine va_castE hx hb hown (hts _ q338) (r_recvT 1 hK hP (i := 1) rfl rfl (fun _ h => by cases h) rfl) (show decode cX1_number 14 = .ok (.checkcast 17, 3) by decide +kernel) ?_
  refine lv_iload_n hx hb (show decode cX1_number 17 = .ok (.iload_n 1, 1) by decide +kernel) rfl (lv_at hl 1 rfl) ?_
  refine va_bald hx hb hK.1 hP 1 1 rfl rfl (vp_in_nI hi hn) (show decode cX1_number 18 = .ok (.baload, 1) by decide +kernel) ?_
  rw [nI_clamp (by omega)]
  refine lv_i2l (v := ((f0 i0)).toInt64) hx hb (show decode cX1_number 19 = .ok (.i2l, 1) by decide +kernel) rfl ?_
  have hP9 := hP.sub (ws' := [(h0, .inr (1, [.ref r0])), (r0, .inl (G.2.2.1 1, n0, .inl (f0)))]) [0, 1] rfl
  have hD9 := hD.sub (ws' := [(h0, .inr (1, [.ref r0])), (r0, .inl (G.2.2.1 1, n0, .inl (f0)))]) [0, 1] (by decide) rfl
  exact W.lret (v := ((f0 i0)).toInt64) hx hb hr (fun t ht hW => ⟨⟨((f0 i0)).toInt64, (), rfl, rfl, by rw [ht]; exact hP9, hD9⟩, hS.F ht⟩) hS.2.2 (show decode cX1_number 20 = .ok (.lreturn, 1) by decide +kernel)

set_option maxHeartbeats 4000000 in
set_option maxRecDepth 100000 in
theorem rX1_width_1 (l : Launch) (G : zG) (d sz : Nat) (h0 : Nat) (r0 : Nat) (n0 : Nat) (f0 : Nat → Int32) : Met l yX1_width (ws_ yX1_width cX1_width 1 (some .int)) (eRoom d 0 0) (rPc G [.ref h0] [(h0, .inr (1, [.ref r0])), (r0, .inl (G.2.2.1 4, n0, .inl (f0)))] sz) (va_Qi (fun (r : Int32) _ => r = 1) (rB G (fun _ : Unit => [(h0, .inr (1, [.ref r0])), (r0, .inl (G.2.2.1 4, n0, .inl (f0)))]) (va_A [(h0, .inr (1, [.ref r0])), (r0, .inl (G.2.2.1 4, n0, .inl (f0)))] sz)) (va_A [(h0, .inr (1, [.ref r0])), (r0, .inl (G.2.2.1 4, n0, .inl (f0)))] sz)) 0 0 (va_A [(h0, .inr (1, [.ref r0])), (r0, .inl (G.2.2.1 4, n0, .inl (f0)))] sz) := by
  refine Met.ofW (cc := cX1_width) (maxL := 1) (ret := (some .int)) (by decide) rfl ?_
  intro p e s m args below meth c s₁ B hml hv
  obtain ⟨rfl, hsz, hP, hK, hST, hD0⟩ := hv
  have hx := B.exec
  have hb := B.bytes
  have hr := B.returns
  have hts := atoms_spec (ws := ws_ yX1_width cX1_width 1 (some .int)) B.pre
  have hts : ∀ w ∈ lw_all, w.before _ s = true := fun w h => hts w (List.mem_cons_of_mem _ h)
  have hown : s.vm.findClass RX1 = some m.cls := findClass_of_methodNamed B.named
  have hlocks := B.notSynchronized
  subst hsz
  have hD := hD0.self (sz := s.heap.size)
  generalize hAe : va_A [(h0, .inr (1, [.ref r0])), (r0, .inl (G.2.2.1 4, n0, .inl (f0)))] s.heap.size = A at hD hST ⊢
  have hA : ∀ q : Nat, s.heap.size ≤ q → A q := fun q h => by rw [← hAe]; exact Or.inr h
  have hS : va_S A s.heap s.heap [] := va_S.rf
  have hP : va_P G.1 zcl [(h0, .inr (1, [.ref r0])), (r0, .inl (G.2.2.1 4, n0, .inl (f0)))] s.heap := hP
  have hl := lv_entry ([.ref h0]) (n := 1) (Nat.le_of_ble_eq_true rfl)
  rw [lg_entry_eq]
  generalize (lg_sl ([.ref h0]) ++ List.replicate (1 - (lg_sl ([.ref h0])).length) Slot.unset).toArray = ls at hl ⊢
  have hl : lv_has ls 1 [(0, .ref h0)] := hl
  refine lv_aload_n hx hb (show decode cX1_width 0 = .ok (.aload_n 0, 1) by decide +kernel) rfl (lv_at hl 0 rfl) ?_
  refine va_get (D := G.1) (ci := 1) (v := .ref r0) (C := RX1) (T := TX1) (N := 1) hx hb hts in_X1 hown hK.1 hP 0 rfl rfl 0 (by decide) (hts _ q388) (fun _ h9 => h9) rfl (show decode cX1_width 1 = .ok (.getfield 9, 3) by decide +kernel) ?_
  refine va_instNo (C := "[S") hx hb hown (hts _ q338) (hST.2.2.2.2.2.2.2.1 _ (List.mem_of_getElem? (i := 3) rfl)) (r_recvT 4 hK hP (i := 1) rfl rfl (fun _ h => by cases h) rfl) (show decode cX1_width 4 = .ok (.instanceof 17, 3) by decide +kernel) ?_
  refine lv_if_eq (tgt := 14) hx hb (show decode cX1_width 7 = .ok (.ifCond .eq 7, 3) by decide +kernel) (by decide) (fun cnd_ => ?_) (fun cnd_ => absurd (rfl) cnd_)
  refine lv_aload_n hx hb (show decode cX1_width 14 = .ok (.aload_n 0, 1) by decide +kernel) rfl (lv_at hl 0 rfl) ?_
  refine va_get (D := G.1) (ci := 1) (v := .ref r0) (C := RX1) (T := TX1) (N := 1) hx hb hts in_X1 hown hK.1 hP 0 rfl rfl 0 (by decide) (hts _ q388) (fun _ h9 => h9) rfl (show decode cX1_width 15 = .ok (.getfield 9, 3) by decide +kernel) ?_
  refine va_instE hx hb hown (hts _ q339) (r_recvT 4 hK hP (i := 1) rfl rfl (fun _ h => by cases h) rfl) (show decode cX1_width 18 = .ok (.instanceof 19, 3) by decide +kernel) ?_
  refine lv_if_eq (tgt := 28) hx hb (show decode cX1_width 21 = .ok (.ifCond .eq 7, 3) by decide +kernel) (by decide) (fun cnd_ => absurd cnd_ (by decide)) (fun cnd_ => ?_)
  refine lv_iconst (v := 1) hx hb (show decode cX1_width 24 = .ok (.iconst 1, 1) by decide +kernel) (by decide) ?_
  refine lv_goto (tgt := 43) hx hb (show decode cX1_width 25 = .ok (.goto 18, 3) by decide +kernel) (by decide) ?_
  have hP9 := hP.sub (ws' := [(h0, .inr (1, [.ref r0])), (r0, .inl (G.2.2.1 4, n0, .inl (f0)))]) [0, 1] rfl
  have hD9 := hD.sub (ws' := [(h0, .inr (1, [.ref r0])), (r0, .inl (G.2.2.1 4, n0, .inl (f0)))]) [0, 1] (by decide) rfl
  exact W.iret (v := 1) hx hb hr (fun t ht hW => ⟨⟨1, (), rfl, rfl, by rw [ht]; exact hP9, hD9⟩, hS.F ht⟩) hS.2.2 (show decode cX1_width 43 = .ok (.ireturn, 1) by decide +kernel)

set_option maxHeartbeats 4000000 in
set_option maxRecDepth 100000 in
theorem rX1_many_1 (l : Launch) (G : zG) (d sz : Nat) (h0 : Nat) (r0 : Nat) (n0 : Nat) (f0 : Nat → Int32) : Met l yX1_many (ws_ yX1_many cX1_many 1 (some .int)) (eRoom d 0 0) (rPc G [.ref h0] [(h0, .inr (1, [.ref r0])), (r0, .inl (G.2.2.1 4, n0, .inl (f0)))] sz) (va_Qi (fun (r : Int32) _ => r = nI n0) (rB G (fun _ : Unit => [(h0, .inr (1, [.ref r0])), (r0, .inl (G.2.2.1 4, n0, .inl (f0)))]) (va_A [(h0, .inr (1, [.ref r0])), (r0, .inl (G.2.2.1 4, n0, .inl (f0)))] sz)) (va_A [(h0, .inr (1, [.ref r0])), (r0, .inl (G.2.2.1 4, n0, .inl (f0)))] sz)) 0 0 (va_A [(h0, .inr (1, [.ref r0])), (r0, .inl (G.2.2.1 4, n0, .inl (f0)))] sz) := by
  refine Met.ofW (cc := cX1_many) (maxL := 1) (ret := (some .int)) (by decide) rfl ?_
  intro p e s m args below meth c s₁ B hml hv
  obtain ⟨rfl, hsz, hP, hK, hST, hD0⟩ := hv
  have hx := B.exec
  have hb := B.bytes
  have hr := B.returns
  have hts := atoms_spec (ws := ws_ yX1_many cX1_many 1 (some .int)) B.pre
  have hts : ∀ w ∈ lw_all, w.before _ s = true := fun w h => hts w (List.mem_cons_of_mem _ h)
  have hown : s.vm.findClass RX1 = some m.cls := findClass_of_methodNamed B.named
  have hlocks := B.notSynchronized
  subst hsz
  have hD := hD0.self (sz := s.heap.size)
  generalize hAe : va_A [(h0, .inr (1, [.ref r0])), (r0, .inl (G.2.2.1 4, n0, .inl (f0)))] s.heap.size = A at hD hST ⊢
  have hA : ∀ q : Nat, s.heap.size ≤ q → A q := fun q h => by rw [← hAe]; exact Or.inr h
  have hS : va_S A s.heap s.heap [] := va_S.rf
  have hP : va_P G.1 zcl [(h0, .inr (1, [.ref r0])), (r0, .inl (G.2.2.1 4, n0, .inl (f0)))] s.heap := hP
  have hl := lv_entry ([.ref h0]) (n := 1) (Nat.le_of_ble_eq_true rfl)
  rw [lg_entry_eq]
  generalize (lg_sl ([.ref h0]) ++ List.replicate (1 - (lg_sl ([.ref h0])).length) Slot.unset).toArray = ls at hl ⊢
  have hl : lv_has ls 1 [(0, .ref h0)] := hl
  refine lv_aload_n hx hb (show decode cX1_many 0 = .ok (.aload_n 0, 1) by decide +kernel) rfl (lv_at hl 0 rfl) ?_
  refine va_get (D := G.1) (ci := 1) (v := .ref r0) (C := RX1) (T := TX1) (N := 1) hx hb hts in_X1 hown hK.1 hP 0 rfl rfl 0 (by decide) (hts _ q388) (fun _ h9 => h9) rfl (show decode cX1_many 1 = .ok (.getfield 9, 3) by decide +kernel) ?_
  refine va_instNo (C := "[S") hx hb hown (hts _ q338) (hST.2.2.2.2.2.2.2.1 _ (List.mem_of_getElem? (i := 3) rfl)) (r_recvT 4 hK hP (i := 1) rfl rfl (fun _ h => by cases h) rfl) (show decode cX1_many 4 = .ok (.instanceof 17, 3) by decide +kernel) ?_
  refine lv_if_eq (tgt := 19) hx hb (show decode cX1_many 7 = .ok (.ifCond .eq 12, 3) by decide +kernel) (by decide) (fun cnd_ => ?_) (fun cnd_ => absurd (rfl) cnd_)
  refine lv_aload_n hx hb (show decode cX1_many 19 = .ok (.aload_n 0, 1) by decide +kernel) rfl (lv_at hl 0 rfl) ?_
  refine va_get (D := G.1) (ci := 1) (v := .ref r0) (C := RX1) (T := TX1) (N := 1) hx hb hts in_X1 hown hK.1 hP 0 rfl rfl 0 (by decide) (hts _ q388) (fun _ h9 => h9) rfl (show decode cX1_many 20 = .ok (.getfield 9, 3) by decide +kernel) ?_
  refine va_instE hx hb hown (hts _ q339) (r_recvT 4 hK hP (i := 1) rfl rfl (fun _ h => by cases h) rfl) (show decode cX1_many 23 = .ok (.instanceof 19, 3) by decide +kernel) ?_
  refine lv_if_eq (tgt := 38) hx hb (show decode cX1_many 26 = .ok (.ifCond .eq 12, 3) by decide +kernel) (by decide) (fun cnd_ => absurd cnd_ (by decide)) (fun cnd_ => ?_)
  refine lv_aload_n hx hb (show decode cX1_many 29 = .ok (.aload_n 0, 1) by decide +kernel) rfl (lv_at hl 0 rfl) ?_
  refine va_get (D := G.1) (ci := 1) (v := .ref r0) (C := RX1) (T := TX1) (N := 1) hx hb hts in_X1 hown hK.1 hP 0 rfl rfl 0 (by decide) (hts _ q388) (fun _ h9 => h9) rfl (show decode cX1_many 30 = .ok (.getfield 9, 3) by decide +kernel) ?_
  refine va_castE hx hb hown (hts _ q339) (r_recvT 4 hK hP (i := 1) rfl rfl (fun _ h => by cases h) rfl) (show decode cX1_many 33 = .ok (.checkcast 19, 3) by decide +kernel) ?_
  refine va_alen (v := nI n0) hx hb hK.1 hP 1 4 rfl rfl rfl (show decode cX1_many 36 = .ok (.arraylength, 1) by decide +kernel) ?_
  have hP9 := hP.sub (ws' := [(h0, .inr (1, [.ref r0])), (r0, .inl (G.2.2.1 4, n0, .inl (f0)))]) [0, 1] rfl
  have hD9 := hD.sub (ws' := [(h0, .inr (1, [.ref r0])), (r0, .inl (G.2.2.1 4, n0, .inl (f0)))]) [0, 1] (by decide) rfl
  exact W.iret (v := (nI n0)) hx hb hr (fun t ht hW => ⟨⟨(nI n0), (), rfl, rfl, by rw [ht]; exact hP9, hD9⟩, hS.F ht⟩) hS.2.2 (show decode cX1_many 37 = .ok (.ireturn, 1) by decide +kernel)

set_option maxHeartbeats 4000000 in
set_option maxRecDepth 100000 in
theorem rX1_number_1 (l : Launch) (G : zG) (d sz : Nat) (h0 : Nat) (r0 : Nat) (n0 : Nat) (f0 : Nat → Int32) (i0 : Nat) (hi : i0 < n0) (hn : n0 < 2 ^ 31) : Met l yX1_number (ws_ yX1_number cX1_number 2 (some .long)) (eRoom d 0 0) (rPc G [.ref h0, .int (nI i0)] [(h0, .inr (1, [.ref r0])), (r0, .inl (G.2.2.1 4, n0, .inl (f0)))] sz) (va_Ql (fun (r : Int64) _ => r = (f0 i0).toInt64) (rB G (fun _ : Unit => [(h0, .inr (1, [.ref r0])), (r0, .inl (G.2.2.1 4, n0, .inl (f0)))]) (va_A [(h0, .inr (1, [.ref r0])), (r0, .inl (G.2.2.1 4, n0, .inl (f0)))] sz)) (va_A [(h0, .inr (1, [.ref r0])), (r0, .inl (G.2.2.1 4, n0, .inl (f0)))] sz)) 0 0 (va_A [(h0, .inr (1, [.ref r0])), (r0, .inl (G.2.2.1 4, n0, .inl (f0)))] sz) := by
  refine Met.ofW (cc := cX1_number) (maxL := 2) (ret := (some .long)) (by decide) rfl ?_
  intro p e s m args below meth c s₁ B hml hv
  obtain ⟨rfl, hsz, hP, hK, hST, hD0⟩ := hv
  have hx := B.exec
  have hb := B.bytes
  have hr := B.returns
  have hts := atoms_spec (ws := ws_ yX1_number cX1_number 2 (some .long)) B.pre
  have hts : ∀ w ∈ lw_all, w.before _ s = true := fun w h => hts w (List.mem_cons_of_mem _ h)
  have hown : s.vm.findClass RX1 = some m.cls := findClass_of_methodNamed B.named
  have hlocks := B.notSynchronized
  subst hsz
  have hD := hD0.self (sz := s.heap.size)
  generalize hAe : va_A [(h0, .inr (1, [.ref r0])), (r0, .inl (G.2.2.1 4, n0, .inl (f0)))] s.heap.size = A at hD hST ⊢
  have hA : ∀ q : Nat, s.heap.size ≤ q → A q := fun q h => by rw [← hAe]; exact Or.inr h
  have hS : va_S A s.heap s.heap [] := va_S.rf
  have hP : va_P G.1 zcl [(h0, .inr (1, [.ref r0])), (r0, .inl (G.2.2.1 4, n0, .inl (f0)))] s.heap := hP
  have hl := lv_entry ([.ref h0, .int (nI i0)]) (n := 2) (Nat.le_of_ble_eq_true rfl)
  rw [lg_entry_eq]
  generalize (lg_sl ([.ref h0, .int (nI i0)]) ++ List.replicate (2 - (lg_sl ([.ref h0, .int (nI i0)])).length) Slot.unset).toArray = ls at hl ⊢
  have hl : lv_has ls 2 [(0, .ref h0), (1, .int (nI i0))] := hl
  refine lv_aload_n hx hb (show decode cX1_number 0 = .ok (.aload_n 0, 1) by decide +kernel) rfl (lv_at hl 0 rfl) ?_
  refine va_get (D := G.1) (ci := 1) (v := .ref r0) (C := RX1) (T := TX1) (N := 1) hx hb hts in_X1 hown hK.1 hP 0 rfl rfl 0 (by decide) (hts _ q388) (fun _ h9 => h9) rfl (show decode cX1_number 1 = .ok (.getfield 9, 3) by decide +kernel) ?_
  refine va_instNo (C := "[S") hx hb hown (hts _ q338) (hST.2.2.2.2.2.2.2.1 _ (List.mem_of_getElem? (i := 3) rfl)) (r_recvT 4 hK hP (i := 1) rfl rfl (fun _ h => by cases h) rfl) (show decode cX1_number 4 = .ok (.instanceof 17, 3) by decide +kernel) ?_
  refine lv_if_eq (tgt := 21) hx hb (show decode cX1_number 7 = .ok (.ifCond .eq 14, 3) by decide +kernel) (by decide) (fun cnd_ => ?_) (fun cnd_ => absurd (rfl) cnd_)
  refine lv_aload_n hx hb (show decode cX1_number 21 = .ok (.aload_n 0, 1) by decide +kernel) rfl (lv_at hl 0 rfl) ?_
  refine va_get (D := G.1) (ci := 1) (v := .ref r0) (C := RX1) (T := TX1) (N := 1) hx hb hts in_X1 hown hK.1 hP 0 rfl rfl 0 (by decide) (hts _ q388) (fun _ h9 => h9) rfl (show decode cX1_number 22 = .ok (.getfield 9, 3) by decide +kernel) ?_
  refine va_instE hx hb hown (hts _ q339) (r_recvT 4 hK hP (i := 1) rfl rfl (fun _ h => by cases h) rfl) (show decode cX1_number 25 = .ok (.instanceof 19, 3) by decide +kernel) ?_
  refine lv_if_eq (tgt := 42) hx hb (show decode cX1_number 28 = .ok (.ifCond .eq 14, 3) by decide +kernel) (by decide) (fun cnd_ => absurd cnd_ (by decide)) (fun cnd_ => ?_)
  refine lv_aload_n hx hb (show decode cX1_number 31 = .ok (.aload_n 0, 1) by decide +kernel) rfl (lv_at hl 0 rfl) ?_
  refine va_get (D := G.1) (ci := 1) (v := .ref r0) (C := RX1) (T := TX1) (N := 1) hx hb hts in_X1 hown hK.1 hP 0 rfl rfl 0 (by decide) (hts _ q388) (fun _ h9 => h9) rfl (show decode cX1_number 32 = .ok (.getfield 9, 3) by decide +kernel) ?_
  refine va_castE hx hb hown (hts _ q339) (r_recvT 4 hK hP (i := 1) rfl rfl (fun _ h => by cases h) rfl) (show decode cX1_number 35 = .ok (.checkcast 19, 3) by decide +kernel) ?_
  refine lv_iload_n hx hb (show decode cX1_number 38 = .ok (.iload_n 1, 1) by decide +kernel) rfl (lv_at hl 1 rfl) ?_
  refine va_sald hx hb hK.1 hP 1 4 rfl rfl (vp_in_nI hi hn) (show decode cX1_number 39 = .ok (.saload, 1) by decide +kernel) ?_
  rw [nI_clamp (by omega)]
  refine lv_i2l (v := ((f0 i0)).toInt64) hx hb (show decode cX1_number 40 = .ok (.i2l, 1) by decide +kernel) rfl ?_
  have hP9 := hP.sub (ws' := [(h0, .inr (1, [.ref r0])), (r0, .inl (G.2.2.1 4, n0, .inl (f0)))]) [0, 1] rfl
  have hD9 := hD.sub (ws' := [(h0, .inr (1, [.ref r0])), (r0, .inl (G.2.2.1 4, n0, .inl (f0)))]) [0, 1] (by decide) rfl
  exact W.lret (v := ((f0 i0)).toInt64) hx hb hr (fun t ht hW => ⟨⟨((f0 i0)).toInt64, (), rfl, rfl, by rw [ht]; exact hP9, hD9⟩, hS.F ht⟩) hS.2.2 (show decode cX1_number 41 = .ok (.lreturn, 1) by decide +kernel)

set_option maxHeartbeats 4000000 in
set_option maxRecDepth 100000 in
theorem rX1_width_2 (l : Launch) (G : zG) (d sz : Nat) (h0 : Nat) (r0 : Nat) (n0 : Nat) (f0 : Nat → Int32) : Met l yX1_width (ws_ yX1_width cX1_width 1 (some .int)) (eRoom d 0 0) (rPc G [.ref h0] [(h0, .inr (1, [.ref r0])), (r0, .inl (G.2.2.1 0, n0, .inl (f0)))] sz) (va_Qi (fun (r : Int32) _ => r = 2) (rB G (fun _ : Unit => [(h0, .inr (1, [.ref r0])), (r0, .inl (G.2.2.1 0, n0, .inl (f0)))]) (va_A [(h0, .inr (1, [.ref r0])), (r0, .inl (G.2.2.1 0, n0, .inl (f0)))] sz)) (va_A [(h0, .inr (1, [.ref r0])), (r0, .inl (G.2.2.1 0, n0, .inl (f0)))] sz)) 0 0 (va_A [(h0, .inr (1, [.ref r0])), (r0, .inl (G.2.2.1 0, n0, .inl (f0)))] sz) := by
  refine Met.ofW (cc := cX1_width) (maxL := 1) (ret := (some .int)) (by decide) rfl ?_
  intro p e s m args below meth c s₁ B hml hv
  obtain ⟨rfl, hsz, hP, hK, hST, hD0⟩ := hv
  have hx := B.exec
  have hb := B.bytes
  have hr := B.returns
  have hts := atoms_spec (ws := ws_ yX1_width cX1_width 1 (some .int)) B.pre
  have hts : ∀ w ∈ lw_all, w.before _ s = true := fun w h => hts w (List.mem_cons_of_mem _ h)
  have hown : s.vm.findClass RX1 = some m.cls := findClass_of_methodNamed B.named
  have hlocks := B.notSynchronized
  subst hsz
  have hD := hD0.self (sz := s.heap.size)
  generalize hAe : va_A [(h0, .inr (1, [.ref r0])), (r0, .inl (G.2.2.1 0, n0, .inl (f0)))] s.heap.size = A at hD hST ⊢
  have hA : ∀ q : Nat, s.heap.size ≤ q → A q := fun q h => by rw [← hAe]; exact Or.inr h
  have hS : va_S A s.heap s.heap [] := va_S.rf
  have hP : va_P G.1 zcl [(h0, .inr (1, [.ref r0])), (r0, .inl (G.2.2.1 0, n0, .inl (f0)))] s.heap := hP
  have hl := lv_entry ([.ref h0]) (n := 1) (Nat.le_of_ble_eq_true rfl)
  rw [lg_entry_eq]
  generalize (lg_sl ([.ref h0]) ++ List.replicate (1 - (lg_sl ([.ref h0])).length) Slot.unset).toArray = ls at hl ⊢
  have hl : lv_has ls 1 [(0, .ref h0)] := hl
  refine lv_aload_n hx hb (show decode cX1_width 0 = .ok (.aload_n 0, 1) by decide +kernel) rfl (lv_at hl 0 rfl) ?_
  refine va_get (D := G.1) (ci := 1) (v := .ref r0) (C := RX1) (T := TX1) (N := 1) hx hb hts in_X1 hown hK.1 hP 0 rfl rfl 0 (by decide) (hts _ q388) (fun _ h9 => h9) rfl (show decode cX1_width 1 = .ok (.getfield 9, 3) by decide +kernel) ?_
  refine va_instNo (C := "[I") hx hb hown (hts _ q338) (hST.2.2.2.2.2.2.2.1 _ (List.mem_of_getElem? (i := 6) rfl)) (r_recvT 0 hK hP (i := 1) rfl rfl (fun _ h => by cases h) rfl) (show decode cX1_width 4 = .ok (.instanceof 17, 3) by decide +kernel) ?_
  refine lv_if_eq (tgt := 14) hx hb (show decode cX1_width 7 = .ok (.ifCond .eq 7, 3) by decide +kernel) (by decide) (fun cnd_ => ?_) (fun cnd_ => absurd (rfl) cnd_)
  refine lv_aload_n hx hb (show decode cX1_width 14 = .ok (.aload_n 0, 1) by decide +kernel) rfl (lv_at hl 0 rfl) ?_
  refine va_get (D := G.1) (ci := 1) (v := .ref r0) (C := RX1) (T := TX1) (N := 1) hx hb hts in_X1 hown hK.1 hP 0 rfl rfl 0 (by decide) (hts _ q388) (fun _ h9 => h9) rfl (show decode cX1_width 15 = .ok (.getfield 9, 3) by decide +kernel) ?_
  refine va_instNo (C := "[I") hx hb hown (hts _ q339) (hST.2.2.2.2.2.2.2.1 _ (List.mem_of_getElem? (i := 7) rfl)) (r_recvT 0 hK hP (i := 1) rfl rfl (fun _ h => by cases h) rfl) (show decode cX1_width 18 = .ok (.instanceof 19, 3) by decide +kernel) ?_
  refine lv_if_eq (tgt := 28) hx hb (show decode cX1_width 21 = .ok (.ifCond .eq 7, 3) by decide +kernel) (by decide) (fun cnd_ => ?_) (fun cnd_ => absurd (rfl) cnd_)
  refine lv_aload_n hx hb (show decode cX1_width 28 = .ok (.aload_n 0, 1) by decide +kernel) rfl (lv_at hl 0 rfl) ?_
  refine va_get (D := G.1) (ci := 1) (v := .ref r0) (C := RX1) (T := TX1) (N := 1) hx hb hts in_X1 hown hK.1 hP 0 rfl rfl 0 (by decide) (hts _ q388) (fun _ h9 => h9) rfl (show decode cX1_width 29 = .ok (.getfield 9, 3) by decide +kernel) ?_
  refine va_instE hx hb hown (hts _ q358) (r_recvT 0 hK hP (i := 1) rfl rfl (fun _ h => by cases h) rfl) (show decode cX1_width 32 = .ok (.instanceof 21, 3) by decide +kernel) ?_
  refine lv_if_eq (tgt := 42) hx hb (show decode cX1_width 35 = .ok (.ifCond .eq 7, 3) by decide +kernel) (by decide) (fun cnd_ => absurd cnd_ (by decide)) (fun cnd_ => ?_)
  refine lv_iconst (v := 2) hx hb (show decode cX1_width 38 = .ok (.iconst 2, 1) by decide +kernel) (by decide) ?_
  refine lv_goto (tgt := 43) hx hb (show decode cX1_width 39 = .ok (.goto 4, 3) by decide +kernel) (by decide) ?_
  have hP9 := hP.sub (ws' := [(h0, .inr (1, [.ref r0])), (r0, .inl (G.2.2.1 0, n0, .inl (f0)))]) [0, 1] rfl
  have hD9 := hD.sub (ws' := [(h0, .inr (1, [.ref r0])), (r0, .inl (G.2.2.1 0, n0, .inl (f0)))]) [0, 1] (by decide) rfl
  exact W.iret (v := 2) hx hb hr (fun t ht hW => ⟨⟨2, (), rfl, rfl, by rw [ht]; exact hP9, hD9⟩, hS.F ht⟩) hS.2.2 (show decode cX1_width 43 = .ok (.ireturn, 1) by decide +kernel)

set_option maxHeartbeats 4000000 in
set_option maxRecDepth 100000 in
theorem rX1_many_2 (l : Launch) (G : zG) (d sz : Nat) (h0 : Nat) (r0 : Nat) (n0 : Nat) (f0 : Nat → Int32) : Met l yX1_many (ws_ yX1_many cX1_many 1 (some .int)) (eRoom d 0 0) (rPc G [.ref h0] [(h0, .inr (1, [.ref r0])), (r0, .inl (G.2.2.1 0, n0, .inl (f0)))] sz) (va_Qi (fun (r : Int32) _ => r = nI n0) (rB G (fun _ : Unit => [(h0, .inr (1, [.ref r0])), (r0, .inl (G.2.2.1 0, n0, .inl (f0)))]) (va_A [(h0, .inr (1, [.ref r0])), (r0, .inl (G.2.2.1 0, n0, .inl (f0)))] sz)) (va_A [(h0, .inr (1, [.ref r0])), (r0, .inl (G.2.2.1 0, n0, .inl (f0)))] sz)) 0 0 (va_A [(h0, .inr (1, [.ref r0])), (r0, .inl (G.2.2.1 0, n0, .inl (f0)))] sz) := by
  refine Met.ofW (cc := cX1_many) (maxL := 1) (ret := (some .int)) (by decide) rfl ?_
  intro p e s m args below meth c s₁ B hml hv
  obtain ⟨rfl, hsz, hP, hK, hST, hD0⟩ := hv
  have hx := B.exec
  have hb := B.bytes
  have hr := B.returns
  have hts := atoms_spec (ws := ws_ yX1_many cX1_many 1 (some .int)) B.pre
  have hts : ∀ w ∈ lw_all, w.before _ s = true := fun w h => hts w (List.mem_cons_of_mem _ h)
  have hown : s.vm.findClass RX1 = some m.cls := findClass_of_methodNamed B.named
  have hlocks := B.notSynchronized
  subst hsz
  have hD := hD0.self (sz := s.heap.size)
  generalize hAe : va_A [(h0, .inr (1, [.ref r0])), (r0, .inl (G.2.2.1 0, n0, .inl (f0)))] s.heap.size = A at hD hST ⊢
  have hA : ∀ q : Nat, s.heap.size ≤ q → A q := fun q h => by rw [← hAe]; exact Or.inr h
  have hS : va_S A s.heap s.heap [] := va_S.rf
  have hP : va_P G.1 zcl [(h0, .inr (1, [.ref r0])), (r0, .inl (G.2.2.1 0, n0, .inl (f0)))] s.heap := hP
  have hl := lv_entry ([.ref h0]) (n := 1) (Nat.le_of_ble_eq_true rfl)
  rw [lg_entry_eq]
  generalize (lg_sl ([.ref h0]) ++ List.replicate (1 - (lg_sl ([.ref h0])).length) Slot.unset).toArray = ls at hl ⊢
  have hl : lv_has ls 1 [(0, .ref h0)] := hl
  refine lv_aload_n hx hb (show decode cX1_many 0 = .ok (.aload_n 0, 1) by decide +kernel) rfl (lv_at hl 0 rfl) ?_
  refine va_get (D := G.1) (ci := 1) (v := .ref r0) (C := RX1) (T := TX1) (N := 1) hx hb hts in_X1 hown hK.1 hP 0 rfl rfl 0 (by decide) (hts _ q388) (fun _ h9 => h9) rfl (show decode cX1_many 1 = .ok (.getfield 9, 3) by decide +kernel) ?_
  refine va_instNo (C := "[I") hx hb hown (hts _ q338) (hST.2.2.2.2.2.2.2.1 _ (List.mem_of_getElem? (i := 6) rfl)) (r_recvT 0 hK hP (i := 1) rfl rfl (fun _ h => by cases h) rfl) (show decode cX1_many 4 = .ok (.instanceof 17, 3) by decide +kernel) ?_
  refine lv_if_eq (tgt := 19) hx hb (show decode cX1_many 7 = .ok (.ifCond .eq 12, 3) by decide +kernel) (by decide) (fun cnd_ => ?_) (fun cnd_ => absurd (rfl) cnd_)
  refine lv_aload_n hx hb (show decode cX1_many 19 = .ok (.aload_n 0, 1) by decide +kernel) rfl (lv_at hl 0 rfl) ?_
  refine va_get (D := G.1) (ci := 1) (v := .ref r0) (C := RX1) (T := TX1) (N := 1) hx hb hts in_X1 hown hK.1 hP 0 rfl rfl 0 (by decide) (hts _ q388) (fun _ h9 => h9) rfl (show decode cX1_many 20 = .ok (.getfield 9, 3) by decide +kernel) ?_
  refine va_instNo (C := "[I") hx hb hown (hts _ q339) (hST.2.2.2.2.2.2.2.1 _ (List.mem_of_getElem? (i := 7) rfl)) (r_recvT 0 hK hP (i := 1) rfl rfl (fun _ h => by cases h) rfl) (show decode cX1_many 23 = .ok (.instanceof 19, 3) by decide +kernel) ?_
  refine lv_if_eq (tgt := 38) hx hb (show decode cX1_many 26 = .ok (.ifCond .eq 12, 3) by decide +kernel) (by decide) (fun cnd_ => ?_) (fun cnd_ => absurd (rfl) cnd_)
  refine lv_aload_n hx hb (show decode cX1_many 38 = .ok (.aload_n 0, 1) by decide +kernel) rfl (lv_at hl 0 rfl) ?_
  refine va_get (D := G.1) (ci := 1) (v := .ref r0) (C := RX1) (T := TX1) (N := 1) hx hb hts in_X1 hown hK.1 hP 0 rfl rfl 0 (by decide) (hts _ q388) (fun _ h9 => h9) rfl (show decode cX1_many 39 = .ok (.getfield 9, 3) by decide +kernel) ?_
  refine va_instE hx hb hown (hts _ q358) (r_recvT 0 hK hP (i := 1) rfl rfl (fun _ h => by cases h) rfl) (show decode cX1_many 42 = .ok (.instanceof 21, 3) by decide +kernel) ?_
  refine lv_if_eq (tgt := 59) hx hb (show decode cX1_many 45 = .ok (.ifCond .eq 14, 3) by decide +kernel) (by decide) (fun cnd_ => absurd cnd_ (by decide)) (fun cnd_ => ?_)
  refine lv_aload_n hx hb (show decode cX1_many 48 = .ok (.aload_n 0, 1) by decide +kernel) rfl (lv_at hl 0 rfl) ?_
  refine va_get (D := G.1) (ci := 1) (v := .ref r0) (C := RX1) (T := TX1) (N := 1) hx hb hts in_X1 hown hK.1 hP 0 rfl rfl 0 (by decide) (hts _ q388) (fun _ h9 => h9) rfl (show decode cX1_many 49 = .ok (.getfield 9, 3) by decide +kernel) ?_
  refine va_castE hx hb hown (hts _ q358) (r_recvT 0 hK hP (i := 1) rfl rfl (fun _ h => by cases h) rfl) (show decode cX1_many 52 = .ok (.checkcast 21, 3) by decide +kernel) ?_
  refine va_alen (v := nI n0) hx hb hK.1 hP 1 0 rfl rfl rfl (show decode cX1_many 55 = .ok (.arraylength, 1) by decide +kernel) ?_
  refine lv_goto (tgt := 67) hx hb (show decode cX1_many 56 = .ok (.goto 11, 3) by decide +kernel) (by decide) ?_
  have hP9 := hP.sub (ws' := [(h0, .inr (1, [.ref r0])), (r0, .inl (G.2.2.1 0, n0, .inl (f0)))]) [0, 1] rfl
  have hD9 := hD.sub (ws' := [(h0, .inr (1, [.ref r0])), (r0, .inl (G.2.2.1 0, n0, .inl (f0)))]) [0, 1] (by decide) rfl
  exact W.iret (v := (nI n0)) hx hb hr (fun t ht hW => ⟨⟨(nI n0), (), rfl, rfl, by rw [ht]; exact hP9, hD9⟩, hS.F ht⟩) hS.2.2 (show decode cX1_many 67 = .ok (.ireturn, 1) by decide +kernel)

set_option maxHeartbeats 4000000 in
set_option maxRecDepth 100000 in
theorem rX1_number_2 (l : Launch) (G : zG) (d sz : Nat) (h0 : Nat) (r0 : Nat) (n0 : Nat) (f0 : Nat → Int32) (i0 : Nat) (hi : i0 < n0) (hn : n0 < 2 ^ 31) : Met l yX1_number (ws_ yX1_number cX1_number 2 (some .long)) (eRoom d 0 0) (rPc G [.ref h0, .int (nI i0)] [(h0, .inr (1, [.ref r0])), (r0, .inl (G.2.2.1 0, n0, .inl (f0)))] sz) (va_Ql (fun (r : Int64) _ => r = (f0 i0).toInt64) (rB G (fun _ : Unit => [(h0, .inr (1, [.ref r0])), (r0, .inl (G.2.2.1 0, n0, .inl (f0)))]) (va_A [(h0, .inr (1, [.ref r0])), (r0, .inl (G.2.2.1 0, n0, .inl (f0)))] sz)) (va_A [(h0, .inr (1, [.ref r0])), (r0, .inl (G.2.2.1 0, n0, .inl (f0)))] sz)) 0 0 (va_A [(h0, .inr (1, [.ref r0])), (r0, .inl (G.2.2.1 0, n0, .inl (f0)))] sz) := by
  refine Met.ofW (cc := cX1_number) (maxL := 2) (ret := (some .long)) (by decide) rfl ?_
  intro p e s m args below meth c s₁ B hml hv
  obtain ⟨rfl, hsz, hP, hK, hST, hD0⟩ := hv
  have hx := B.exec
  have hb := B.bytes
  have hr := B.returns
  have hts := atoms_spec (ws := ws_ yX1_number cX1_number 2 (some .long)) B.pre
  have hts : ∀ w ∈ lw_all, w.before _ s = true := fun w h => hts w (List.mem_cons_of_mem _ h)
  have hown : s.vm.findClass RX1 = some m.cls := findClass_of_methodNamed B.named
  have hlocks := B.notSynchronized
  subst hsz
  have hD := hD0.self (sz := s.heap.size)
  generalize hAe : va_A [(h0, .inr (1, [.ref r0])), (r0, .inl (G.2.2.1 0, n0, .inl (f0)))] s.heap.size = A at hD hST ⊢
  have hA : ∀ q : Nat, s.heap.size ≤ q → A q := fun q h => by rw [← hAe]; exact Or.inr h
  have hS : va_S A s.heap s.heap [] := va_S.rf
  have hP : va_P G.1 zcl [(h0, .inr (1, [.ref r0])), (r0, .inl (G.2.2.1 0, n0, .inl (f0)))] s.heap := hP
  have hl := lv_entry ([.ref h0, .int (nI i0)]) (n := 2) (Nat.le_of_ble_eq_true rfl)
  rw [lg_entry_eq]
  generalize (lg_sl ([.ref h0, .int (nI i0)]) ++ List.replicate (2 - (lg_sl ([.ref h0, .int (nI i0)])).length) Slot.unset).toArray = ls at hl ⊢
  have hl : lv_has ls 2 [(0, .ref h0), (1, .int (nI i0))] := hl
  refine lv_aload_n hx hb (show decode cX1_number 0 = .ok (.aload_n 0, 1) by decide +kernel) rfl (lv_at hl 0 rfl) ?_
  refine va_get (D := G.1) (ci := 1) (v := .ref r0) (C := RX1) (T := TX1) (N := 1) hx hb hts in_X1 hown hK.1 hP 0 rfl rfl 0 (by decide) (hts _ q388) (fun _ h9 => h9) rfl (show decode cX1_number 1 = .ok (.getfield 9, 3) by decide +kernel) ?_
  refine va_instNo (C := "[I") hx hb hown (hts _ q338) (hST.2.2.2.2.2.2.2.1 _ (List.mem_of_getElem? (i := 6) rfl)) (r_recvT 0 hK hP (i := 1) rfl rfl (fun _ h => by cases h) rfl) (show decode cX1_number 4 = .ok (.instanceof 17, 3) by decide +kernel) ?_
  refine lv_if_eq (tgt := 21) hx hb (show decode cX1_number 7 = .ok (.ifCond .eq 14, 3) by decide +kernel) (by decide) (fun cnd_ => ?_) (fun cnd_ => absurd (rfl) cnd_)
  refine lv_aload_n hx hb (show decode cX1_number 21 = .ok (.aload_n 0, 1) by decide +kernel) rfl (lv_at hl 0 rfl) ?_
  refine va_get (D := G.1) (ci := 1) (v := .ref r0) (C := RX1) (T := TX1) (N := 1) hx hb hts in_X1 hown hK.1 hP 0 rfl rfl 0 (by decide) (hts _ q388) (fun _ h9 => h9) rfl (show decode cX1_number 22 = .ok (.getfield 9, 3) by decide +kernel) ?_
  refine va_instNo (C := "[I") hx hb hown (hts _ q339) (hST.2.2.2.2.2.2.2.1 _ (List.mem_of_getElem? (i := 7) rfl)) (r_recvT 0 hK hP (i := 1) rfl rfl (fun _ h => by cases h) rfl) (show decode cX1_number 25 = .ok (.instanceof 19, 3) by decide +kernel) ?_
  refine lv_if_eq (tgt := 42) hx hb (show decode cX1_number 28 = .ok (.ifCond .eq 14, 3) by decide +kernel) (by decide) (fun cnd_ => ?_) (fun cnd_ => absurd (rfl) cnd_)
  refine lv_aload_n hx hb (show decode cX1_number 42 = .ok (.aload_n 0, 1) by decide +kernel) rfl (lv_at hl 0 rfl) ?_
  refine va_get (D := G.1) (ci := 1) (v := .ref r0) (C := RX1) (T := TX1) (N := 1) hx hb hts in_X1 hown hK.1 hP 0 rfl rfl 0 (by decide) (hts _ q388) (fun _ h9 => h9) rfl (show decode cX1_number 43 = .ok (.getfield 9, 3) by decide +kernel) ?_
  refine va_instE hx hb hown (hts _ q358) (r_recvT 0 hK hP (i := 1) rfl rfl (fun _ h => by cases h) rfl) (show decode cX1_number 46 = .ok (.instanceof 21, 3) by decide +kernel) ?_
  refine lv_if_eq (tgt := 65) hx hb (show decode cX1_number 49 = .ok (.ifCond .eq 16, 3) by decide +kernel) (by decide) (fun cnd_ => absurd cnd_ (by decide)) (fun cnd_ => ?_)
  refine lv_aload_n hx hb (show decode cX1_number 52 = .ok (.aload_n 0, 1) by decide +kernel) rfl (lv_at hl 0 rfl) ?_
  refine va_get (D := G.1) (ci := 1) (v := .ref r0) (C := RX1) (T := TX1) (N := 1) hx hb hts in_X1 hown hK.1 hP 0 rfl rfl 0 (by decide) (hts _ q388) (fun _ h9 => h9) rfl (show decode cX1_number 53 = .ok (.getfield 9, 3) by decide +kernel) ?_
  refine va_castE hx hb hown (hts _ q358) (r_recvT 0 hK hP (i := 1) rfl rfl (fun _ h => by cases h) rfl) (show decode cX1_number 56 = .ok (.checkcast 21, 3) by decide +kernel) ?_
  refine lv_iload_n hx hb (show decode cX1_number 59 = .ok (.iload_n 1, 1) by decide +kernel) rfl (lv_at hl 1 rfl) ?_
  refine va_iald hx hb hK.1 hP 1 0 rfl rfl (vp_in_nI hi hn) (show decode cX1_number 60 = .ok (.iaload, 1) by decide +kernel) ?_
  rw [nI_clamp (by omega)]
  refine lv_i2l (v := ((f0 i0)).toInt64) hx hb (show decode cX1_number 61 = .ok (.i2l, 1) by decide +kernel) rfl ?_
  refine lv_goto (tgt := 74) hx hb (show decode cX1_number 62 = .ok (.goto 12, 3) by decide +kernel) (by decide) ?_
  have hP9 := hP.sub (ws' := [(h0, .inr (1, [.ref r0])), (r0, .inl (G.2.2.1 0, n0, .inl (f0)))]) [0, 1] rfl
  have hD9 := hD.sub (ws' := [(h0, .inr (1, [.ref r0])), (r0, .inl (G.2.2.1 0, n0, .inl (f0)))]) [0, 1] (by decide) rfl
  exact W.lret (v := ((f0 i0)).toInt64) hx hb hr (fun t ht hW => ⟨⟨((f0 i0)).toInt64, (), rfl, rfl, by rw [ht]; exact hP9, hD9⟩, hS.F ht⟩) hS.2.2 (show decode cX1_number 74 = .ok (.lreturn, 1) by decide +kernel)

set_option maxHeartbeats 4000000 in
set_option maxRecDepth 100000 in
theorem rX1_width_3 (l : Launch) (G : zG) (d sz : Nat) (h0 : Nat) (r0 : Nat) (n0 : Nat) (f0 : Nat → Int64) : Met l yX1_width (ws_ yX1_width cX1_width 1 (some .int)) (eRoom d 0 0) (rPc G [.ref h0] [(h0, .inr (1, [.ref r0])), (r0, .inl (G.2.2.1 3, n0, .inr (.inl (f0))))] sz) (va_Qi (fun (r : Int32) _ => r = 3) (rB G (fun _ : Unit => [(h0, .inr (1, [.ref r0])), (r0, .inl (G.2.2.1 3, n0, .inr (.inl (f0))))]) (va_A [(h0, .inr (1, [.ref r0])), (r0, .inl (G.2.2.1 3, n0, .inr (.inl (f0))))] sz)) (va_A [(h0, .inr (1, [.ref r0])), (r0, .inl (G.2.2.1 3, n0, .inr (.inl (f0))))] sz)) 0 0 (va_A [(h0, .inr (1, [.ref r0])), (r0, .inl (G.2.2.1 3, n0, .inr (.inl (f0))))] sz) := by
  refine Met.ofW (cc := cX1_width) (maxL := 1) (ret := (some .int)) (by decide) rfl ?_
  intro p e s m args below meth c s₁ B hml hv
  obtain ⟨rfl, hsz, hP, hK, hST, hD0⟩ := hv
  have hx := B.exec
  have hb := B.bytes
  have hr := B.returns
  have hts := atoms_spec (ws := ws_ yX1_width cX1_width 1 (some .int)) B.pre
  have hts : ∀ w ∈ lw_all, w.before _ s = true := fun w h => hts w (List.mem_cons_of_mem _ h)
  have hown : s.vm.findClass RX1 = some m.cls := findClass_of_methodNamed B.named
  have hlocks := B.notSynchronized
  subst hsz
  have hD := hD0.self (sz := s.heap.size)
  generalize hAe : va_A [(h0, .inr (1, [.ref r0])), (r0, .inl (G.2.2.1 3, n0, .inr (.inl (f0))))] s.heap.size = A at hD hST ⊢
  have hA : ∀ q : Nat, s.heap.size ≤ q → A q := fun q h => by rw [← hAe]; exact Or.inr h
  have hS : va_S A s.heap s.heap [] := va_S.rf
  have hP : va_P G.1 zcl [(h0, .inr (1, [.ref r0])), (r0, .inl (G.2.2.1 3, n0, .inr (.inl (f0))))] s.heap := hP
  have hl := lv_entry ([.ref h0]) (n := 1) (Nat.le_of_ble_eq_true rfl)
  rw [lg_entry_eq]
  generalize (lg_sl ([.ref h0]) ++ List.replicate (1 - (lg_sl ([.ref h0])).length) Slot.unset).toArray = ls at hl ⊢
  have hl : lv_has ls 1 [(0, .ref h0)] := hl
  refine lv_aload_n hx hb (show decode cX1_width 0 = .ok (.aload_n 0, 1) by decide +kernel) rfl (lv_at hl 0 rfl) ?_
  refine va_get (D := G.1) (ci := 1) (v := .ref r0) (C := RX1) (T := TX1) (N := 1) hx hb hts in_X1 hown hK.1 hP 0 rfl rfl 0 (by decide) (hts _ q388) (fun _ h9 => h9) rfl (show decode cX1_width 1 = .ok (.getfield 9, 3) by decide +kernel) ?_
  refine va_instNo (C := "[J") hx hb hown (hts _ q338) (hST.2.2.2.2.2.2.2.1 _ (List.mem_of_getElem? (i := 9) rfl)) (r_recvT 3 hK hP (i := 1) rfl rfl (fun _ h => by cases h) rfl) (show decode cX1_width 4 = .ok (.instanceof 17, 3) by decide +kernel) ?_
  refine lv_if_eq (tgt := 14) hx hb (show decode cX1_width 7 = .ok (.ifCond .eq 7, 3) by decide +kernel) (by decide) (fun cnd_ => ?_) (fun cnd_ => absurd (rfl) cnd_)
  refine lv_aload_n hx hb (show decode cX1_width 14 = .ok (.aload_n 0, 1) by decide +kernel) rfl (lv_at hl 0 rfl) ?_
  refine va_get (D := G.1) (ci := 1) (v := .ref r0) (C := RX1) (T := TX1) (N := 1) hx hb hts in_X1 hown hK.1 hP 0 rfl rfl 0 (by decide) (hts _ q388) (fun _ h9 => h9) rfl (show decode cX1_width 15 = .ok (.getfield 9, 3) by decide +kernel) ?_
  refine va_instNo (C := "[J") hx hb hown (hts _ q339) (hST.2.2.2.2.2.2.2.1 _ (List.mem_of_getElem? (i := 10) rfl)) (r_recvT 3 hK hP (i := 1) rfl rfl (fun _ h => by cases h) rfl) (show decode cX1_width 18 = .ok (.instanceof 19, 3) by decide +kernel) ?_
  refine lv_if_eq (tgt := 28) hx hb (show decode cX1_width 21 = .ok (.ifCond .eq 7, 3) by decide +kernel) (by decide) (fun cnd_ => ?_) (fun cnd_ => absurd (rfl) cnd_)
  refine lv_aload_n hx hb (show decode cX1_width 28 = .ok (.aload_n 0, 1) by decide +kernel) rfl (lv_at hl 0 rfl) ?_
  refine va_get (D := G.1) (ci := 1) (v := .ref r0) (C := RX1) (T := TX1) (N := 1) hx hb hts in_X1 hown hK.1 hP 0 rfl rfl 0 (by decide) (hts _ q388) (fun _ h9 => h9) rfl (show decode cX1_width 29 = .ok (.getfield 9, 3) by decide +kernel) ?_
  refine va_instNo (C := "[J") hx hb hown (hts _ q358) (hST.2.2.2.2.2.2.2.1 _ (List.mem_of_getElem? (i := 11) rfl)) (r_recvT 3 hK hP (i := 1) rfl rfl (fun _ h => by cases h) rfl) (show decode cX1_width 32 = .ok (.instanceof 21, 3) by decide +kernel) ?_
  refine lv_if_eq (tgt := 42) hx hb (show decode cX1_width 35 = .ok (.ifCond .eq 7, 3) by decide +kernel) (by decide) (fun cnd_ => ?_) (fun cnd_ => absurd (rfl) cnd_)
  refine lv_iconst (v := 3) hx hb (show decode cX1_width 42 = .ok (.iconst 3, 1) by decide +kernel) (by decide) ?_
  have hP9 := hP.sub (ws' := [(h0, .inr (1, [.ref r0])), (r0, .inl (G.2.2.1 3, n0, .inr (.inl (f0))))]) [0, 1] rfl
  have hD9 := hD.sub (ws' := [(h0, .inr (1, [.ref r0])), (r0, .inl (G.2.2.1 3, n0, .inr (.inl (f0))))]) [0, 1] (by decide) rfl
  exact W.iret (v := 3) hx hb hr (fun t ht hW => ⟨⟨3, (), rfl, rfl, by rw [ht]; exact hP9, hD9⟩, hS.F ht⟩) hS.2.2 (show decode cX1_width 43 = .ok (.ireturn, 1) by decide +kernel)

set_option maxHeartbeats 4000000 in
set_option maxRecDepth 100000 in
theorem rX1_many_3 (l : Launch) (G : zG) (d sz : Nat) (h0 : Nat) (r0 : Nat) (n0 : Nat) (f0 : Nat → Int64) : Met l yX1_many (ws_ yX1_many cX1_many 1 (some .int)) (eRoom d 0 0) (rPc G [.ref h0] [(h0, .inr (1, [.ref r0])), (r0, .inl (G.2.2.1 3, n0, .inr (.inl (f0))))] sz) (va_Qi (fun (r : Int32) _ => r = nI n0) (rB G (fun _ : Unit => [(h0, .inr (1, [.ref r0])), (r0, .inl (G.2.2.1 3, n0, .inr (.inl (f0))))]) (va_A [(h0, .inr (1, [.ref r0])), (r0, .inl (G.2.2.1 3, n0, .inr (.inl (f0))))] sz)) (va_A [(h0, .inr (1, [.ref r0])), (r0, .inl (G.2.2.1 3, n0, .inr (.inl (f0))))] sz)) 0 0 (va_A [(h0, .inr (1, [.ref r0])), (r0, .inl (G.2.2.1 3, n0, .inr (.inl (f0))))] sz) := by
  refine Met.ofW (cc := cX1_many) (maxL := 1) (ret := (some .int)) (by decide) rfl ?_
  intro p e s m args below meth c s₁ B hml hv
  obtain ⟨rfl, hsz, hP, hK, hST, hD0⟩ := hv
  have hx := B.exec
  have hb := B.bytes
  have hr := B.returns
  have hts := atoms_spec (ws := ws_ yX1_many cX1_many 1 (some .int)) B.pre
  have hts : ∀ w ∈ lw_all, w.before _ s = true := fun w h => hts w (List.mem_cons_of_mem _ h)
  have hown : s.vm.findClass RX1 = some m.cls := findClass_of_methodNamed B.named
  have hlocks := B.notSynchronized
  subst hsz
  have hD := hD0.self (sz := s.heap.size)
  generalize hAe : va_A [(h0, .inr (1, [.ref r0])), (r0, .inl (G.2.2.1 3, n0, .inr (.inl (f0))))] s.heap.size = A at hD hST ⊢
  have hA : ∀ q : Nat, s.heap.size ≤ q → A q := fun q h => by rw [← hAe]; exact Or.inr h
  have hS : va_S A s.heap s.heap [] := va_S.rf
  have hP : va_P G.1 zcl [(h0, .inr (1, [.ref r0])), (r0, .inl (G.2.2.1 3, n0, .inr (.inl (f0))))] s.heap := hP
  have hl := lv_entry ([.ref h0]) (n := 1) (Nat.le_of_ble_eq_true rfl)
  rw [lg_entry_eq]
  generalize (lg_sl ([.ref h0]) ++ List.replicate (1 - (lg_sl ([.ref h0])).length) Slot.unset).toArray = ls at hl ⊢
  have hl : lv_has ls 1 [(0, .ref h0)] := hl
  refine lv_aload_n hx hb (show decode cX1_many 0 = .ok (.aload_n 0, 1) by decide +kernel) rfl (lv_at hl 0 rfl) ?_
  refine va_get (D := G.1) (ci := 1) (v := .ref r0) (C := RX1) (T := TX1) (N := 1) hx hb hts in_X1 hown hK.1 hP 0 rfl rfl 0 (by decide) (hts _ q388) (fun _ h9 => h9) rfl (show decode cX1_many 1 = .ok (.getfield 9, 3) by decide +kernel) ?_
  refine va_instNo (C := "[J") hx hb hown (hts _ q338) (hST.2.2.2.2.2.2.2.1 _ (List.mem_of_getElem? (i := 9) rfl)) (r_recvT 3 hK hP (i := 1) rfl rfl (fun _ h => by cases h) rfl) (show decode cX1_many 4 = .ok (.instanceof 17, 3) by decide +kernel) ?_
  refine lv_if_eq (tgt := 19) hx hb (show decode cX1_many 7 = .ok (.ifCond .eq 12, 3) by decide +kernel) (by decide) (fun cnd_ => ?_) (fun cnd_ => absurd (rfl) cnd_)
  refine lv_aload_n hx hb (show decode cX1_many 19 = .ok (.aload_n 0, 1) by decide +kernel) rfl (lv_at hl 0 rfl) ?_
  refine va_get (D := G.1) (ci := 1) (v := .ref r0) (C := RX1) (T := TX1) (N := 1) hx hb hts in_X1 hown hK.1 hP 0 rfl rfl 0 (by decide) (hts _ q388) (fun _ h9 => h9) rfl (show decode cX1_many 20 = .ok (.getfield 9, 3) by decide +kernel) ?_
  refine va_instNo (C := "[J") hx hb hown (hts _ q339) (hST.2.2.2.2.2.2.2.1 _ (List.mem_of_getElem? (i := 10) rfl)) (r_recvT 3 hK hP (i := 1) rfl rfl (fun _ h => by cases h) rfl) (show decode cX1_many 23 = .ok (.instanceof 19, 3) by decide +kernel) ?_
  refine lv_if_eq (tgt := 38) hx hb (show decode cX1_many 26 = .ok (.ifCond .eq 12, 3) by decide +kernel) (by decide) (fun cnd_ => ?_) (fun cnd_ => absurd (rfl) cnd_)
  refine lv_aload_n hx hb (show decode cX1_many 38 = .ok (.aload_n 0, 1) by decide +kernel) rfl (lv_at hl 0 rfl) ?_
  refine va_get (D := G.1) (ci := 1) (v := .ref r0) (C := RX1) (T := TX1) (N := 1) hx hb hts in_X1 hown hK.1 hP 0 rfl rfl 0 (by decide) (hts _ q388) (fun _ h9 => h9) rfl (show decode cX1_many 39 = .ok (.getfield 9, 3) by decide +kernel) ?_
  refine va_instNo (C := "[J") hx hb hown (hts _ q358) (hST.2.2.2.2.2.2.2.1 _ (List.mem_of_getElem? (i := 11) rfl)) (r_recvT 3 hK hP (i := 1) rfl rfl (fun _ h => by cases h) rfl) (show decode cX1_many 42 = .ok (.instanceof 21, 3) by decide +kernel) ?_
  refine lv_if_eq (tgt := 59) hx hb (show decode cX1_many 45 = .ok (.ifCond .eq 14, 3) by decide +kernel) (by decide) (fun cnd_ => ?_) (fun cnd_ => absurd (rfl) cnd_)
  refine lv_aload_n hx hb (show decode cX1_many 59 = .ok (.aload_n 0, 1) by decide +kernel) rfl (lv_at hl 0 rfl) ?_
  refine va_get (D := G.1) (ci := 1) (v := .ref r0) (C := RX1) (T := TX1) (N := 1) hx hb hts in_X1 hown hK.1 hP 0 rfl rfl 0 (by decide) (hts _ q388) (fun _ h9 => h9) rfl (show decode cX1_many 60 = .ok (.getfield 9, 3) by decide +kernel) ?_
  refine va_castE hx hb hown (hts _ q359) (r_recvT 3 hK hP (i := 1) rfl rfl (fun _ h => by cases h) rfl) (show decode cX1_many 63 = .ok (.checkcast 23, 3) by decide +kernel) ?_
  refine va_alen (v := nI n0) hx hb hK.1 hP 1 3 rfl rfl rfl (show decode cX1_many 66 = .ok (.arraylength, 1) by decide +kernel) ?_
  have hP9 := hP.sub (ws' := [(h0, .inr (1, [.ref r0])), (r0, .inl (G.2.2.1 3, n0, .inr (.inl (f0))))]) [0, 1] rfl
  have hD9 := hD.sub (ws' := [(h0, .inr (1, [.ref r0])), (r0, .inl (G.2.2.1 3, n0, .inr (.inl (f0))))]) [0, 1] (by decide) rfl
  exact W.iret (v := (nI n0)) hx hb hr (fun t ht hW => ⟨⟨(nI n0), (), rfl, rfl, by rw [ht]; exact hP9, hD9⟩, hS.F ht⟩) hS.2.2 (show decode cX1_many 67 = .ok (.ireturn, 1) by decide +kernel)

set_option maxHeartbeats 4000000 in
set_option maxRecDepth 100000 in
theorem rX1_number_3 (l : Launch) (G : zG) (d sz : Nat) (h0 : Nat) (r0 : Nat) (n0 : Nat) (f0 : Nat → Int64) (i0 : Nat) (hi : i0 < n0) (hn : n0 < 2 ^ 31) : Met l yX1_number (ws_ yX1_number cX1_number 2 (some .long)) (eRoom d 0 0) (rPc G [.ref h0, .int (nI i0)] [(h0, .inr (1, [.ref r0])), (r0, .inl (G.2.2.1 3, n0, .inr (.inl (f0))))] sz) (va_Ql (fun (r : Int64) _ => r = f0 i0) (rB G (fun _ : Unit => [(h0, .inr (1, [.ref r0])), (r0, .inl (G.2.2.1 3, n0, .inr (.inl (f0))))]) (va_A [(h0, .inr (1, [.ref r0])), (r0, .inl (G.2.2.1 3, n0, .inr (.inl (f0))))] sz)) (va_A [(h0, .inr (1, [.ref r0])), (r0, .inl (G.2.2.1 3, n0, .inr (.inl (f0))))] sz)) 0 0 (va_A [(h0, .inr (1, [.ref r0])), (r0, .inl (G.2.2.1 3, n0, .inr (.inl (f0))))] sz) := by
  refine Met.ofW (cc := cX1_number) (maxL := 2) (ret := (some .long)) (by decide) rfl ?_
  intro p e s m args below meth c s₁ B hml hv
  obtain ⟨rfl, hsz, hP, hK, hST, hD0⟩ := hv
  have hx := B.exec
  have hb := B.bytes
  have hr := B.returns
  have hts := atoms_spec (ws := ws_ yX1_number cX1_number 2 (some .long)) B.pre
  have hts : ∀ w ∈ lw_all, w.before _ s = true := fun w h => hts w (List.mem_cons_of_mem _ h)
  have hown : s.vm.findClass RX1 = some m.cls := findClass_of_methodNamed B.named
  have hlocks := B.notSynchronized
  subst hsz
  have hD := hD0.self (sz := s.heap.size)
  generalize hAe : va_A [(h0, .inr (1, [.ref r0])), (r0, .inl (G.2.2.1 3, n0, .inr (.inl (f0))))] s.heap.size = A at hD hST ⊢
  have hA : ∀ q : Nat, s.heap.size ≤ q → A q := fun q h => by rw [← hAe]; exact Or.inr h
  have hS : va_S A s.heap s.heap [] := va_S.rf
  have hP : va_P G.1 zcl [(h0, .inr (1, [.ref r0])), (r0, .inl (G.2.2.1 3, n0, .inr (.inl (f0))))] s.heap := hP
  have hl := lv_entry ([.ref h0, .int (nI i0)]) (n := 2) (Nat.le_of_ble_eq_true rfl)
  rw [lg_entry_eq]
  generalize (lg_sl ([.ref h0, .int (nI i0)]) ++ List.replicate (2 - (lg_sl ([.ref h0, .int (nI i0)])).length) Slot.unset).toArray = ls at hl ⊢
  have hl : lv_has ls 2 [(0, .ref h0), (1, .int (nI i0))] := hl
  refine lv_aload_n hx hb (show decode cX1_number 0 = .ok (.aload_n 0, 1) by decide +kernel) rfl (lv_at hl 0 rfl) ?_
  refine va_get (D := G.1) (ci := 1) (v := .ref r0) (C := RX1) (T := TX1) (N := 1) hx hb hts in_X1 hown hK.1 hP 0 rfl rfl 0 (by decide) (hts _ q388) (fun _ h9 => h9) rfl (show decode cX1_number 1 = .ok (.getfield 9, 3) by decide +kernel) ?_
  refine va_instNo (C := "[J") hx hb hown (hts _ q338) (hST.2.2.2.2.2.2.2.1 _ (List.mem_of_getElem? (i := 9) rfl)) (r_recvT 3 hK hP (i := 1) rfl rfl (fun _ h => by cases h) rfl) (show decode cX1_number 4 = .ok (.instanceof 17, 3) by decide +kernel) ?_
  refine lv_if_eq (tgt := 21) hx hb (show decode cX1_number 7 = .ok (.ifCond .eq 14, 3) by decide +kernel) (by decide) (fun cnd_ => ?_) (fun cnd_ => absurd (rfl) cnd_)
  refine lv_aload_n hx hb (show decode cX1_number 21 = .ok (.aload_n 0, 1) by decide +kernel) rfl (lv_at hl 0 rfl) ?_
  refine va_get (D := G.1) (ci := 1) (v := .ref r0) (C := RX1) (T := TX1) (N := 1) hx hb hts in_X1 hown hK.1 hP 0 rfl rfl 0 (by decide) (hts _ q388) (fun _ h9 => h9) rfl (show decode cX1_number 22 = .ok (.getfield 9, 3) by decide +kernel) ?_
  refine va_instNo (C := "[J") hx hb hown (hts _ q339) (hST.2.2.2.2.2.2.2.1 _ (List.mem_of_getElem? (i := 10) rfl)) (r_recvT 3 hK hP (i := 1) rfl rfl (fun _ h => by cases h) rfl) (show decode cX1_number 25 = .ok (.instanceof 19, 3) by decide +kernel) ?_
  refine lv_if_eq (tgt := 42) hx hb (show decode cX1_number 28 = .ok (.ifCond .eq 14, 3) by decide +kernel) (by decide) (fun cnd_ => ?_) (fun cnd_ => absurd (rfl) cnd_)
  refine lv_aload_n hx hb (show decode cX1_number 42 = .ok (.aload_n 0, 1) by decide +kernel) rfl (lv_at hl 0 rfl) ?_
  refine va_get (D := G.1) (ci := 1) (v := .ref r0) (C := RX1) (T := TX1) (N := 1) hx hb hts in_X1 hown hK.1 hP 0 rfl rfl 0 (by decide) (hts _ q388) (fun _ h9 => h9) rfl (show decode cX1_number 43 = .ok (.getfield 9, 3) by decide +kernel) ?_
  refine va_instNo (C := "[J") hx hb hown (hts _ q358) (hST.2.2.2.2.2.2.2.1 _ (List.mem_of_getElem? (i := 11) rfl)) (r_recvT 3 hK hP (i := 1) rfl rfl (fun _ h => by cases h) rfl) (show decode cX1_number 46 = .ok (.instanceof 21, 3) by decide +kernel) ?_
  refine lv_if_eq (tgt := 65) hx hb (show decode cX1_number 49 = .ok (.ifCond .eq 16, 3) by decide +kernel) (by decide) (fun cnd_ => ?_) (fun cnd_ => absurd (rfl) cnd_)
  refine lv_aload_n hx hb (show decode cX1_number 65 = .ok (.aload_n 0, 1) by decide +kernel) rfl (lv_at hl 0 rfl) ?_
  refine va_get (D := G.1) (ci := 1) (v := .ref r0) (C := RX1) (T := TX1) (N := 1) hx hb hts in_X1 hown hK.1 hP 0 rfl rfl 0 (by decide) (hts _ q388) (fun _ h9 => h9) rfl (show decode cX1_number 66 = .ok (.getfield 9, 3) by decide +kernel) ?_
  refine va_castE hx hb hown (hts _ q359) (r_recvT 3 hK hP (i := 1) rfl rfl (fun _ h => by cases h) rfl) (show decode cX1_number 69 = .ok (.checkcast 23, 3) by decide +kernel) ?_
  refine lv_iload_n hx hb (show decode cX1_number 72 = .ok (.iload_n 1, 1) by decide +kernel) rfl (lv_at hl 1 rfl) ?_
  refine va_lald hx hb hK.1 hP 1 3 rfl rfl (vp_in_nI hi hn) (show decode cX1_number 73 = .ok (.laload, 1) by decide +kernel) ?_
  rw [nI_clamp (by omega)]
  have hP9 := hP.sub (ws' := [(h0, .inr (1, [.ref r0])), (r0, .inl (G.2.2.1 3, n0, .inr (.inl (f0))))]) [0, 1] rfl
  have hD9 := hD.sub (ws' := [(h0, .inr (1, [.ref r0])), (r0, .inl (G.2.2.1 3, n0, .inr (.inl (f0))))]) [0, 1] (by decide) rfl
  exact W.lret (v := (f0 i0)) hx hb hr (fun t ht hW => ⟨⟨(f0 i0), (), rfl, rfl, by rw [ht]; exact hP9, hD9⟩, hS.F ht⟩) hS.2.2 (show decode cX1_number 74 = .ok (.lreturn, 1) by decide +kernel)

