/-! RAW: makers, lists -/
set_option maxHeartbeats 4000000 in
set_option maxRecDepth 100000 in
theorem rJ6_checkIndex (l : Launch) (G : zG) (d sz : Nat) (i0 : Nat) (n0 : Nat) (hi : i0 < n0) (hn : n0 < 2 ^ 31) : Met l yJ6_checkIndex (ws_ yJ6_checkIndex cJ6_checkIndex 3 (some .int)) (eRoom d 0 0) (rPc G [.int (nI i0), .int (nI n0), .null] [] sz) (va_Qi (fun (r : Int32) _ => r = nI i0) (rB G (fun _ : Unit => []) (va_A [] sz)) (va_A [] sz)) 0 0 (va_A [] sz) := by
  refine Met.ofW (cc := cJ6_checkIndex) (maxL := 3) (ret := (some .int)) (by decide) rfl ?_
  intro p e s m args below meth c s₁ B hml hv
  obtain ⟨rfl, hsz, hP, hK, hST, hD0⟩ := hv
  have hx := B.exec
  have hb := B.bytes
  have hr := B.returns
  have hts := atoms_spec (ws := ws_ yJ6_checkIndex cJ6_checkIndex 3 (some .int)) B.pre
  have hts : ∀ w ∈ lw_all, w.before _ s = true := fun w h => hts w (List.mem_cons_of_mem _ h)
  have hown : s.vm.findClass RJ6 = some m.cls := findClass_of_methodNamed B.named
  have hlocks := B.notSynchronized
  subst hsz
  have hD := hD0.self (sz := s.heap.size)
  generalize hAe : va_A [] s.heap.size = A at hD hST ⊢
  have hA : ∀ q : Nat, s.heap.size ≤ q → A q := fun q h => by rw [← hAe]; exact Or.inr h
  have hS : va_S A s.heap s.heap [] := va_S.rf
  have hP : va_P G.1 zcl [] s.heap := hP
  have hl := lv_entry ([.int (nI i0), .int (nI n0), .null]) (n := 3) (Nat.le_of_ble_eq_true rfl)
  rw [lg_entry_eq]
  generalize (lg_sl ([.int (nI i0), .int (nI n0), .null]) ++ List.replicate (3 - (lg_sl ([.int (nI i0), .int (nI n0), .null])).length) Slot.unset).toArray = ls at hl ⊢
  have hl : lv_has ls 3 [(0, .int (nI i0)), (1, .int (nI n0)), (2, .null)] := hl
  refine lv_iload_n hx hb (show decode cJ6_checkIndex 0 = .ok (.iload_n 0, 1) by decide +kernel) rfl (lv_at hl 0 rfl) ?_
  refine lv_if_lt (tgt := 9) hx hb (show decode cJ6_checkIndex 1 = .ok (.ifCond .lt 8, 3) by decide +kernel) (by decide) (fun cnd_ => absurd cnd_ (nI_pos (by omega))) (fun cnd_ => ?_)
  refine lv_iload_n hx hb (show decode cJ6_checkIndex 4 = .ok (.iload_n 0, 1) by decide +kernel) rfl (lv_at hl 0 rfl) ?_
  refine lv_iload_n hx hb (show decode cJ6_checkIndex 5 = .ok (.iload_n 1, 1) by decide +kernel) rfl (lv_at hl 1 rfl) ?_
  refine lv_icmp_lt (tgt := 16) hx hb (show decode cJ6_checkIndex 6 = .ok (.if_icmp .lt 10, 3) by decide +kernel) (by decide) (fun cnd_ => ?_) (fun cnd_ => absurd (nI_lt hi (by omega)) cnd_)
  refine lv_iload_n hx hb (show decode cJ6_checkIndex 16 = .ok (.iload_n 0, 1) by decide +kernel) rfl (lv_at hl 0 rfl) ?_
  have hP9 := hP.sub (ws' := []) [] rfl
  have hD9 := hD.sub (ws' := []) [] (by decide) rfl
  exact W.iret (v := (nI i0)) hx hb hr (fun t ht hW => ⟨⟨(nI i0), (), rfl, rfl, by rw [ht]; exact hP9, hD9⟩, hS.F ht⟩) hS.2.2 (show decode cJ6_checkIndex 17 = .ok (.ireturn, 1) by decide +kernel)

set_option maxHeartbeats 4000000 in
set_option maxRecDepth 100000 in
theorem rJ13_checkIndex (l : Launch) (G : zG) (d sz : Nat) (i0 : Nat) (n0 : Nat) (hi : i0 < n0) (hn : n0 < 2 ^ 31) : Met l yJ13_checkIndex (ws_ yJ13_checkIndex cJ13_checkIndex 2 (some .int)) (eRoom (d + 1) 0 0) (rPc G [.int (nI i0), .int (nI n0)] [] sz) (va_Qi (fun (r : Int32) _ => r = nI i0) (rB G (fun _ : Unit => []) (va_A [] sz)) (va_A [] sz)) 0 0 (va_A [] sz) := by
  refine zMetF (cc := cJ13_checkIndex) (maxL := 2) (ret := (some .int)) (by decide +kernel) rfl ?_
  intro p e s m args below meth c s₁ B hml hv
  obtain ⟨rfl, hsz, hP, hK, hST, hD0⟩ := hv
  have hx := B.exec
  have hb := B.bytes
  have hr := B.returns
  have hts := atoms_spec (ws := ws_ yJ13_checkIndex cJ13_checkIndex 2 (some .int)) B.pre
  have hts : ∀ w ∈ lw_all, w.before _ s = true := fun w h => hts w (List.mem_cons_of_mem _ h)
  have hown : s.vm.findClass RJ13 = some m.cls := findClass_of_methodNamed B.named
  have hlocks := B.notSynchronized
  subst hsz
  have hD := hD0.self (sz := s.heap.size)
  generalize hAe : va_A [] s.heap.size = A at hD hST ⊢
  have hA : ∀ q : Nat, s.heap.size ≤ q → A q := fun q h => by rw [← hAe]; exact Or.inr h
  have hS : va_S A s.heap s.heap [] := va_S.rf
  have hP : va_P G.1 zcl [] s.heap := hP
  have hl := lv_entry ([.int (nI i0), .int (nI n0)]) (n := 2) (Nat.le_of_ble_eq_true rfl)
  rw [lg_entry_eq]
  generalize (lg_sl ([.int (nI i0), .int (nI n0)]) ++ List.replicate (2 - (lg_sl ([.int (nI i0), .int (nI n0)])).length) Slot.unset).toArray = ls at hl ⊢
  have hl : lv_has ls 2 [(0, .int (nI i0)), (1, .int (nI n0))] := hl
  refine lv_iload_n hx hb (show decode cJ13_checkIndex 0 = .ok (.iload_n 0, 1) by decide +kernel) rfl (lv_at hl 0 rfl) ?_
  refine lv_iload_n hx hb (show decode cJ13_checkIndex 1 = .ok (.iload_n 1, 1) by decide +kernel) rfl (lv_at hl 1 rfl) ?_
  refine lv_null hx hb (show decode cJ13_checkIndex 2 = .ok (.aconst_null, 1) by decide +kernel) ?_
  have hPc := hP.sub (ws' := []) [] rfl
  have hDc := hD.sub (ws' := []) [] (by decide) rfl
  have hFc := va_free (wc := []) hD hS hA [] rfl
  refine va_calli (va_runS (As := [.int (nI i0), .int (nI n0), .null]) (rest := []) ⟨hx, hb, hml, hown, hts⟩ (rJ6_checkIndex l G (d + 0) s.heap.size (i0) (n0) hi hn) (va_cwS 3 hts (lw_S q933 q736 q155 q737) rfl rfl rfl (by decide +kernel) ⟨(rroom (d := d + 0) (mc := 0) (ms := 0) (mc' := 0) (ms' := 0) (mL := 3) (by decide)).1, by first | exact (rroom (d := d + 0) (mc := 0) (ms := 0) (mc' := 0) (ms' := 0) (mL := 3) (by decide)).2⟩) ⟨rblind, rpc hK hST hS hPc hDc hFc [.int (nI i0), .int (nI n0), .null]⟩ rfl rfl hl.1 rfl (lv_room (Nat.le_of_ble_eq_true rfl)) (show decode cJ13_checkIndex 3 = .ok (.invokestatic 105, 3) by decide +kernel) ⟨by show _ ≤ 0; first | decide | omega, by show _ ≤ 0; first | decide | omega⟩) hS (fun q _ h => hFc q h) hFc (fun r_ u t H1 locs ht hvm hw hB hz1 hk1 hS => ?_)
  obtain ⟨hP1, hD1⟩ := hB
  rw [ht] at hP1
  obtain ⟨hP, hD⟩ := va_join (wr := []) (w1 := []) hP hD [] [] rfl rfl (by decide) (by decide) hk1 hFc hP1 hD1
  generalize H1 = H at hP hS ⊢
  have hP : va_P G.1 zcl [] H := hP
  have hD : va_D A [] := hD
  obtain rfl := hw
  have hP9 := hP.sub (ws' := []) [] rfl
  have hD9 := hD.sub (ws' := []) [] (by decide) rfl
  exact W.iret (v := (nI i0)) hx hb hr (fun t ht hW => ⟨⟨(nI i0), (), rfl, rfl, by rw [ht]; exact hP9, hD9⟩, hS.F ht⟩) hS.2.2 (show decode cJ13_checkIndex 6 = .ok (.ireturn, 1) by decide +kernel)

set_option maxHeartbeats 4000000 in
set_option maxRecDepth 100000 in
theorem rJ2_fastRemove (l : Launch) (G : zG) (d sz : Nat) (h0 : Nat) (a0 : Nat) (m0 : Int32) (n0 : Nat) (c0 : Nat) (f0 : Nat → Option Nat) (hn : n0 < c0) (hc : c0 < 2 ^ 31) : Met l yJ2_fastRemove (ws_ yJ2_fastRemove cJ2_fastRemove 4 none) (eRoom d 0 0) (rPc G [.ref h0, .ref a0, .int (nI n0)] [(h0, .inr (12, [.int m0, .ref a0, .int (nI (n0 + 1))])), (a0, .inl (G.2.2.1 6, c0, .inr (.inr (.inr (.inr (f0))))))] sz) (va_Qv (fun _ => True) (rB G (fun _ : Unit => [(h0, .inr (12, [.int (m0 + 1), .ref a0, .int (nI n0)])), (a0, .inl (G.2.2.1 6, c0, .inr (.inr (.inr (.inr (va_up (f0) (n0) none))))))]) (va_A [(h0, .inr (12, [.int m0, .ref a0, .int (nI (n0 + 1))])), (a0, .inl (G.2.2.1 6, c0, .inr (.inr (.inr (.inr (f0))))))] sz)) (va_A [(h0, .inr (12, [.int m0, .ref a0, .int (nI (n0 + 1))])), (a0, .inl (G.2.2.1 6, c0, .inr (.inr (.inr (.inr (f0))))))] sz)) 0 0 (va_A [(h0, .inr (12, [.int m0, .ref a0, .int (nI (n0 + 1))])), (a0, .inl (G.2.2.1 6, c0, .inr (.inr (.inr (.inr (f0))))))] sz) := by
  refine zMetF (cc := cJ2_fastRemove) (maxL := 4) (ret := none) (by decide +kernel) rfl ?_
  intro p e s m args below meth c s₁ B hml hv
  obtain ⟨rfl, hsz, hP, hK, hST, hD0⟩ := hv
  have hx := B.exec
  have hb := B.bytes
  have hr := B.returns
  have hts := atoms_spec (ws := ws_ yJ2_fastRemove cJ2_fastRemove 4 none) B.pre
  have hts : ∀ w ∈ lw_all, w.before _ s = true := fun w h => hts w (List.mem_cons_of_mem _ h)
  have hown : s.vm.findClass RJ2 = some m.cls := findClass_of_methodNamed B.named
  have hlocks := B.notSynchronized
  subst hsz
  have hD := hD0.self (sz := s.heap.size)
  generalize hAe : va_A [(h0, .inr (12, [.int m0, .ref a0, .int (nI (n0 + 1))])), (a0, .inl (G.2.2.1 6, c0, .inr (.inr (.inr (.inr (f0))))))] s.heap.size = A at hD hST ⊢
  have hA : ∀ q : Nat, s.heap.size ≤ q → A q := fun q h => by rw [← hAe]; exact Or.inr h
  have hS : va_S A s.heap s.heap [] := va_S.rf
  have hP : va_P G.1 zcl [(h0, .inr (12, [.int m0, .ref a0, .int (nI (n0 + 1))])), (a0, .inl (G.2.2.1 6, c0, .inr (.inr (.inr (.inr (f0))))))] s.heap := hP
  have hl := lv_entry ([.ref h0, .ref a0, .int (nI n0)]) (n := 4) (Nat.le_of_ble_eq_true rfl)
  rw [lg_entry_eq]
  generalize (lg_sl ([.ref h0, .ref a0, .int (nI n0)]) ++ List.replicate (4 - (lg_sl ([.ref h0, .ref a0, .int (nI n0)])).length) Slot.unset).toArray = ls at hl ⊢
  have hl : lv_has ls 4 [(0, .ref h0), (1, .ref a0), (2, .int (nI n0))] := hl
  refine lv_aload_n hx hb (show decode cJ2_fastRemove 0 = .ok (.aload_n 0, 1) by decide +kernel) rfl (lv_at hl 0 rfl) ?_
  refine lv_dup hx hb (show decode cJ2_fastRemove 1 = .ok (.dup, 1) by decide +kernel) rfl ?_
  refine va_get (D := G.1) (ci := 12) (v := .int m0) (C := RJ2) (T := TJ2) (N := 3) hx hb hts in_J2 hown hK.1 hP 0 rfl rfl 0 (by decide) (hts _ q422) (u_same (hts _ q421)) rfl (show decode cJ2_fastRemove 2 = .ok (.getfield 63, 3) by decide +kernel) ?_
  refine lv_iconst (v := 1) hx hb (show decode cJ2_fastRemove 5 = .ok (.iconst 1, 1) by decide +kernel) (by decide) ?_
  refine lv_iadd hx hb (show decode cJ2_fastRemove 6 = .ok (.iadd, 1) by decide +kernel) ?_
  refine va_put (D := G.1) (ci := 12) (v := .int (m0 + 1)) (ty := .int) (C := RJ2) (T := TJ2) (N := 3) hx hb hts in_J2 tyJ2 tyJ2_ok nmJ2 hown hK.1 hP hD hS 0 rfl rfl 0 (by decide) (hts _ q422) (u_same (hts _ q421)) rfl (by decide +kernel) rfl rfl (Nat.le_of_ble_eq_true rfl) (show decode cJ2_fastRemove 7 = .ok (.putfield 63, 3) by decide +kernel) (fun H locs hP hD hS => ?_)
  have hP : va_P G.1 zcl [(h0, .inr (12, [.int (m0 + 1), .ref a0, .int (nI (n0 + 1))])), (a0, .inl (G.2.2.1 6, c0, .inr (.inr (.inr (.inr (f0))))))] H := hP
  have hD : va_D A [(h0, .inr (12, [.int (m0 + 1), .ref a0, .int (nI (n0 + 1))])), (a0, .inl (G.2.2.1 6, c0, .inr (.inr (.inr (.inr (f0))))))] := hD
  refine lv_aload_n hx hb (show decode cJ2_fastRemove 10 = .ok (.aload_n 0, 1) by decide +kernel) rfl (lv_at hl 0 rfl) ?_
  refine va_get (D := G.1) (ci := 12) (v := .int (nI (n0 + 1))) (C := RJ2) (T := TJ2) (N := 3) hx hb hts in_J2 hown hK.1 hP 0 rfl rfl 2 (by decide) (hts _ q418) (fun _ h9 => h9) rfl (show decode cJ2_fastRemove 11 = .ok (.getfield 48, 3) by decide +kernel) ?_
  refine lv_iconst (v := 1) hx hb (show decode cJ2_fastRemove 14 = .ok (.iconst 1, 1) by decide +kernel) (by decide) ?_
  refine lv_isub hx hb (show decode cJ2_fastRemove 15 = .ok (.isub, 1) by decide +kernel) ?_
  refine lv_topi (fun yy_ ey_ => ?_)
  obtain rfl : yy_ = nI n0 := ey_.trans (nI_sub1)
  refine lv_dup hx hb (show decode cJ2_fastRemove 16 = .ok (.dup, 1) by decide +kernel) rfl ?_
  refine lv_istore_n hx hb (show decode cJ2_fastRemove 17 = .ok (.istore_n 3, 1) by decide +kernel) rfl hl (by decide) rfl (fun ls hl => ?_)
  have hl : lv_has ls 4 [(3, .int (nI n0)), (0, .ref h0), (1, .ref a0), (2, .int (nI n0))] := hl
  refine lv_iload_n hx hb (show decode cJ2_fastRemove 18 = .ok (.iload_n 2, 1) by decide +kernel) rfl (lv_at hl 3 rfl) ?_
  refine lv_icmp_le (tgt := 34) hx hb (show decode cJ2_fastRemove 19 = .ok (.if_icmp .le 15, 3) by decide +kernel) (by decide) (fun cnd_ => ?_) (fun cnd_ => absurd (Int32.le_refl _) cnd_)
  refine lv_aload_n hx hb (show decode cJ2_fastRemove 34 = .ok (.aload_n 1, 1) by decide +kernel) rfl (lv_at hl 2 rfl) ?_
  refine lv_aload_n hx hb (show decode cJ2_fastRemove 35 = .ok (.aload_n 0, 1) by decide +kernel) rfl (lv_at hl 1 rfl) ?_
  refine lv_iload_n hx hb (show decode cJ2_fastRemove 36 = .ok (.iload_n 3, 1) by decide +kernel) rfl (lv_at hl 0 rfl) ?_
  refine lv_dup_x1 hx hb (show decode cJ2_fastRemove 37 = .ok (.dup_x1, 1) by decide +kernel) rfl rfl ?_
  refine va_put (D := G.1) (ci := 12) (v := .int (nI n0)) (ty := .int) (C := RJ2) (T := TJ2) (N := 3) hx hb hts in_J2 tyJ2 tyJ2_ok nmJ2 hown hK.1 hP hD hS 0 rfl rfl 2 (by decide) (hts _ q418) (fun _ h9 => h9) rfl (by decide +kernel) rfl rfl (Nat.le_of_ble_eq_true rfl) (show decode cJ2_fastRemove 38 = .ok (.putfield 48, 3) by decide +kernel) (fun H locs hP hD hS => ?_)
  have hP : va_P G.1 zcl [(h0, .inr (12, [.int (m0 + 1), .ref a0, .int (nI n0)])), (a0, .inl (G.2.2.1 6, c0, .inr (.inr (.inr (.inr (f0))))))] H := hP
  have hD : va_D A [(h0, .inr (12, [.int (m0 + 1), .ref a0, .int (nI n0)])), (a0, .inl (G.2.2.1 6, c0, .inr (.inr (.inr (.inr (f0))))))] := hD
  refine lv_null hx hb (show decode cJ2_fastRemove 41 = .ok (.aconst_null, 1) by decide +kernel) ?_
  refine va_astqN (C := "java/lang/Object") hx hb hK.1 hP hD hS 1 6 rfl rfl (vp_in_nI hn (by omega)) (show decode cJ2_fastRemove 42 = .ok (.aastore, 1) by decide +kernel) (fun H locs hP hD hS => ?_)
  rw [nI_clamp (by omega)] at hP hD
  have hP : va_P G.1 zcl [(h0, .inr (12, [.int (m0 + 1), .ref a0, .int (nI n0)])), (a0, .inl (G.2.2.1 6, c0, .inr (.inr (.inr (.inr (va_up (f0) (n0) none))))))] H := hP
  have hD : va_D A [(h0, .inr (12, [.int (m0 + 1), .ref a0, .int (nI n0)])), (a0, .inl (G.2.2.1 6, c0, .inr (.inr (.inr (.inr (va_up (f0) (n0) none))))))] := hD
  have hP9 := hP.sub (ws' := [(h0, .inr (12, [.int (m0 + 1), .ref a0, .int (nI n0)])), (a0, .inl (G.2.2.1 6, c0, .inr (.inr (.inr (.inr (va_up (f0) (n0) none))))))]) [0, 1] rfl
  have hD9 := hD.sub (ws' := [(h0, .inr (12, [.int (m0 + 1), .ref a0, .int (nI n0)])), (a0, .inl (G.2.2.1 6, c0, .inr (.inr (.inr (.inr (va_up (f0) (n0) none))))))]) [0, 1] (by decide) rfl
  exact W.vret hx hb hr (fun t ht hW => ⟨⟨(), rfl, trivial, by rw [ht]; exact hP9, hD9⟩, hS.F ht⟩) hS.2.2 (show decode cJ2_fastRemove 43 = .ok (.return_, 1) by decide +kernel)

set_option maxHeartbeats 4000000 in
set_option maxRecDepth 100000 in
/-- the last is removed -/
theorem rJ2_remove (l : Launch) (G : zG) (d sz : Nat) (h0 : Nat) (a0 : Nat) (m0 : Int32) (n0 : Nat) (c0 : Nat) (f0 : Nat → Option Nat) (e0 : Nat) (hn : n0 < c0) (hc : c0 < 2 ^ 31) (hf : f0 n0 = some e0) : Met l yJ2_remove (ws_ yJ2_remove cJ2_remove 4 (some (.object "java/lang/Object"))) (eRoom (d + 2) 0 0) (rPc G [.ref h0, .int (nI n0)] [(h0, .inr (12, [.int m0, .ref a0, .int (nI (n0 + 1))])), (a0, .inl (G.2.2.1 6, c0, .inr (.inr (.inr (.inr (f0))))))] sz) (va_Qr (fun _ => True) (fun (_ : Unit) (ra : Nat) (t : State) => ra = e0 ∧ rB G (fun _ : Unit => [(h0, .inr (12, [.int (m0 + 1), .ref a0, .int (nI n0)])), (a0, .inl (G.2.2.1 6, c0, .inr (.inr (.inr (.inr (va_up (f0) (n0) none))))))]) (va_A [(h0, .inr (12, [.int m0, .ref a0, .int (nI (n0 + 1))])), (a0, .inl (G.2.2.1 6, c0, .inr (.inr (.inr (.inr (f0))))))] sz) () t) (va_A [(h0, .inr (12, [.int m0, .ref a0, .int (nI (n0 + 1))])), (a0, .inl (G.2.2.1 6, c0, .inr (.inr (.inr (.inr (f0))))))] sz)) 0 0 (va_A [(h0, .inr (12, [.int m0, .ref a0, .int (nI (n0 + 1))])), (a0, .inl (G.2.2.1 6, c0, .inr (.inr (.inr (.inr (f0))))))] sz) := by
  refine zMetF (cc := cJ2_remove) (maxL := 4) (ret := (some (.object "java/lang/Object"))) (by decide +kernel) rfl ?_
  intro p e s m args below meth c s₁ B hml hv
  obtain ⟨rfl, hsz, hP, hK, hST, hD0⟩ := hv
  have hx := B.exec
  have hb := B.bytes
  have hr := B.returns
  have hts := atoms_spec (ws := ws_ yJ2_remove cJ2_remove 4 (some (.object "java/lang/Object"))) B.pre
  have hts : ∀ w ∈ lw_all, w.before _ s = true := fun w h => hts w (List.mem_cons_of_mem _ h)
  have hown : s.vm.findClass RJ2 = some m.cls := findClass_of_methodNamed B.named
  have hlocks := B.notSynchronized
  subst hsz
  have hD := hD0.self (sz := s.heap.size)
  generalize hAe : va_A [(h0, .inr (12, [.int m0, .ref a0, .int (nI (n0 + 1))])), (a0, .inl (G.2.2.1 6, c0, .inr (.inr (.inr (.inr (f0))))))] s.heap.size = A at hD hST ⊢
  have hA : ∀ q : Nat, s.heap.size ≤ q → A q := fun q h => by rw [← hAe]; exact Or.inr h
  have hS : va_S A s.heap s.heap [] := va_S.rf
  have hP : va_P G.1 zcl [(h0, .inr (12, [.int m0, .ref a0, .int (nI (n0 + 1))])), (a0, .inl (G.2.2.1 6, c0, .inr (.inr (.inr (.inr (f0))))))] s.heap := hP
  have hl := lv_entry ([.ref h0, .int (nI n0)]) (n := 4) (Nat.le_of_ble_eq_true rfl)
  rw [lg_entry_eq]
  generalize (lg_sl ([.ref h0, .int (nI n0)]) ++ List.replicate (4 - (lg_sl ([.ref h0, .int (nI n0)])).length) Slot.unset).toArray = ls at hl ⊢
  have hl : lv_has ls 4 [(0, .ref h0), (1, .int (nI n0))] := hl
  refine lv_iload_n hx hb (show decode cJ2_remove 0 = .ok (.iload_n 1, 1) by decide +kernel) rfl (lv_at hl 1 rfl) ?_
  refine lv_aload_n hx hb (show decode cJ2_remove 1 = .ok (.aload_n 0, 1) by decide +kernel) rfl (lv_at hl 0 rfl) ?_
  refine va_get (D := G.1) (ci := 12) (v := .int (nI (n0 + 1))) (C := RJ2) (T := TJ2) (N := 3) hx hb hts in_J2 hown hK.1 hP 0 rfl rfl 2 (by decide) (hts _ q418) (fun _ h9 => h9) rfl (show decode cJ2_remove 2 = .ok (.getfield 48, 3) by decide +kernel) ?_
  have hPc := hP.sub (ws' := []) [] rfl
  have hDc := hD.sub (ws' := []) [] (by decide) rfl
  have hFc := va_free (wc := []) hD hS hA [] rfl
  refine va_calli (va_runS (As := [.int (nI n0), .int (nI (n0 + 1))]) (rest := []) ⟨hx, hb, hml, hown, hts⟩ (rJ13_checkIndex l G (d + 0) s.heap.size (n0) (n0 + 1) (by omega) (by omega)) (va_cwS 2 hts (lw_S q930 q931 q165 q932) rfl rfl rfl (by decide +kernel) ⟨(rroom (d := d + 1) (mc := 0) (ms := 0) (mc' := 0) (ms' := 0) (mL := 2) (by decide)).1, by first | exact (rroom (d := d + 1) (mc := 0) (ms := 0) (mc' := 0) (ms' := 0) (mL := 2) (by decide)).2⟩) ⟨rblind, rpc hK hST hS hPc hDc hFc [.int (nI n0), .int (nI (n0 + 1))]⟩ rfl rfl hl.1 rfl (lv_room (Nat.le_of_ble_eq_true rfl)) (show decode cJ2_remove 5 = .ok (.invokestatic 118, 3) by decide +kernel) ⟨by show _ ≤ 0; first | decide | omega, by show _ ≤ 0; first | decide | omega⟩) hS (fun q _ h => hFc q h) hFc (fun r_ u t H1 locs ht hvm hw hB hz1 hk1 hS => ?_)
  obtain ⟨hP1, hD1⟩ := hB
  rw [ht] at hP1
  obtain ⟨hP, hD⟩ := va_join (wr := [(h0, .inr (12, [.int m0, .ref a0, .int (nI (n0 + 1))])), (a0, .inl (G.2.2.1 6, c0, .inr (.inr (.inr (.inr (f0))))))]) (w1 := []) hP hD [] [0, 1] rfl rfl (by decide) (by decide) hk1 hFc hP1 hD1
  generalize H1 = H at hP hS ⊢
  have hP : va_P G.1 zcl [(h0, .inr (12, [.int m0, .ref a0, .int (nI (n0 + 1))])), (a0, .inl (G.2.2.1 6, c0, .inr (.inr (.inr (.inr (f0))))))] H := hP
  have hD : va_D A [(h0, .inr (12, [.int m0, .ref a0, .int (nI (n0 + 1))])), (a0, .inl (G.2.2.1 6, c0, .inr (.inr (.inr (.inr (f0))))))] := hD
  obtain rfl := hw
  refine lv_pop hx hb (show decode cJ2_remove 8 = .ok (.pop, 1) by decide +kernel) rfl ?_
  refine lv_aload_n hx hb (show decode cJ2_remove 9 = .ok (.aload_n 0, 1) by decide +kernel) rfl (lv_at hl 0 rfl) ?_
  refine va_get (D := G.1) (ci := 12) (v := .ref a0) (C := RJ2) (T := TJ2) (N := 3) hx hb hts in_J2 hown hK.1 hP 0 rfl rfl 1 (by decide) (hts _ q415) (fun _ h9 => h9) rfl (show decode cJ2_remove 10 = .ok (.getfield 9, 3) by decide +kernel) ?_
  refine lv_astore_n hx hb (show decode cJ2_remove 13 = .ok (.astore_n 2, 1) by decide +kernel) rfl hl (by decide) rfl (fun ls hl => ?_)
  have hl : lv_has ls 4 [(2, .ref a0), (0, .ref h0), (1, .int (nI n0))] := hl
  refine lv_aload_n hx hb (show decode cJ2_remove 14 = .ok (.aload_n 2, 1) by decide +kernel) rfl (lv_at hl 0 rfl) ?_
  refine lv_iload_n hx hb (show decode cJ2_remove 15 = .ok (.iload_n 1, 1) by decide +kernel) rfl (lv_at hl 2 rfl) ?_
  refine va_aldq hx hb hK.1 hP 1 6 rfl rfl (vp_in_nI hn (by omega)) (show decode cJ2_remove 16 = .ok (.aaload, 1) by decide +kernel) ?_
  rw [nI_clamp (by omega), hf]
  refine W.eq (g2 := F0 m 17 ls [.ref e0]) rfl ?_
  refine lv_astore_n hx hb (show decode cJ2_remove 17 = .ok (.astore_n 3, 1) by decide +kernel) rfl hl (by decide) rfl (fun ls hl => ?_)
  have hl : lv_has ls 4 [(3, .ref e0), (2, .ref a0), (0, .ref h0), (1, .int (nI n0))] := hl
  refine lv_aload_n hx hb (show decode cJ2_remove 18 = .ok (.aload_n 0, 1) by decide +kernel) rfl (lv_at hl 2 rfl) ?_
  refine lv_aload_n hx hb (show decode cJ2_remove 19 = .ok (.aload_n 2, 1) by decide +kernel) rfl (lv_at hl 1 rfl) ?_
  refine lv_iload_n hx hb (show decode cJ2_remove 20 = .ok (.iload_n 1, 1) by decide +kernel) rfl (lv_at hl 3 rfl) ?_
  have hPc := hP.sub (ws' := [(h0, .inr (12, [.int m0, .ref a0, .int (nI (n0 + 1))])), (a0, .inl (G.2.2.1 6, c0, .inr (.inr (.inr (.inr (f0))))))]) [0, 1] rfl
  have hDc := hD.sub (ws' := [(h0, .inr (12, [.int m0, .ref a0, .int (nI (n0 + 1))])), (a0, .inl (G.2.2.1 6, c0, .inr (.inr (.inr (.inr (f0))))))]) [0, 1] (by decide) rfl
  have hFc := va_free (wc := [(h0, .inr (12, [.int m0, .ref a0, .int (nI (n0 + 1))])), (a0, .inl (G.2.2.1 6, c0, .inr (.inr (.inr (.inr (f0))))))]) hD hS hA [0, 1] rfl
  refine va_callv (va_runV (As := [.ref a0, .int (nI n0)]) (rest := []) ⟨hx, hb, hml, hown, hts⟩ (rJ2_fastRemove l G (d + 1) H.size (h0) (a0) (m0) (n0) (c0) (f0) hn hc) (cwV 2 hts (lw_V q1562 q1564 qs61 q146 q1565) rfl rfl rfl (by decide +kernel) ⟨(rroom (d := d + 1) (mc := 0) (ms := 0) (mc' := 0) (ms' := 0) (mL := 4) (by decide)).1, by first | exact (rroom (d := d + 1) (mc := 0) (ms := 0) (mc' := 0) (ms' := 0) (mL := 4) (by decide)).2⟩) ⟨rblind, va_recv hK.1 hPc (ci := 12) (q0 := 0) rfl rfl, rpc hK hST hS hPc hDc hFc [.ref h0, .ref a0, .int (nI n0)]⟩ rfl rfl hl.1 rfl (lv_room (Nat.le_of_ble_eq_true rfl)) (show decode cJ2_remove 21 = .ok (.invokevirtual 144, 3) by decide +kernel) ⟨by show _ ≤ 0; first | decide | omega, by show _ ≤ 0; first | decide | omega⟩) hS (fun q _ h => hFc q h) hFc (fun u t H1 locs ht hvm hw hB hz1 hk1 hS => ?_)
  obtain ⟨hP1, hD1⟩ := hB
  rw [ht] at hP1
  obtain ⟨hP, hD⟩ := va_join (wr := []) (w1 := [(h0, .inr (12, [.int (m0 + 1), .ref a0, .int (nI n0)])), (a0, .inl (G.2.2.1 6, c0, .inr (.inr (.inr (.inr (va_up (f0) (n0) none))))))]) hP hD [0, 1] [] rfl rfl (by decide) (by decide) hk1 hFc hP1 hD1
  generalize H1 = H at hP hS ⊢
  have hP : va_P G.1 zcl [(h0, .inr (12, [.int (m0 + 1), .ref a0, .int (nI n0)])), (a0, .inl (G.2.2.1 6, c0, .inr (.inr (.inr (.inr (va_up (f0) (n0) none))))))] H := hP
  have hD : va_D A [(h0, .inr (12, [.int (m0 + 1), .ref a0, .int (nI n0)])), (a0, .inl (G.2.2.1 6, c0, .inr (.inr (.inr (.inr (va_up (f0) (n0) none))))))] := hD
  refine lv_aload_n hx hb (show decode cJ2_remove 24 = .ok (.aload_n 3, 1) by decide +kernel) rfl (lv_at hl 0 rfl) ?_
  have hP9 := hP.sub (ws' := [(h0, .inr (12, [.int (m0 + 1), .ref a0, .int (nI n0)])), (a0, .inl (G.2.2.1 6, c0, .inr (.inr (.inr (.inr (va_up (f0) (n0) none))))))]) [0, 1] rfl
  have hD9 := hD.sub (ws' := [(h0, .inr (12, [.int (m0 + 1), .ref a0, .int (nI n0)])), (a0, .inl (G.2.2.1 6, c0, .inr (.inr (.inr (.inr (va_up (f0) (n0) none))))))]) [0, 1] (by decide) rfl
  exact W.aret (v := .ref e0) hx hb hr (Or.inl ⟨_, rfl⟩) (Or.inr ⟨_, rfl⟩) (fun t ht hW => ⟨⟨(), e0, rfl, trivial, rfl, by rw [ht]; exact hP9, hD9⟩, hS.F ht⟩) hS.2.2 (show decode cJ2_remove 25 = .ok (.areturn, 1) by decide +kernel)

set_option maxHeartbeats 4000000 in
set_option maxRecDepth 100000 in
theorem rJ2_toArray_X10 (l : Launch) (G : zG) (d sz : Nat) (h0 : Nat) (a0 : Nat) (m0 : Int32) (n0 : Nat) (c0 : Nat) (f0 : Nat → Option Nat) (mi : Nat) (hn : n0 ≤ 40000) (hc : c0 < 2 ^ 31) : Met l yJ2_toArray (ws_ yJ2_toArray cJ2_toArray 1 (some (.array (.object "java/lang/Object")))) (eRoom (d + 3) 1 n0) (rPx G [.ref h0] [(h0, .inr (12, [.int m0, .ref a0, .int (nI n0)])), (a0, .inl (G.2.2.1 6, c0, .inr (.inr (.inr (.inr (f0))))))] sz (rEl G f0 c0 10 mi)) (va_Qr (fun _ => True) (fun (q1 : Nat) (ra : Nat) (t : State) => ra = q1 ∧ rB G (fun _ : Unit => [(h0, .inr (12, [.int m0, .ref a0, .int (nI n0)])), (a0, .inl (G.2.2.1 6, c0, .inr (.inr (.inr (.inr (f0)))))), (q1, .inl (G.2.2.1 6, n0, .inr (.inr (.inr (.inr (va_cpy f0 (fun _ => none) 0 0 (min c0 n0)))))))]) (va_A [(h0, .inr (12, [.int m0, .ref a0, .int (nI n0)])), (a0, .inl (G.2.2.1 6, c0, .inr (.inr (.inr (.inr (f0))))))] sz) () t) (va_A [(h0, .inr (12, [.int m0, .ref a0, .int (nI n0)])), (a0, .inl (G.2.2.1 6, c0, .inr (.inr (.inr (.inr (f0))))))] sz)) 1 n0 (va_A [(h0, .inr (12, [.int m0, .ref a0, .int (nI n0)])), (a0, .inl (G.2.2.1 6, c0, .inr (.inr (.inr (.inr (f0))))))] sz) := by
  refine zMetF (cc := cJ2_toArray) (maxL := 1) (ret := (some (.array (.object "java/lang/Object")))) (by decide +kernel) rfl ?_
  intro p e s m args below meth c s₁ B hml hv
  obtain ⟨rfl, hsz, hP, hK, hST, hD0, hE⟩ := hv
  have hx := B.exec
  have hb := B.bytes
  have hr := B.returns
  have hts := atoms_spec (ws := ws_ yJ2_toArray cJ2_toArray 1 (some (.array (.object "java/lang/Object")))) B.pre
  have hts : ∀ w ∈ lw_all, w.before _ s = true := fun w h => hts w (List.mem_cons_of_mem _ h)
  have hown : s.vm.findClass RJ2 = some m.cls := findClass_of_methodNamed B.named
  have hlocks := B.notSynchronized
  subst hsz
  have hD := hD0.self (sz := s.heap.size)
  generalize hAe : va_A [(h0, .inr (12, [.int m0, .ref a0, .int (nI n0)])), (a0, .inl (G.2.2.1 6, c0, .inr (.inr (.inr (.inr (f0))))))] s.heap.size = A at hD hST hE ⊢
  have hA : ∀ q : Nat, s.heap.size ≤ q → A q := fun q h => by rw [← hAe]; exact Or.inr h
  have hS : va_S A s.heap s.heap [] := va_S.rf
  have hP : va_P G.1 zcl [(h0, .inr (12, [.int m0, .ref a0, .int (nI n0)])), (a0, .inl (G.2.2.1 6, c0, .inr (.inr (.inr (.inr (f0))))))] s.heap := hP
  have hl := lv_entry ([.ref h0]) (n := 1) (Nat.le_of_ble_eq_true rfl)
  rw [lg_entry_eq]
  generalize (lg_sl ([.ref h0]) ++ List.replicate (1 - (lg_sl ([.ref h0])).length) Slot.unset).toArray = ls at hl ⊢
  have hl : lv_has ls 1 [(0, .ref h0)] := hl
  refine lv_aload_n hx hb (show decode cJ2_toArray 0 = .ok (.aload_n 0, 1) by decide +kernel) rfl (lv_at hl 0 rfl) ?_
  refine va_get (D := G.1) (ci := 12) (v := .ref a0) (C := RJ2) (T := TJ2) (N := 3) hx hb hts in_J2 hown hK.1 hP 0 rfl rfl 1 (by decide) (hts _ q415) (fun _ h9 => h9) rfl (show decode cJ2_toArray 1 = .ok (.getfield 9, 3) by decide +kernel) ?_
  refine lv_aload_n hx hb (show decode cJ2_toArray 4 = .ok (.aload_n 0, 1) by decide +kernel) rfl (lv_at hl 0 rfl) ?_
  refine va_get (D := G.1) (ci := 12) (v := .int (nI n0)) (C := RJ2) (T := TJ2) (N := 3) hx hb hts in_J2 hown hK.1 hP 0 rfl rfl 2 (by decide) (hts _ q418) (fun _ h9 => h9) rfl (show decode cJ2_toArray 5 = .ok (.getfield 48, 3) by decide +kernel) ?_
  have hPc := hP.sub (ws' := [(a0, .inl (G.2.2.1 6, c0, .inr (.inr (.inr (.inr (f0))))))]) [1] rfl
  have hDc := hD.sub (ws' := [(a0, .inl (G.2.2.1 6, c0, .inr (.inr (.inr (.inr (f0))))))]) [1] (by decide) rfl
  have hFc := va_free (wc := [(a0, .inl (G.2.2.1 6, c0, .inr (.inr (.inr (.inr (f0))))))]) hD hS hA [1] rfl
  refine va_callr (va_runS (As := [.ref a0, .int (nI n0)]) (rest := []) ⟨hx, hb, hml, hown, hts⟩ (rJ12_copyOf_X10 l G (d + 0) s.heap.size (a0) (c0) (f0) (n0) (mi) hc hn) (va_cwS 2 hts (lw_S q883 q884 q163 q885) rfl rfl rfl (by decide +kernel) ⟨(rroom (d := d + 2) (mc := 1) (ms := n0) (mc' := 1) (ms' := n0) (mL := 2) (by decide)).1, by first | exact (rroom (d := d + 2) (mc := 1) (ms := n0) (mc' := 1) (ms' := n0) (mL := 2) (by decide)).2⟩) ⟨rxblind rEl_st, rpx rEl_st hE hK hST hS hPc hDc hFc [.ref a0, .int (nI n0)]⟩ rfl rfl hl.1 rfl (lv_room (Nat.le_of_ble_eq_true rfl)) (show decode cJ2_toArray 8 = .ok (.invokestatic 66, 3) by decide +kernel) ⟨by show _ ≤ 1; first | decide | omega, by show _ ≤ n0; first | decide | omega⟩) hS (fun q _ h => hFc q h) hFc (fun u ra_ t H1 locs ht hvm hw hB hz1 hk1 hS => ?_)
  obtain ⟨q1, rfl⟩ : ∃ z, z = u := ⟨_, rfl⟩
  obtain ⟨hra_, hP1, hD1⟩ := hB
  rw [ht] at hP1
  obtain ⟨hP, hD⟩ := va_join (wr := [(h0, .inr (12, [.int m0, .ref a0, .int (nI n0)]))]) (w1 := [(a0, .inl (G.2.2.1 6, c0, .inr (.inr (.inr (.inr (f0)))))), (q1, .inl (G.2.2.1 6, n0, .inr (.inr (.inr (.inr (va_cpy f0 (fun _ => none) 0 0 (min c0 n0)))))))]) hP hD [1] [0] rfl rfl (by decide) (by decide) hk1 hFc hP1 hD1
  generalize H1 = H at hP hS ⊢
  have hP : va_P G.1 zcl [(h0, .inr (12, [.int m0, .ref a0, .int (nI n0)])), (a0, .inl (G.2.2.1 6, c0, .inr (.inr (.inr (.inr (f0)))))), (q1, .inl (G.2.2.1 6, n0, .inr (.inr (.inr (.inr (va_cpy f0 (fun _ => none) 0 0 (min c0 n0)))))))] H := hP
  have hD : va_D A [(h0, .inr (12, [.int m0, .ref a0, .int (nI n0)])), (a0, .inl (G.2.2.1 6, c0, .inr (.inr (.inr (.inr (f0)))))), (q1, .inl (G.2.2.1 6, n0, .inr (.inr (.inr (.inr (va_cpy f0 (fun _ => none) 0 0 (min c0 n0)))))))] := hD
  have hra_ : ra_ = q1 := hra_
  rw [hra_]
  have hP9 := hP.sub (ws' := [(h0, .inr (12, [.int m0, .ref a0, .int (nI n0)])), (a0, .inl (G.2.2.1 6, c0, .inr (.inr (.inr (.inr (f0)))))), (q1, .inl (G.2.2.1 6, n0, .inr (.inr (.inr (.inr (va_cpy f0 (fun _ => none) 0 0 (min c0 n0)))))))]) [0, 1, 2] rfl
  have hD9 := hD.sub (ws' := [(h0, .inr (12, [.int m0, .ref a0, .int (nI n0)])), (a0, .inl (G.2.2.1 6, c0, .inr (.inr (.inr (.inr (f0)))))), (q1, .inl (G.2.2.1 6, n0, .inr (.inr (.inr (.inr (va_cpy f0 (fun _ => none) 0 0 (min c0 n0)))))))]) [0, 1, 2] (by decide) rfl
  refine W.widen (k := 1) (n := n0) (by first | decide | omega) (by first | decide | omega) ?_
  exact W.aret (v := .ref q1) hx hb hr (Or.inr ⟨_, rfl⟩) (Or.inr ⟨_, rfl⟩) (fun t ht hW => ⟨⟨q1, q1, rfl, trivial, rfl, by rw [ht]; exact hP9, hD9⟩, hS.F ht⟩) hS.2.2 (show decode cJ2_toArray 11 = .ok (.areturn, 1) by decide +kernel)

set_option maxHeartbeats 4000000 in
set_option maxRecDepth 100000 in
theorem rJ2_toArray_X11 (l : Launch) (G : zG) (d sz : Nat) (h0 : Nat) (a0 : Nat) (m0 : Int32) (n0 : Nat) (c0 : Nat) (f0 : Nat → Option Nat) (mi : Nat) (hn : n0 ≤ 40000) (hc : c0 < 2 ^ 31) : Met l yJ2_toArray (ws_ yJ2_toArray cJ2_toArray 1 (some (.array (.object "java/lang/Object")))) (eRoom (d + 3) 1 n0) (rPx G [.ref h0] [(h0, .inr (12, [.int m0, .ref a0, .int (nI n0)])), (a0, .inl (G.2.2.1 6, c0, .inr (.inr (.inr (.inr (f0))))))] sz (rEl G f0 c0 11 mi)) (va_Qr (fun _ => True) (fun (q1 : Nat) (ra : Nat) (t : State) => ra = q1 ∧ rB G (fun _ : Unit => [(h0, .inr (12, [.int m0, .ref a0, .int (nI n0)])), (a0, .inl (G.2.2.1 6, c0, .inr (.inr (.inr (.inr (f0)))))), (q1, .inl (G.2.2.1 6, n0, .inr (.inr (.inr (.inr (va_cpy f0 (fun _ => none) 0 0 (min c0 n0)))))))]) (va_A [(h0, .inr (12, [.int m0, .ref a0, .int (nI n0)])), (a0, .inl (G.2.2.1 6, c0, .inr (.inr (.inr (.inr (f0))))))] sz) () t) (va_A [(h0, .inr (12, [.int m0, .ref a0, .int (nI n0)])), (a0, .inl (G.2.2.1 6, c0, .inr (.inr (.inr (.inr (f0))))))] sz)) 1 n0 (va_A [(h0, .inr (12, [.int m0, .ref a0, .int (nI n0)])), (a0, .inl (G.2.2.1 6, c0, .inr (.inr (.inr (.inr (f0))))))] sz) := by
  refine zMetF (cc := cJ2_toArray) (maxL := 1) (ret := (some (.array (.object "java/lang/Object")))) (by decide +kernel) rfl ?_
  intro p e s m args below meth c s₁ B hml hv
  obtain ⟨rfl, hsz, hP, hK, hST, hD0, hE⟩ := hv
  have hx := B.exec
  have hb := B.bytes
  have hr := B.returns
  have hts := atoms_spec (ws := ws_ yJ2_toArray cJ2_toArray 1 (some (.array (.object "java/lang/Object")))) B.pre
  have hts : ∀ w ∈ lw_all, w.before _ s = true := fun w h => hts w (List.mem_cons_of_mem _ h)
  have hown : s.vm.findClass RJ2 = some m.cls := findClass_of_methodNamed B.named
  have hlocks := B.notSynchronized
  subst hsz
  have hD := hD0.self (sz := s.heap.size)
  generalize hAe : va_A [(h0, .inr (12, [.int m0, .ref a0, .int (nI n0)])), (a0, .inl (G.2.2.1 6, c0, .inr (.inr (.inr (.inr (f0))))))] s.heap.size = A at hD hST hE ⊢
  have hA : ∀ q : Nat, s.heap.size ≤ q → A q := fun q h => by rw [← hAe]; exact Or.inr h
  have hS : va_S A s.heap s.heap [] := va_S.rf
  have hP : va_P G.1 zcl [(h0, .inr (12, [.int m0, .ref a0, .int (nI n0)])), (a0, .inl (G.2.2.1 6, c0, .inr (.inr (.inr (.inr (f0))))))] s.heap := hP
  have hl := lv_entry ([.ref h0]) (n := 1) (Nat.le_of_ble_eq_true rfl)
  rw [lg_entry_eq]
  generalize (lg_sl ([.ref h0]) ++ List.replicate (1 - (lg_sl ([.ref h0])).length) Slot.unset).toArray = ls at hl ⊢
  have hl : lv_has ls 1 [(0, .ref h0)] := hl
  refine lv_aload_n hx hb (show decode cJ2_toArray 0 = .ok (.aload_n 0, 1) by decide +kernel) rfl (lv_at hl 0 rfl) ?_
  refine va_get (D := G.1) (ci := 12) (v := .ref a0) (C := RJ2) (T := TJ2) (N := 3) hx hb hts in_J2 hown hK.1 hP 0 rfl rfl 1 (by decide) (hts _ q415) (fun _ h9 => h9) rfl (show decode cJ2_toArray 1 = .ok (.getfield 9, 3) by decide +kernel) ?_
  refine lv_aload_n hx hb (show decode cJ2_toArray 4 = .ok (.aload_n 0, 1) by decide +kernel) rfl (lv_at hl 0 rfl) ?_
  refine va_get (D := G.1) (ci := 12) (v := .int (nI n0)) (C := RJ2) (T := TJ2) (N := 3) hx hb hts in_J2 hown hK.1 hP 0 rfl rfl 2 (by decide) (hts _ q418) (fun _ h9 => h9) rfl (show decode cJ2_toArray 5 = .ok (.getfield 48, 3) by decide +kernel) ?_
  have hPc := hP.sub (ws' := [(a0, .inl (G.2.2.1 6, c0, .inr (.inr (.inr (.inr (f0))))))]) [1] rfl
  have hDc := hD.sub (ws' := [(a0, .inl (G.2.2.1 6, c0, .inr (.inr (.inr (.inr (f0))))))]) [1] (by decide) rfl
  have hFc := va_free (wc := [(a0, .inl (G.2.2.1 6, c0, .inr (.inr (.inr (.inr (f0))))))]) hD hS hA [1] rfl
  refine va_callr (va_runS (As := [.ref a0, .int (nI n0)]) (rest := []) ⟨hx, hb, hml, hown, hts⟩ (rJ12_copyOf_X11 l G (d + 0) s.heap.size (a0) (c0) (f0) (n0) (mi) hc hn) (va_cwS 2 hts (lw_S q883 q884 q163 q885) rfl rfl rfl (by decide +kernel) ⟨(rroom (d := d + 2) (mc := 1) (ms := n0) (mc' := 1) (ms' := n0) (mL := 2) (by decide)).1, by first | exact (rroom (d := d + 2) (mc := 1) (ms := n0) (mc' := 1) (ms' := n0) (mL := 2) (by decide)).2⟩) ⟨rxblind rEl_st, rpx rEl_st hE hK hST hS hPc hDc hFc [.ref a0, .int (nI n0)]⟩ rfl rfl hl.1 rfl (lv_room (Nat.le_of_ble_eq_true rfl)) (show decode cJ2_toArray 8 = .ok (.invokestatic 66, 3) by decide +kernel) ⟨by show _ ≤ 1; first | decide | omega, by show _ ≤ n0; first | decide | omega⟩) hS (fun q _ h => hFc q h) hFc (fun u ra_ t H1 locs ht hvm hw hB hz1 hk1 hS => ?_)
  obtain ⟨q1, rfl⟩ : ∃ z, z = u := ⟨_, rfl⟩
  obtain ⟨hra_, hP1, hD1⟩ := hB
  rw [ht] at hP1
  obtain ⟨hP, hD⟩ := va_join (wr := [(h0, .inr (12, [.int m0, .ref a0, .int (nI n0)]))]) (w1 := [(a0, .inl (G.2.2.1 6, c0, .inr (.inr (.inr (.inr (f0)))))), (q1, .inl (G.2.2.1 6, n0, .inr (.inr (.inr (.inr (va_cpy f0 (fun _ => none) 0 0 (min c0 n0)))))))]) hP hD [1] [0] rfl rfl (by decide) (by decide) hk1 hFc hP1 hD1
  generalize H1 = H at hP hS ⊢
  have hP : va_P G.1 zcl [(h0, .inr (12, [.int m0, .ref a0, .int (nI n0)])), (a0, .inl (G.2.2.1 6, c0, .inr (.inr (.inr (.inr (f0)))))), (q1, .inl (G.2.2.1 6, n0, .inr (.inr (.inr (.inr (va_cpy f0 (fun _ => none) 0 0 (min c0 n0)))))))] H := hP
  have hD : va_D A [(h0, .inr (12, [.int m0, .ref a0, .int (nI n0)])), (a0, .inl (G.2.2.1 6, c0, .inr (.inr (.inr (.inr (f0)))))), (q1, .inl (G.2.2.1 6, n0, .inr (.inr (.inr (.inr (va_cpy f0 (fun _ => none) 0 0 (min c0 n0)))))))] := hD
  have hra_ : ra_ = q1 := hra_
  rw [hra_]
  have hP9 := hP.sub (ws' := [(h0, .inr (12, [.int m0, .ref a0, .int (nI n0)])), (a0, .inl (G.2.2.1 6, c0, .inr (.inr (.inr (.inr (f0)))))), (q1, .inl (G.2.2.1 6, n0, .inr (.inr (.inr (.inr (va_cpy f0 (fun _ => none) 0 0 (min c0 n0)))))))]) [0, 1, 2] rfl
  have hD9 := hD.sub (ws' := [(h0, .inr (12, [.int m0, .ref a0, .int (nI n0)])), (a0, .inl (G.2.2.1 6, c0, .inr (.inr (.inr (.inr (f0)))))), (q1, .inl (G.2.2.1 6, n0, .inr (.inr (.inr (.inr (va_cpy f0 (fun _ => none) 0 0 (min c0 n0)))))))]) [0, 1, 2] (by decide) rfl
  refine W.widen (k := 1) (n := n0) (by first | decide | omega) (by first | decide | omega) ?_
  exact W.aret (v := .ref q1) hx hb hr (Or.inr ⟨_, rfl⟩) (Or.inr ⟨_, rfl⟩) (fun t ht hW => ⟨⟨q1, q1, rfl, trivial, rfl, by rw [ht]; exact hP9, hD9⟩, hS.F ht⟩) hS.2.2 (show decode cJ2_toArray 11 = .ok (.areturn, 1) by decide +kernel)

set_option maxHeartbeats 4000000 in
set_option maxRecDepth 100000 in
/-- a post like this one -/
theorem rX9_same (l : Launch) (G : zG) (d sz : Nat) (h0 : Nat) (a0 : Nat) (f0 : Nat → Int32) (m0 : Int32) (r0 : Int32) : Met l yX9_same (ws_ yX9_same cX9_same 2 (some (.object "ObligingPosts$Post"))) (eRoom (d + 2) 2 7) (rPc G [.ref h0] [(h0, .inr (9, [.ref a0, .int m0, .int r0])), (a0, .inl (G.2.2.1 0, 4, .inl (f0)))] sz) (va_Qr (fun _ => True) (fun (u : Nat × Nat) (ra : Nat) (t : State) => ra = u.1 ∧ rB G (fun _ : Unit => [(h0, .inr (9, [.ref a0, .int m0, .int r0])), (a0, .inl (G.2.2.1 0, 4, .inl (f0))), (u.1, .inr (9, [.ref u.2, .int m0, .int r0])), (u.2, .inl (G.2.2.1 0, 4, .inl (va_cpy f0 (fun _ => 0) 0 0 4)))]) (va_A [(h0, .inr (9, [.ref a0, .int m0, .int r0])), (a0, .inl (G.2.2.1 0, 4, .inl (f0)))] sz) () t) (va_A [(h0, .inr (9, [.ref a0, .int m0, .int r0])), (a0, .inl (G.2.2.1 0, 4, .inl (f0)))] sz)) 2 7 (va_A [(h0, .inr (9, [.ref a0, .int m0, .int r0])), (a0, .inl (G.2.2.1 0, 4, .inl (f0)))] sz) := by
  refine Met.ofW (cc := cX9_same) (maxL := 2) (ret := (some (.object "ObligingPosts$Post"))) (by decide) rfl ?_
  intro p e s m args below meth c s₁ B hml hv
  obtain ⟨rfl, hsz, hP, hK, hST, hD0⟩ := hv
  have hx := B.exec
  have hb := B.bytes
  have hr := B.returns
  have hts := atoms_spec (ws := ws_ yX9_same cX9_same 2 (some (.object "ObligingPosts$Post"))) B.pre
  have hts : ∀ w ∈ lw_all, w.before _ s = true := fun w h => hts w (List.mem_cons_of_mem _ h)
  have hown : s.vm.findClass RX9 = some m.cls := findClass_of_methodNamed B.named
  have hlocks := B.notSynchronized
  subst hsz
  have hD := hD0.self (sz := s.heap.size)
  generalize hAe : va_A [(h0, .inr (9, [.ref a0, .int m0, .int r0])), (a0, .inl (G.2.2.1 0, 4, .inl (f0)))] s.heap.size = A at hD hST ⊢
  have hA : ∀ q : Nat, s.heap.size ≤ q → A q := fun q h => by rw [← hAe]; exact Or.inr h
  have hS : va_S A s.heap s.heap [] := va_S.rf
  have hP : va_P G.1 zcl [(h0, .inr (9, [.ref a0, .int m0, .int r0])), (a0, .inl (G.2.2.1 0, 4, .inl (f0)))] s.heap := hP
  have hl := lv_entry ([.ref h0]) (n := 2) (Nat.le_of_ble_eq_true rfl)
  rw [lg_entry_eq]
  generalize (lg_sl ([.ref h0]) ++ List.replicate (2 - (lg_sl ([.ref h0])).length) Slot.unset).toArray = ls at hl ⊢
  have hl : lv_has ls 2 [(0, .ref h0)] := hl
  refine va_new (ci := 9) (fs := [.null, .int 0, .int 0]) (C := RX9) (T := TX9) (N := 3) hx hb hts in_X9 tyX9 tyX9_ok hown (hts _ q1656) (hts _ q825) (hts _ q161) hK.1 hP hD hS hA rfl (fun j hj => by rcases (show j = 0 ∨ j = 1 ∨ j = 2 by omega) with rfl | rfl | rfl <;> rfl) (by show _ ≤ 2; first | decide | omega) (by show _ ≤ 7; first | decide | omega) (show decode cX9_same 0 = .ok (.new 10, 3) by decide +kernel) (fun q1 H hP hD hS => ?_)
  have hP : va_P G.1 zcl [(h0, .inr (9, [.ref a0, .int m0, .int r0])), (a0, .inl (G.2.2.1 0, 4, .inl (f0))), (q1, .inr (9, [.null, .int 0, .int 0]))] H := hP
  have hD : va_D A [(h0, .inr (9, [.ref a0, .int m0, .int r0])), (a0, .inl (G.2.2.1 0, 4, .inl (f0))), (q1, .inr (9, [.null, .int 0, .int 0]))] := hD
  refine lv_dup hx hb (show decode cX9_same 3 = .ok (.dup, 1) by decide +kernel) rfl ?_
  have hPc := hP.sub (ws' := [(q1, .inr (9, [.null, .int 0, .int 0]))]) [2] rfl
  have hDc := hD.sub (ws' := [(q1, .inr (9, [.null, .int 0, .int 0]))]) [2] (by decide) rfl
  have hFc := va_free (wc := [(q1, .inr (9, [.null, .int 0, .int 0]))]) hD hS hA [2] rfl
  refine va_callv (va_runI (As := []) (rest := [.ref q1]) ⟨hx, hb, hml, hown, hts⟩ (rX9_init l G (d + 0) H.size (q1) ) (cwI 0 hts (lw_meth q828) rfl rfl rfl (hts _ q161) (hts _ q1657) (hts _ q827) rfl (by decide +kernel) ⟨(rroom (d := d + 1) (mc := 2) (ms := 7) (mc' := 1) (ms' := 4) (mL := 1) (by decide)).1, by first | exact (rroom (d := d + 1) (mc := 2) (ms := 7) (mc' := 1) (ms' := 4) (mL := 1) (by decide)).2⟩) ⟨rblind, rpc hK hST hS hPc hDc hFc [.ref q1]⟩ rfl rfl hl.1 rfl (lv_room (Nat.le_of_ble_eq_true rfl)) (show decode cX9_same 4 = .ok (.invokespecial 15, 3) by decide +kernel) ⟨by show _ ≤ 2; first | decide | omega, by show _ ≤ 7; first | decide | omega⟩) hS (fun q _ h => hFc q h) hFc (fun u t H1 locs ht hvm hw hB hz1 hk1 hS => ?_)
  obtain ⟨q2, rfl⟩ : ∃ z, z = u := ⟨_, rfl⟩
  obtain ⟨hP1, hD1⟩ := hB
  rw [ht] at hP1
  obtain ⟨hP, hD⟩ := va_join (wr := [(h0, .inr (9, [.ref a0, .int m0, .int r0])), (a0, .inl (G.2.2.1 0, 4, .inl (f0)))]) (w1 := [(q1, .inr (9, [.ref q2, .int 0, .int 0])), (q2, .inl (G.2.2.1 0, 4, .inl (fun _ => 0)))]) hP hD [2] [0, 1] rfl rfl (by decide) (by decide) hk1 hFc hP1 hD1
  generalize H1 = H at hP hS ⊢
  have hP : va_P G.1 zcl [(h0, .inr (9, [.ref a0, .int m0, .int r0])), (a0, .inl (G.2.2.1 0, 4, .inl (f0))), (q1, .inr (9, [.ref q2, .int 0, .int 0])), (q2, .inl (G.2.2.1 0, 4, .inl (fun _ => 0)))] H := hP
  have hD : va_D A [(h0, .inr (9, [.ref a0, .int m0, .int r0])), (a0, .inl (G.2.2.1 0, 4, .inl (f0))), (q1, .inr (9, [.ref q2, .int 0, .int 0])), (q2, .inl (G.2.2.1 0, 4, .inl (fun _ => 0)))] := hD
  refine lv_astore_n hx hb (show decode cX9_same 7 = .ok (.astore_n 1, 1) by decide +kernel) rfl hl (by decide) rfl (fun ls hl => ?_)
  have hl : lv_has ls 2 [(1, .ref q1), (0, .ref h0)] := hl
  refine lv_aload_n hx hb (show decode cX9_same 8 = .ok (.aload_n 0, 1) by decide +kernel) rfl (lv_at hl 1 rfl) ?_
  refine va_get (D := G.1) (ci := 9) (v := .ref a0) (C := RX9) (T := TX9) (N := 3) hx hb hts in_X9 hown hK.1 hP 0 rfl rfl 0 (by decide) (hts _ q830) (fun _ h9 => h9) rfl (show decode cX9_same 9 = .ok (.getfield 9, 3) by decide +kernel) ?_
  refine lv_iconst (v := 0) hx hb (show decode cX9_same 12 = .ok (.iconst 0, 1) by decide +kernel) (by decide) ?_
  refine lv_aload_n hx hb (show decode cX9_same 13 = .ok (.aload_n 1, 1) by decide +kernel) rfl (lv_at hl 0 rfl) ?_
  refine va_get (D := G.1) (ci := 9) (v := .ref q2) (C := RX9) (T := TX9) (N := 3) hx hb hts in_X9 hown hK.1 hP 2 rfl rfl 0 (by decide) (hts _ q830) (fun _ h9 => h9) rfl (show decode cX9_same 14 = .ok (.getfield 9, 3) by decide +kernel) ?_
  refine lv_iconst (v := 0) hx hb (show decode cX9_same 17 = .ok (.iconst 0, 1) by decide +kernel) (by decide) ?_
  refine lv_iconst (v := 4) hx hb (show decode cX9_same 18 = .ok (.iconst 4, 1) by decide +kernel) (by decide) ?_
  refine va_copyi (ty := .int) hx hb (by rw [hml]; exact hl.1.symm) hown (hts _ q1658) (hts _ q375) (hts _ q374) (hts _ q164) hK.1 hP hD hS 1 3 0 0 rfl rfl rfl rfl rfl (by decide) (by decide) (by decide) (by decide) (by decide) (fun _ _ => rfl) (Nat.succ_le_succ (Nat.zero_le _)) (by show _ ≤ 48 * (_ + 1); exact Nat.le_trans (Nat.le_of_ble_eq_true rfl) (Nat.le_mul_of_pos_right 48 (Nat.succ_pos _))) (show decode cX9_same 19 = .ok (.invokestatic 16, 3) by decide +kernel) (fun H locs hP hD hS => ?_)
  have hP : va_P G.1 zcl [(h0, .inr (9, [.ref a0, .int m0, .int r0])), (a0, .inl (G.2.2.1 0, 4, .inl (f0))), (q1, .inr (9, [.ref q2, .int 0, .int 0])), (q2, .inl (G.2.2.1 0, 4, .inl (va_cpy f0 (fun _ => 0) 0 0 4)))] H := hP
  have hD : va_D A [(h0, .inr (9, [.ref a0, .int m0, .int r0])), (a0, .inl (G.2.2.1 0, 4, .inl (f0))), (q1, .inr (9, [.ref q2, .int 0, .int 0])), (q2, .inl (G.2.2.1 0, 4, .inl (va_cpy f0 (fun _ => 0) 0 0 4)))] := hD
  refine lv_aload_n hx hb (show decode cX9_same 22 = .ok (.aload_n 1, 1) by decide +kernel) rfl (lv_at hl 0 rfl) ?_
  refine lv_aload_n hx hb (show decode cX9_same 23 = .ok (.aload_n 0, 1) by decide +kernel) rfl (lv_at hl 1 rfl) ?_
  refine va_get (D := G.1) (ci := 9) (v := .int m0) (C := RX9) (T := TX9) (N := 3) hx hb hts in_X9 hown hK.1 hP 0 rfl rfl 1 (by decide) (hts _ q836) (fun _ h9 => h9) rfl (show decode cX9_same 24 = .ok (.getfield 22, 3) by decide +kernel) ?_
  refine va_put (D := G.1) (ci := 9) (v := .int m0) (ty := .int) (C := RX9) (T := TX9) (N := 3) hx hb hts in_X9 tyX9 tyX9_ok nmX9 hown hK.1 hP hD hS 2 rfl rfl 1 (by decide) (hts _ q836) (fun _ h9 => h9) rfl (by decide +kernel) rfl rfl (Nat.le_of_ble_eq_true rfl) (show decode cX9_same 27 = .ok (.putfield 22, 3) by decide +kernel) (fun H locs hP hD hS => ?_)
  have hP : va_P G.1 zcl [(h0, .inr (9, [.ref a0, .int m0, .int r0])), (a0, .inl (G.2.2.1 0, 4, .inl (f0))), (q1, .inr (9, [.ref q2, .int m0, .int 0])), (q2, .inl (G.2.2.1 0, 4, .inl (va_cpy f0 (fun _ => 0) 0 0 4)))] H := hP
  have hD : va_D A [(h0, .inr (9, [.ref a0, .int m0, .int r0])), (a0, .inl (G.2.2.1 0, 4, .inl (f0))), (q1, .inr (9, [.ref q2, .int m0, .int 0])), (q2, .inl (G.2.2.1 0, 4, .inl (va_cpy f0 (fun _ => 0) 0 0 4)))] := hD
  refine lv_aload_n hx hb (show decode cX9_same 30 = .ok (.aload_n 1, 1) by decide +kernel) rfl (lv_at hl 0 rfl) ?_
  refine lv_aload_n hx hb (show decode cX9_same 31 = .ok (.aload_n 0, 1) by decide +kernel) rfl (lv_at hl 1 rfl) ?_
  refine va_get (D := G.1) (ci := 9) (v := .int r0) (C := RX9) (T := TX9) (N := 3) hx hb hts in_X9 hown hK.1 hP 0 rfl rfl 2 (by decide) (hts _ q841) (fun _ h9 => h9) rfl (show decode cX9_same 32 = .ok (.getfield 26, 3) by decide +kernel) ?_
  refine va_put (D := G.1) (ci := 9) (v := .int r0) (ty := .int) (C := RX9) (T := TX9) (N := 3) hx hb hts in_X9 tyX9 tyX9_ok nmX9 hown hK.1 hP hD hS 2 rfl rfl 2 (by decide) (hts _ q841) (fun _ h9 => h9) rfl (by decide +kernel) rfl rfl (Nat.le_of_ble_eq_true rfl) (show decode cX9_same 35 = .ok (.putfield 26, 3) by decide +kernel) (fun H locs hP hD hS => ?_)
  have hP : va_P G.1 zcl [(h0, .inr (9, [.ref a0, .int m0, .int r0])), (a0, .inl (G.2.2.1 0, 4, .inl (f0))), (q1, .inr (9, [.ref q2, .int m0, .int r0])), (q2, .inl (G.2.2.1 0, 4, .inl (va_cpy f0 (fun _ => 0) 0 0 4)))] H := hP
  have hD : va_D A [(h0, .inr (9, [.ref a0, .int m0, .int r0])), (a0, .inl (G.2.2.1 0, 4, .inl (f0))), (q1, .inr (9, [.ref q2, .int m0, .int r0])), (q2, .inl (G.2.2.1 0, 4, .inl (va_cpy f0 (fun _ => 0) 0 0 4)))] := hD
  refine lv_aload_n hx hb (show decode cX9_same 38 = .ok (.aload_n 1, 1) by decide +kernel) rfl (lv_at hl 0 rfl) ?_
  have hP9 := hP.sub (ws' := [(h0, .inr (9, [.ref a0, .int m0, .int r0])), (a0, .inl (G.2.2.1 0, 4, .inl (f0))), (q1, .inr (9, [.ref q2, .int m0, .int r0])), (q2, .inl (G.2.2.1 0, 4, .inl (va_cpy f0 (fun _ => 0) 0 0 4)))]) [0, 1, 2, 3] rfl
  have hD9 := hD.sub (ws' := [(h0, .inr (9, [.ref a0, .int m0, .int r0])), (a0, .inl (G.2.2.1 0, 4, .inl (f0))), (q1, .inr (9, [.ref q2, .int m0, .int r0])), (q2, .inl (G.2.2.1 0, 4, .inl (va_cpy f0 (fun _ => 0) 0 0 4)))]) [0, 1, 2, 3] (by decide) rfl
  refine W.widen (k := 2) (n := 7) (by first | decide | omega) (by first | decide | omega) ?_
  exact W.aret (v := .ref q1) hx hb hr (Or.inl ⟨_, rfl⟩) (Or.inr ⟨_, rfl⟩) (fun t ht hW => ⟨⟨(q1, q2), q1, rfl, trivial, rfl, by rw [ht]; exact hP9, hD9⟩, hS.F ht⟩) hS.2.2 (show decode cX9_same 39 = .ok (.areturn, 1) by decide +kernel)

