/-! RAW: makers, lists -/
set_option maxHeartbeats 4000000 in
set_option maxRecDepth 100000 in
theorem rJ12_copyOf_2_s (l : Launch) (G : zG) (d sz : Nat) (mi : Nat) : Met l yJ12_copyOf_2 (ws_ yJ12_copyOf_2 cJ12_copyOf_2 4 (some (.array (.object "java/lang/Object")))) (eRoom (d + 1) 1 0) (rPx G [.ref (G.2.1 95 0), .int 0, .ref mi] [] sz (rEm G (G.2.1 95 0) mi)) (va_Qr (fun _ => True) (fun (q1 : Nat) (ra : Nat) (t : State) => ra = q1 ∧ rB G (fun _ : Unit => [(q1, .inl (G.2.2.1 6, 0, .inr (.inr (.inr (.inr (va_cpy (fun _ => none) (fun _ => none) 0 0 0))))))]) (va_A [] sz) () t) (va_A [] sz)) 1 0 (va_A [] sz) := by
  refine zMetF (cc := cJ12_copyOf_2) (maxL := 4) (ret := (some (.array (.object "java/lang/Object")))) (by decide +kernel) rfl ?_
  intro p e s m args below meth c s₁ B hml hv
  obtain ⟨rfl, hsz, hP, hK, hST, hD0, hE⟩ := hv
  have hx := B.exec
  have hb := B.bytes
  have hr := B.returns
  have hts := atoms_spec (ws := ws_ yJ12_copyOf_2 cJ12_copyOf_2 4 (some (.array (.object "java/lang/Object")))) B.pre
  have hts : ∀ w ∈ lw_all, w.before _ s = true := fun w h => hts w (List.mem_cons_of_mem _ h)
  have hown : s.vm.findClass RJ12 = some m.cls := findClass_of_methodNamed B.named
  have hlocks := B.notSynchronized
  subst hsz
  have hD := hD0.self (sz := s.heap.size)
  generalize hAe : va_A [] s.heap.size = A at hD hST hE ⊢
  have hA : ∀ q : Nat, s.heap.size ≤ q → A q := fun q h => by rw [← hAe]; exact Or.inr h
  have hS : va_S A s.heap s.heap [] := va_S.rf
  have hP : va_P G.1 zcl [] s.heap := hP
  have hl := lv_entry ([.ref (G.2.1 95 0), .int 0, .ref mi]) (n := 4) (Nat.le_of_ble_eq_true rfl)
  rw [lg_entry_eq]
  generalize (lg_sl ([.ref (G.2.1 95 0), .int 0, .ref mi]) ++ List.replicate (4 - (lg_sl ([.ref (G.2.1 95 0), .int 0, .ref mi])).length) Slot.unset).toArray = ls at hl ⊢
  have hl : lv_has ls 4 [(0, .ref (G.2.1 95 0)), (1, .int 0), (2, .ref mi)] := hl
  refine lv_aload_n hx hb (show decode cJ12_copyOf_2 0 = .ok (.aload_n 2, 1) by decide +kernel) rfl (lv_at hl 2 rfl) ?_
  refine va_ldcM hx hb hown (hts _ q911) hE.1 (show decode cJ12_copyOf_2 1 = .ok (.ldc 110, 2) by decide +kernel) ?_
  refine lv_acmp_ne (rx := some (mi)) (ry := some (mi)) (tgt := 13) hx hb (show decode cJ12_copyOf_2 3 = .ok (.if_acmp .ne 10, 3) by decide +kernel) (by decide) (fun cnd_ => absurd rfl cnd_) (fun cnd_ => ?_)
  refine lv_iload_n hx hb (show decode cJ12_copyOf_2 6 = .ok (.iload_n 1, 1) by decide +kernel) rfl (lv_at hl 1 rfl) ?_
  refine r_newq hx hb hown (hts _ q912) hST.2.2.1 6 rfl hK hP hD hS hA (by decide) (show ((0 : Int32)).toNatClampNeg = 0 by decide) (by decide) (by show _ ≤ 1; first | decide | omega) (by show _ ≤ 0; first | decide | omega) (show decode cJ12_copyOf_2 7 = .ok (.anewarray 2, 3) by decide +kernel) (fun q1 H locs hP hD hS => ?_)
  have hP : va_P G.1 zcl [(q1, .inl (G.2.2.1 6, 0, .inr (.inr (.inr (.inr (fun _ => none))))))] H := hP
  have hD : va_D A [(q1, .inl (G.2.2.1 6, 0, .inr (.inr (.inr (.inr (fun _ => none))))))] := hD
  refine lv_goto (tgt := 24) hx hb (show decode cJ12_copyOf_2 10 = .ok (.goto 14, 3) by decide +kernel) (by decide) ?_
  refine lv_astore_n hx hb (show decode cJ12_copyOf_2 24 = .ok (.astore_n 3, 1) by decide +kernel) rfl hl (by decide) rfl (fun ls hl => ?_)
  have hl : lv_has ls 4 [(3, .ref q1), (0, .ref (G.2.1 95 0)), (1, .int 0), (2, .ref mi)] := hl
  refine lv_aload_n hx hb (show decode cJ12_copyOf_2 25 = .ok (.aload_n 0, 1) by decide +kernel) rfl (lv_at hl 1 rfl) ?_
  refine lv_iconst (v := 0) hx hb (show decode cJ12_copyOf_2 26 = .ok (.iconst 0, 1) by decide +kernel) (by decide) ?_
  refine lv_aload_n hx hb (show decode cJ12_copyOf_2 27 = .ok (.aload_n 3, 1) by decide +kernel) rfl (lv_at hl 0 rfl) ?_
  refine lv_iconst (v := 0) hx hb (show decode cJ12_copyOf_2 28 = .ok (.iconst 0, 1) by decide +kernel) (by decide) ?_
  refine lv_aload_n hx hb (show decode cJ12_copyOf_2 29 = .ok (.aload_n 0, 1) by decide +kernel) rfl (lv_at hl 1 rfl) ?_
  refine va_tlen (v := 0) hx hb (rEe_T hK hE.2) hS rfl (show decode cJ12_copyOf_2 30 = .ok (.arraylength, 1) by decide +kernel) ?_
  refine lv_iload_n hx hb (show decode cJ12_copyOf_2 31 = .ok (.iload_n 1, 1) by decide +kernel) rfl (lv_at hl 2 rfl) ?_
  refine va_mmin hx hb (by rw [hml]; exact hl.1.symm) hown (hts _ q913) (hts _ q668) (hts _ q152) (hts _ q669) (Nat.succ_le_succ (Nat.zero_le _)) (by show _ ≤ 48 * (_ + 1); exact Nat.le_trans (Nat.le_of_ble_eq_true rfl) (Nat.le_mul_of_pos_right 48 (Nat.succ_pos _))) (by show _ ≤ 1; decide) (by show _ ≤ 0; decide) (show decode cJ12_copyOf_2 32 = .ok (.invokestatic 304, 3) by decide +kernel) ?_
  rw [show (if (0 : Int32) < 0 then (0 : Int32) else 0) = 0 by decide]
  refine va_copyg (E0 := "java/lang/Object") (E1 := "java/lang/Object") hx hb (by rw [hml]; exact hl.1.symm) hown (hts _ q914) (hts _ q375) (hts _ q374) (hts _ q164) hK.1 hP hD hS 0 6 (rEe_T hK hE.2) rfl rfl (by decide) (by decide) (by decide) (by decide) (by decide) (Nat.succ_le_succ (Nat.zero_le _)) (by show _ ≤ 48 * (_ + 1); exact Nat.le_trans (Nat.le_of_ble_eq_true rfl) (Nat.le_mul_of_pos_right 48 (Nat.succ_pos _))) (show decode cJ12_copyOf_2 35 = .ok (.invokestatic 150, 3) by decide +kernel) (fun H locs hP hD hS => ?_)
  have hP : va_P G.1 zcl [(q1, .inl (G.2.2.1 6, 0, .inr (.inr (.inr (.inr (va_cpy (fun _ => none) (fun _ => none) 0 0 0))))))] H := hP
  have hD : va_D A [(q1, .inl (G.2.2.1 6, 0, .inr (.inr (.inr (.inr (va_cpy (fun _ => none) (fun _ => none) 0 0 0))))))] := hD
  refine lv_aload_n hx hb (show decode cJ12_copyOf_2 38 = .ok (.aload_n 3, 1) by decide +kernel) rfl (lv_at hl 0 rfl) ?_
  have hP9 := hP.sub (ws' := [(q1, .inl (G.2.2.1 6, 0, .inr (.inr (.inr (.inr (va_cpy (fun _ => none) (fun _ => none) 0 0 0))))))]) [0] rfl
  have hD9 := hD.sub (ws' := [(q1, .inl (G.2.2.1 6, 0, .inr (.inr (.inr (.inr (va_cpy (fun _ => none) (fun _ => none) 0 0 0))))))]) [0] (by decide) rfl
  refine W.widen (k := 1) (n := 0) (by first | decide | omega) (by first | decide | omega) ?_
  exact W.aret (v := .ref q1) hx hb hr (Or.inr ⟨_, rfl⟩) (Or.inr ⟨_, rfl⟩) (fun t ht hW => ⟨⟨q1, q1, rfl, trivial, rfl, by rw [ht]; exact hP9, hD9⟩, hS.F ht⟩) hS.2.2 (show decode cJ12_copyOf_2 39 = .ok (.areturn, 1) by decide +kernel)

set_option maxHeartbeats 4000000 in
set_option maxRecDepth 100000 in
theorem rJ12_copyOf_s (l : Launch) (G : zG) (d sz : Nat) (mi : Nat) : Met l yJ12_copyOf (ws_ yJ12_copyOf cJ12_copyOf 2 (some (.array (.object "java/lang/Object")))) (eRoom (d + 2) 1 0) (rPx G [.ref (G.2.1 95 0), .int 0] [] sz (rEm G (G.2.1 95 0) mi)) (va_Qr (fun _ => True) (fun (q1 : Nat) (ra : Nat) (t : State) => ra = q1 ∧ rB G (fun _ : Unit => [(q1, .inl (G.2.2.1 6, 0, .inr (.inr (.inr (.inr (va_cpy (fun _ => none) (fun _ => none) 0 0 0))))))]) (va_A [] sz) () t) (va_A [] sz)) 1 0 (va_A [] sz) := by
  refine zMetF (cc := cJ12_copyOf) (maxL := 2) (ret := (some (.array (.object "java/lang/Object")))) (by decide +kernel) rfl ?_
  intro p e s m args below meth c s₁ B hml hv
  obtain ⟨rfl, hsz, hP, hK, hST, hD0, hE⟩ := hv
  have hx := B.exec
  have hb := B.bytes
  have hr := B.returns
  have hts := atoms_spec (ws := ws_ yJ12_copyOf cJ12_copyOf 2 (some (.array (.object "java/lang/Object")))) B.pre
  have hts : ∀ w ∈ lw_all, w.before _ s = true := fun w h => hts w (List.mem_cons_of_mem _ h)
  have hown : s.vm.findClass RJ12 = some m.cls := findClass_of_methodNamed B.named
  have hlocks := B.notSynchronized
  subst hsz
  have hD := hD0.self (sz := s.heap.size)
  generalize hAe : va_A [] s.heap.size = A at hD hST hE ⊢
  have hA : ∀ q : Nat, s.heap.size ≤ q → A q := fun q h => by rw [← hAe]; exact Or.inr h
  have hS : va_S A s.heap s.heap [] := va_S.rf
  have hP : va_P G.1 zcl [] s.heap := hP
  have hl := lv_entry ([.ref (G.2.1 95 0), .int 0]) (n := 2) (Nat.le_of_ble_eq_true rfl)
  rw [lg_entry_eq]
  generalize (lg_sl ([.ref (G.2.1 95 0), .int 0]) ++ List.replicate (2 - (lg_sl ([.ref (G.2.1 95 0), .int 0])).length) Slot.unset).toArray = ls at hl ⊢
  have hl : lv_has ls 2 [(0, .ref (G.2.1 95 0)), (1, .int 0)] := hl
  refine lv_aload_n hx hb (show decode cJ12_copyOf 0 = .ok (.aload_n 0, 1) by decide +kernel) rfl (lv_at hl 0 rfl) ?_
  refine lv_iload_n hx hb (show decode cJ12_copyOf 1 = .ok (.iload_n 1, 1) by decide +kernel) rfl (lv_at hl 1 rfl) ?_
  refine lv_aload_n hx hb (show decode cJ12_copyOf 2 = .ok (.aload_n 0, 1) by decide +kernel) rfl (lv_at hl 0 rfl) ?_
  refine va_getC hx hb (by rw [hml]; exact hl.1.symm) hown (hts _ q886) (va_Dc.use hST.2.2.2.2.2.2.1) (hts _ q2518) (hts _ q887) (hts _ q907) hE.1 (r_recvE hK hS hE.2) (Nat.succ_le_succ (Nat.zero_le _)) (by show _ ≤ 48 * (_ + 1); exact Nat.le_trans (Nat.le_of_ble_eq_true rfl) (Nat.le_mul_of_pos_right 48 (Nat.succ_pos _))) (show decode cJ12_copyOf 3 = .ok (.invokevirtual 86, 3) by decide +kernel) ?_
  have hPc := hP.sub (ws' := []) [] rfl
  have hDc := hD.sub (ws' := []) [] (by decide) rfl
  have hFc := va_free (wc := []) hD hS hA [] rfl
  refine va_callr (va_runS (As := [.ref (G.2.1 95 0), .int 0, .ref mi]) (rest := []) ⟨hx, hb, hml, hown, hts⟩ (rJ12_copyOf_2_s l G (d + 0) s.heap.size (mi) ) (va_cwS 3 hts (lw_S q908 q909 q163 q910) rfl rfl rfl (by decide +kernel) ⟨(rroom (d := d + 1) (mc := 1) (ms := 0) (mc' := 1) (ms' := 0) (mL := 4) (by decide)).1, by first | exact (rroom (d := d + 1) (mc := 1) (ms := 0) (mc' := 1) (ms' := 0) (mL := 4) (by decide)).2⟩) ⟨rxblind rEm_st, rpx rEm_st hE hK hST hS hPc hDc hFc [.ref (G.2.1 95 0), .int 0, .ref mi]⟩ rfl rfl hl.1 rfl (lv_room (Nat.le_of_ble_eq_true rfl)) (show decode cJ12_copyOf 6 = .ok (.invokestatic 300, 3) by decide +kernel) ⟨by show _ ≤ 1; first | decide | omega, by show _ ≤ 0; first | decide | omega⟩) hS (fun q _ h => hFc q h) hFc (fun u ra_ t H1 locs ht hvm hw hB hz1 hk1 hS => ?_)
  obtain ⟨q1, rfl⟩ : ∃ z, z = u := ⟨_, rfl⟩
  obtain ⟨hra_, hP1, hD1⟩ := hB
  rw [ht] at hP1
  obtain ⟨hP, hD⟩ := va_join (wr := []) (w1 := [(q1, .inl (G.2.2.1 6, 0, .inr (.inr (.inr (.inr (va_cpy (fun _ => none) (fun _ => none) 0 0 0))))))]) hP hD [] [] rfl rfl (by decide) (by decide) hk1 hFc hP1 hD1
  generalize H1 = H at hP hS ⊢
  have hP : va_P G.1 zcl [(q1, .inl (G.2.2.1 6, 0, .inr (.inr (.inr (.inr (va_cpy (fun _ => none) (fun _ => none) 0 0 0))))))] H := hP
  have hD : va_D A [(q1, .inl (G.2.2.1 6, 0, .inr (.inr (.inr (.inr (va_cpy (fun _ => none) (fun _ => none) 0 0 0))))))] := hD
  have hra_ : ra_ = q1 := hra_
  rw [hra_]
  have hP9 := hP.sub (ws' := [(q1, .inl (G.2.2.1 6, 0, .inr (.inr (.inr (.inr (va_cpy (fun _ => none) (fun _ => none) 0 0 0))))))]) [0] rfl
  have hD9 := hD.sub (ws' := [(q1, .inl (G.2.2.1 6, 0, .inr (.inr (.inr (.inr (va_cpy (fun _ => none) (fun _ => none) 0 0 0))))))]) [0] (by decide) rfl
  refine W.widen (k := 1) (n := 0) (by first | decide | omega) (by first | decide | omega) ?_
  exact W.aret (v := .ref q1) hx hb hr (Or.inr ⟨_, rfl⟩) (Or.inr ⟨_, rfl⟩) (fun t ht hW => ⟨⟨q1, q1, rfl, trivial, rfl, by rw [ht]; exact hP9, hD9⟩, hS.F ht⟩) hS.2.2 (show decode cJ12_copyOf 9 = .ok (.areturn, 1) by decide +kernel)

set_option maxHeartbeats 4000000 in
set_option maxRecDepth 100000 in
theorem rJ2_toArray_s (l : Launch) (G : zG) (d sz : Nat) (h0 : Nat) (m0 : Int32) (mi : Nat) : Met l yJ2_toArray (ws_ yJ2_toArray cJ2_toArray 1 (some (.array (.object "java/lang/Object")))) (eRoom (d + 3) 1 0) (rPx G [.ref h0] [(h0, .inr (12, [.int m0, .ref (G.2.1 95 0), .int 0]))] sz (rEm G (G.2.1 95 0) mi)) (va_Qr (fun _ => True) (fun (q1 : Nat) (ra : Nat) (t : State) => ra = q1 ∧ rB G (fun _ : Unit => [(h0, .inr (12, [.int m0, .ref (G.2.1 95 0), .int 0])), (q1, .inl (G.2.2.1 6, 0, .inr (.inr (.inr (.inr (va_cpy (fun _ => none) (fun _ => none) 0 0 0))))))]) (va_A [(h0, .inr (12, [.int m0, .ref (G.2.1 95 0), .int 0]))] sz) () t) (va_A [(h0, .inr (12, [.int m0, .ref (G.2.1 95 0), .int 0]))] sz)) 1 0 (va_A [(h0, .inr (12, [.int m0, .ref (G.2.1 95 0), .int 0]))] sz) := by
  refine zMetF (cc := cJ2_toArray) (maxL := 1) (ret := (some (.array (.object "java/lang/Object")))) (by decide +kernel) rfl ?_
  intro p e s m args below meth c s₁ B hml hv
  obtain ⟨rfl, hsz, hP, hK, hST, hD0, hE⟩ := hv
  have hx := B.exec
  have hb := B.bytes
  have hr := B.returns
  have hts := atoms_spec (ws := ws_ yJ2_toArray cJ2_toArray 1 (some (.array (.object "java/lang/Object")))) B.pre
  have hts : ∀ w ∈ lw_all, w.before _ s = true := fun w h => hts w (List.mem_cons_of_mem _ h)
  have hown : s.vm.findClass RJ2 = some m.cls := findClass_of_methodNamed B.named
  have hlocks := B.notSynchronized
  subst hsz
  have hD := hD0.self (sz := s.heap.size)
  generalize hAe : va_A [(h0, .inr (12, [.int m0, .ref (G.2.1 95 0), .int 0]))] s.heap.size = A at hD hST hE ⊢
  have hA : ∀ q : Nat, s.heap.size ≤ q → A q := fun q h => by rw [← hAe]; exact Or.inr h
  have hS : va_S A s.heap s.heap [] := va_S.rf
  have hP : va_P G.1 zcl [(h0, .inr (12, [.int m0, .ref (G.2.1 95 0), .int 0]))] s.heap := hP
  have hl := lv_entry ([.ref h0]) (n := 1) (Nat.le_of_ble_eq_true rfl)
  rw [lg_entry_eq]
  generalize (lg_sl ([.ref h0]) ++ List.replicate (1 - (lg_sl ([.ref h0])).length) Slot.unset).toArray = ls at hl ⊢
  have hl : lv_has ls 1 [(0, .ref h0)] := hl
  refine lv_aload_n hx hb (show decode cJ2_toArray 0 = .ok (.aload_n 0, 1) by decide +kernel) rfl (lv_at hl 0 rfl) ?_
  refine va_get (D := G.1) (ci := 12) (v := .ref (G.2.1 95 0)) (C := RJ2) (T := TJ2) (N := 3) hx hb hts in_J2 hown hK.1 hP 0 rfl rfl 1 (by decide) (hts _ q415) (fun _ h9 => h9) rfl (show decode cJ2_toArray 1 = .ok (.getfield 9, 3) by decide +kernel) ?_
  refine lv_aload_n hx hb (show decode cJ2_toArray 4 = .ok (.aload_n 0, 1) by decide +kernel) rfl (lv_at hl 0 rfl) ?_
  refine va_get (D := G.1) (ci := 12) (v := .int 0) (C := RJ2) (T := TJ2) (N := 3) hx hb hts in_J2 hown hK.1 hP 0 rfl rfl 2 (by decide) (hts _ q418) (fun _ h9 => h9) rfl (show decode cJ2_toArray 5 = .ok (.getfield 48, 3) by decide +kernel) ?_
  have hPc := hP.sub (ws' := []) [] rfl
  have hDc := hD.sub (ws' := []) [] (by decide) rfl
  have hFc := va_free (wc := []) hD hS hA [] rfl
  refine va_callr (va_runS (As := [.ref (G.2.1 95 0), .int 0]) (rest := []) ⟨hx, hb, hml, hown, hts⟩ (rJ12_copyOf_s l G (d + 0) s.heap.size (mi) ) (va_cwS 2 hts (lw_S q883 q884 q163 q885) rfl rfl rfl (by decide +kernel) ⟨(rroom (d := d + 2) (mc := 1) (ms := 0) (mc' := 1) (ms' := 0) (mL := 2) (by decide)).1, by first | exact (rroom (d := d + 2) (mc := 1) (ms := 0) (mc' := 1) (ms' := 0) (mL := 2) (by decide)).2⟩) ⟨rxblind rEm_st, rpx rEm_st hE hK hST hS hPc hDc hFc [.ref (G.2.1 95 0), .int 0]⟩ rfl rfl hl.1 rfl (lv_room (Nat.le_of_ble_eq_true rfl)) (show decode cJ2_toArray 8 = .ok (.invokestatic 66, 3) by decide +kernel) ⟨by show _ ≤ 1; first | decide | omega, by show _ ≤ 0; first | decide | omega⟩) hS (fun q _ h => hFc q h) hFc (fun u ra_ t H1 locs ht hvm hw hB hz1 hk1 hS => ?_)
  obtain ⟨q1, rfl⟩ : ∃ z, z = u := ⟨_, rfl⟩
  obtain ⟨hra_, hP1, hD1⟩ := hB
  rw [ht] at hP1
  obtain ⟨hP, hD⟩ := va_join (wr := [(h0, .inr (12, [.int m0, .ref (G.2.1 95 0), .int 0]))]) (w1 := [(q1, .inl (G.2.2.1 6, 0, .inr (.inr (.inr (.inr (va_cpy (fun _ => none) (fun _ => none) 0 0 0))))))]) hP hD [] [0] rfl rfl (by decide) (by decide) hk1 hFc hP1 hD1
  generalize H1 = H at hP hS ⊢
  have hP : va_P G.1 zcl [(h0, .inr (12, [.int m0, .ref (G.2.1 95 0), .int 0])), (q1, .inl (G.2.2.1 6, 0, .inr (.inr (.inr (.inr (va_cpy (fun _ => none) (fun _ => none) 0 0 0))))))] H := hP
  have hD : va_D A [(h0, .inr (12, [.int m0, .ref (G.2.1 95 0), .int 0])), (q1, .inl (G.2.2.1 6, 0, .inr (.inr (.inr (.inr (va_cpy (fun _ => none) (fun _ => none) 0 0 0))))))] := hD
  have hra_ : ra_ = q1 := hra_
  rw [hra_]
  have hP9 := hP.sub (ws' := [(h0, .inr (12, [.int m0, .ref (G.2.1 95 0), .int 0])), (q1, .inl (G.2.2.1 6, 0, .inr (.inr (.inr (.inr (va_cpy (fun _ => none) (fun _ => none) 0 0 0))))))]) [0, 1] rfl
  have hD9 := hD.sub (ws' := [(h0, .inr (12, [.int m0, .ref (G.2.1 95 0), .int 0])), (q1, .inl (G.2.2.1 6, 0, .inr (.inr (.inr (.inr (va_cpy (fun _ => none) (fun _ => none) 0 0 0))))))]) [0, 1] (by decide) rfl
  refine W.widen (k := 1) (n := 0) (by first | decide | omega) (by first | decide | omega) ?_
  exact W.aret (v := .ref q1) hx hb hr (Or.inr ⟨_, rfl⟩) (Or.inr ⟨_, rfl⟩) (fun t ht hW => ⟨⟨q1, q1, rfl, trivial, rfl, by rw [ht]; exact hP9, hD9⟩, hS.F ht⟩) hS.2.2 (show decode cJ2_toArray 11 = .ok (.areturn, 1) by decide +kernel)

set_option maxHeartbeats 4000000 in
set_option maxRecDepth 100000 in
theorem rJ2_grow_2_n (l : Launch) (G : zG) (d sz : Nat) (h0 : Nat) (m0 : Int32) (n0 : Nat) (hn : n0 ≤ 40000) : Met l yJ2_grow_2 (ws_ yJ2_grow_2 cJ2_grow_2 4 (some (.array (.object "java/lang/Object")))) (eRoom d 1 (max 10 n0)) (rPx G [.ref h0, .int (nI n0)] [(h0, .inr (12, [.int m0, .ref (G.2.1 95 0), .int 0]))] sz (rEe G (G.2.1 95 0))) (va_Qr (fun _ => True) (fun (q1 : Nat) (ra : Nat) (t : State) => ra = q1 ∧ rB G (fun _ : Unit => [(h0, .inr (12, [.int m0, .ref q1, .int 0])), (q1, .inl (G.2.2.1 6, max 10 n0, .inr (.inr (.inr (.inr (fun _ => none))))))]) (va_A [(h0, .inr (12, [.int m0, .ref (G.2.1 95 0), .int 0]))] sz) () t) (va_A [(h0, .inr (12, [.int m0, .ref (G.2.1 95 0), .int 0]))] sz)) 1 (max 10 n0) (va_A [(h0, .inr (12, [.int m0, .ref (G.2.1 95 0), .int 0]))] sz) := by
  refine zMetF (cc := cJ2_grow_2) (maxL := 4) (ret := (some (.array (.object "java/lang/Object")))) (by decide +kernel) rfl ?_
  intro p e s m args below meth c s₁ B hml hv
  obtain ⟨rfl, hsz, hP, hK, hST, hD0, hE⟩ := hv
  have hx := B.exec
  have hb := B.bytes
  have hr := B.returns
  have hts := atoms_spec (ws := ws_ yJ2_grow_2 cJ2_grow_2 4 (some (.array (.object "java/lang/Object")))) B.pre
  have hts : ∀ w ∈ lw_all, w.before _ s = true := fun w h => hts w (List.mem_cons_of_mem _ h)
  have hown : s.vm.findClass RJ2 = some m.cls := findClass_of_methodNamed B.named
  have hlocks := B.notSynchronized
  subst hsz
  have hD := hD0.self (sz := s.heap.size)
  generalize hAe : va_A [(h0, .inr (12, [.int m0, .ref (G.2.1 95 0), .int 0]))] s.heap.size = A at hD hST hE ⊢
  have hA : ∀ q : Nat, s.heap.size ≤ q → A q := fun q h => by rw [← hAe]; exact Or.inr h
  have hS : va_S A s.heap s.heap [] := va_S.rf
  have hP : va_P G.1 zcl [(h0, .inr (12, [.int m0, .ref (G.2.1 95 0), .int 0]))] s.heap := hP
  have hl := lv_entry ([.ref h0, .int (nI n0)]) (n := 4) (Nat.le_of_ble_eq_true rfl)
  rw [lg_entry_eq]
  generalize (lg_sl ([.ref h0, .int (nI n0)]) ++ List.replicate (4 - (lg_sl ([.ref h0, .int (nI n0)])).length) Slot.unset).toArray = ls at hl ⊢
  have hl : lv_has ls 4 [(0, .ref h0), (1, .int (nI n0))] := hl
  refine lv_aload_n hx hb (show decode cJ2_grow_2 0 = .ok (.aload_n 0, 1) by decide +kernel) rfl (lv_at hl 0 rfl) ?_
  refine va_get (D := G.1) (ci := 12) (v := .ref (G.2.1 95 0)) (C := RJ2) (T := TJ2) (N := 3) hx hb hts in_J2 hown hK.1 hP 0 rfl rfl 1 (by decide) (hts _ q415) (fun _ h9 => h9) rfl (show decode cJ2_grow_2 1 = .ok (.getfield 9, 3) by decide +kernel) ?_
  refine va_tlen (v := 0) hx hb (rEe_T hK hE) hS rfl (show decode cJ2_grow_2 4 = .ok (.arraylength, 1) by decide +kernel) ?_
  refine lv_istore_n hx hb (show decode cJ2_grow_2 5 = .ok (.istore_n 2, 1) by decide +kernel) rfl hl (by decide) rfl (fun ls hl => ?_)
  have hl : lv_has ls 4 [(2, .int 0), (0, .ref h0), (1, .int (nI n0))] := hl
  refine lv_iload_n hx hb (show decode cJ2_grow_2 6 = .ok (.iload_n 2, 1) by decide +kernel) rfl (lv_at hl 0 rfl) ?_
  refine lv_if_gt (tgt := 20) hx hb (show decode cJ2_grow_2 7 = .ok (.ifCond .gt 13, 3) by decide +kernel) (by decide) (fun cnd_ => absurd cnd_ (by decide)) (fun cnd_ => ?_)
  refine lv_aload_n hx hb (show decode cJ2_grow_2 10 = .ok (.aload_n 0, 1) by decide +kernel) rfl (lv_at hl 1 rfl) ?_
  refine va_get (D := G.1) (ci := 12) (v := .ref (G.2.1 95 0)) (C := RJ2) (T := TJ2) (N := 3) hx hb hts in_J2 hown hK.1 hP 0 rfl rfl 1 (by decide) (hts _ q415) (fun _ h9 => h9) rfl (show decode cJ2_grow_2 11 = .ok (.getfield 9, 3) by decide +kernel) ?_
  obtain ⟨v_, ev_, hZ_⟩ := hST.1 _ (List.mem_of_getElem? (i := 2) rfl)
  obtain rfl : v_ = .ref (G.2.1 95 0) := ev_
  refine va_gets hx hb hZ_ hS hown (hts _ q433) (fun _ h9 => h9) (show decode cJ2_grow_2 14 = .ok (.getstatic 39, 3) by decide +kernel) ?_
  refine lv_acmp_eq (rx := some ((G.2.1 95 0))) (ry := some ((G.2.1 95 0))) (tgt := 45) hx hb (show decode cJ2_grow_2 17 = .ok (.if_acmp .eq 28, 3) by decide +kernel) (by decide) (fun cnd_ => ?_) (fun cnd_ => absurd (rfl) cnd_)
  refine lv_aload_n hx hb (show decode cJ2_grow_2 45 = .ok (.aload_n 0, 1) by decide +kernel) rfl (lv_at hl 1 rfl) ?_
  refine lv_bipush (v := 10) hx hb (show decode cJ2_grow_2 46 = .ok (.bipush 10, 2) by decide +kernel) (by decide) ?_
  refine lv_iload_n hx hb (show decode cJ2_grow_2 48 = .ok (.iload_n 1, 1) by decide +kernel) rfl (lv_at hl 2 rfl) ?_
  refine va_mmax hx hb (by rw [hml]; exact hl.1.symm) hown (hts _ q915) (hts _ q877) (hts _ q152) (hts _ q878) (Nat.succ_le_succ (Nat.zero_le _)) (by show _ ≤ 48 * (_ + 1); exact Nat.le_trans (Nat.le_of_ble_eq_true rfl) (Nat.le_mul_of_pos_right 48 (Nat.succ_pos _))) (by show _ ≤ 1; decide) (by show _ ≤ max 10 n0; omega) (show decode cJ2_grow_2 49 = .ok (.invokestatic 79, 3) by decide +kernel) ?_
  rw [show (if (10 : Int32) < nI n0 then nI n0 else (10 : Int32)) = nI (max 10 n0) from rmax10 (by omega)]
  refine r_newq hx hb hown (hts _ q411) hST.2.2.1 6 rfl hK hP hD hS hA (nI_pos (by omega)) (nI_clamp (by omega)) (by omega) (by show _ ≤ 1; first | decide | omega) (by show _ ≤ max 10 n0; first | decide | omega) (show decode cJ2_grow_2 52 = .ok (.anewarray 7, 3) by decide +kernel) (fun q1 H locs hP hD hS => ?_)
  have hP : va_P G.1 zcl [(h0, .inr (12, [.int m0, .ref (G.2.1 95 0), .int 0])), (q1, .inl (G.2.2.1 6, max 10 n0, .inr (.inr (.inr (.inr (fun _ => none))))))] H := hP
  have hD : va_D A [(h0, .inr (12, [.int m0, .ref (G.2.1 95 0), .int 0])), (q1, .inl (G.2.2.1 6, max 10 n0, .inr (.inr (.inr (.inr (fun _ => none))))))] := hD
  refine lv_dup_x1 hx hb (show decode cJ2_grow_2 55 = .ok (.dup_x1, 1) by decide +kernel) rfl rfl ?_
  refine va_put (D := G.1) (ci := 12) (v := .ref q1) (ty := .array (.object "java/lang/Object")) (C := RJ2) (T := TJ2) (N := 3) hx hb hts in_J2 tyJ2 tyJ2_ok nmJ2 hown hK.1 hP hD hS 0 rfl rfl 1 (by decide) (hts _ q415) (fun _ h9 => h9) rfl (by decide +kernel) rfl rfl (Nat.le_of_ble_eq_true rfl) (show decode cJ2_grow_2 56 = .ok (.putfield 9, 3) by decide +kernel) (fun H locs hP hD hS => ?_)
  have hP : va_P G.1 zcl [(h0, .inr (12, [.int m0, .ref q1, .int 0])), (q1, .inl (G.2.2.1 6, max 10 n0, .inr (.inr (.inr (.inr (fun _ => none))))))] H := hP
  have hD : va_D A [(h0, .inr (12, [.int m0, .ref q1, .int 0])), (q1, .inl (G.2.2.1 6, max 10 n0, .inr (.inr (.inr (.inr (fun _ => none))))))] := hD
  have hP9 := hP.sub (ws' := [(h0, .inr (12, [.int m0, .ref q1, .int 0])), (q1, .inl (G.2.2.1 6, max 10 n0, .inr (.inr (.inr (.inr (fun _ => none))))))]) [0, 1] rfl
  have hD9 := hD.sub (ws' := [(h0, .inr (12, [.int m0, .ref q1, .int 0])), (q1, .inl (G.2.2.1 6, max 10 n0, .inr (.inr (.inr (.inr (fun _ => none))))))]) [0, 1] (by decide) rfl
  refine W.widen (k := 1) (n := max 10 n0) (by first | decide | omega) (by first | decide | omega) ?_
  exact W.aret (v := .ref q1) hx hb hr (Or.inr ⟨_, rfl⟩) (Or.inr ⟨_, rfl⟩) (fun t ht hW => ⟨⟨q1, q1, rfl, trivial, rfl, by rw [ht]; exact hP9, hD9⟩, hS.F ht⟩) hS.2.2 (show decode cJ2_grow_2 59 = .ok (.areturn, 1) by decide +kernel)

set_option maxHeartbeats 4000000 in
set_option maxRecDepth 100000 in
theorem rJ2_addAll_eX10 (l : Launch) (G : zG) (d sz : Nat) (h0 : Nat) (a0 : Nat) (m0 : Int32) (n9 : Int32) (h1 : Nat) (a1 : Nat) (m1 : Int32) (c1 : Nat) (f1 : Nat → Option Nat) (mi : Nat) (hc : c1 < 2 ^ 31) : Met l yJ2_addAll (ws_ yJ2_addAll cJ2_addAll 6 (some .boolean)) (eRoom (d + 4) 1 0) (rPx G [.ref h0, .ref h1] [(h0, .inr (12, [.int m0, .ref a0, .int n9])), (h1, .inr (12, [.int m1, .ref a1, .int (nI 0)])), (a1, .inl (G.2.2.1 6, c1, .inr (.inr (.inr (.inr (f1))))))] sz (rEl G f1 c1 10 mi)) (va_Qi (fun (r : Int32) _ => r = 0) (rB G (fun q1 : Nat => [(h0, .inr (12, [.int (m0 + 1), .ref a0, .int n9])), (h1, .inr (12, [.int m1, .ref a1, .int (nI 0)])), (a1, .inl (G.2.2.1 6, c1, .inr (.inr (.inr (.inr (f1)))))), (q1, .inl (G.2.2.1 6, 0, .inr (.inr (.inr (.inr (va_cpy f1 (fun _ => none) 0 0 (min c1 0)))))))]) (va_A [(h0, .inr (12, [.int m0, .ref a0, .int n9])), (h1, .inr (12, [.int m1, .ref a1, .int (nI 0)])), (a1, .inl (G.2.2.1 6, c1, .inr (.inr (.inr (.inr (f1))))))] sz)) (va_A [(h0, .inr (12, [.int m0, .ref a0, .int n9])), (h1, .inr (12, [.int m1, .ref a1, .int (nI 0)])), (a1, .inl (G.2.2.1 6, c1, .inr (.inr (.inr (.inr (f1))))))] sz)) 1 0 (va_A [(h0, .inr (12, [.int m0, .ref a0, .int n9])), (h1, .inr (12, [.int m1, .ref a1, .int (nI 0)])), (a1, .inl (G.2.2.1 6, c1, .inr (.inr (.inr (.inr (f1))))))] sz) := by
  refine zMetF (cc := cJ2_addAll) (maxL := 6) (ret := (some .boolean)) (by decide +kernel) rfl ?_
  intro p e s m args below meth c s₁ B hml hv
  obtain ⟨rfl, hsz, hP, hK, hST, hD0, hE⟩ := hv
  have hx := B.exec
  have hb := B.bytes
  have hr := B.returns
  have hts := atoms_spec (ws := ws_ yJ2_addAll cJ2_addAll 6 (some .boolean)) B.pre
  have hts : ∀ w ∈ lw_all, w.before _ s = true := fun w h => hts w (List.mem_cons_of_mem _ h)
  have hown : s.vm.findClass RJ2 = some m.cls := findClass_of_methodNamed B.named
  have hlocks := B.notSynchronized
  subst hsz
  have hD := hD0.self (sz := s.heap.size)
  generalize hAe : va_A [(h0, .inr (12, [.int m0, .ref a0, .int n9])), (h1, .inr (12, [.int m1, .ref a1, .int (nI 0)])), (a1, .inl (G.2.2.1 6, c1, .inr (.inr (.inr (.inr (f1))))))] s.heap.size = A at hD hST hE ⊢
  have hA : ∀ q : Nat, s.heap.size ≤ q → A q := fun q h => by rw [← hAe]; exact Or.inr h
  have hS : va_S A s.heap s.heap [] := va_S.rf
  have hP : va_P G.1 zcl [(h0, .inr (12, [.int m0, .ref a0, .int n9])), (h1, .inr (12, [.int m1, .ref a1, .int (nI 0)])), (a1, .inl (G.2.2.1 6, c1, .inr (.inr (.inr (.inr (f1))))))] s.heap := hP
  have hl := lv_entry ([.ref h0, .ref h1]) (n := 6) (Nat.le_of_ble_eq_true rfl)
  rw [lg_entry_eq]
  generalize (lg_sl ([.ref h0, .ref h1]) ++ List.replicate (6 - (lg_sl ([.ref h0, .ref h1])).length) Slot.unset).toArray = ls at hl ⊢
  have hl : lv_has ls 6 [(0, .ref h0), (1, .ref h1)] := hl
  refine lv_aload_n hx hb (show decode cJ2_addAll 0 = .ok (.aload_n 1, 1) by decide +kernel) rfl (lv_at hl 1 rfl) ?_
  have hPc := hP.sub (ws' := [(h1, .inr (12, [.int m1, .ref a1, .int (nI 0)])), (a1, .inl (G.2.2.1 6, c1, .inr (.inr (.inr (.inr (f1))))))]) [1, 2] rfl
  have hDc := hD.sub (ws' := [(h1, .inr (12, [.int m1, .ref a1, .int (nI 0)])), (a1, .inl (G.2.2.1 6, c1, .inr (.inr (.inr (.inr (f1))))))]) [1, 2] (by decide) rfl
  have hFc := va_free (wc := [(h1, .inr (12, [.int m1, .ref a1, .int (nI 0)])), (a1, .inl (G.2.2.1 6, c1, .inr (.inr (.inr (.inr (f1))))))]) hD hS hA [1, 2] rfl
  refine va_callFr (va_runF (x := ⟨"java/util/Collection", "toArray", "()[Ljava/lang/Object;"⟩) (C := RJ2) (hK.1.1 12 _ rfl).2 (As := []) (rest := []) ⟨hx, hb, hml, hown, hts⟩ (rJ2_toArray_X10 l G (d + 0) s.heap.size (h1) (a1) (m1) (0) (c1) (f1) (mi) (by omega) hc) (va_cwF (x := ⟨"java/util/Collection", "toArray", "()[Ljava/lang/Object;"⟩) (C := RJ2) 0 hts (lw_app (lw_in4 q1671 q1675 q1677 q146) (lw_meth q1679)) rfl rfl rfl (hK.2.2 RJ2 ⟨"java/util/Collection", "toArray", "()[Ljava/lang/Object;"⟩ _ ⟨by decide, by decide⟩ q1673 q1672 q1678 q1676 q1674) (by decide +kernel) ⟨(rroom (d := d + 3) (mc := 1) (ms := 0) (mc' := 1) (ms' := 0) (mL := 1) (by decide)).1, by first | exact (rroom (d := d + 3) (mc := 1) (ms := 0) (mc' := 1) (ms' := 0) (mL := 1) (by decide)).2⟩) ⟨rxblind rEl_st, va_recv hK.1 hPc (ci := 12) (q0 := 0) rfl rfl, rpx rEl_st hE hK hST hS hPc hDc hFc [.ref h1]⟩ rfl rfl hl.1 rfl (lv_room (Nat.le_of_ble_eq_true rfl)) (show decode cJ2_addAll 1 = .ok (.invokeinterface 42 1, 5) by decide +kernel) ⟨by show _ ≤ 1; first | decide | omega, by show _ ≤ 0; first | decide | omega⟩) hS (fun q _ h => hFc q h) hFc (fun u ra_ t H1 locs ht hvm hw hB hz1 hk1 hS => ?_)
  obtain ⟨q1, rfl⟩ : ∃ z, z = u := ⟨_, rfl⟩
  obtain ⟨hra_, hP1, hD1⟩ := hB
  rw [ht] at hP1
  obtain ⟨hP, hD⟩ := va_join (wr := [(h0, .inr (12, [.int m0, .ref a0, .int n9]))]) (w1 := [(h1, .inr (12, [.int m1, .ref a1, .int (nI 0)])), (a1, .inl (G.2.2.1 6, c1, .inr (.inr (.inr (.inr (f1)))))), (q1, .inl (G.2.2.1 6, 0, .inr (.inr (.inr (.inr (va_cpy f1 (fun _ => none) 0 0 (min c1 0)))))))]) hP hD [1, 2] [0] rfl rfl (by decide) (by decide) hk1 hFc hP1 hD1
  generalize H1 = H at hP hS ⊢
  have hP : va_P G.1 zcl [(h0, .inr (12, [.int m0, .ref a0, .int n9])), (h1, .inr (12, [.int m1, .ref a1, .int (nI 0)])), (a1, .inl (G.2.2.1 6, c1, .inr (.inr (.inr (.inr (f1)))))), (q1, .inl (G.2.2.1 6, 0, .inr (.inr (.inr (.inr (va_cpy f1 (fun _ => none) 0 0 (min c1 0)))))))] H := hP
  have hD : va_D A [(h0, .inr (12, [.int m0, .ref a0, .int n9])), (h1, .inr (12, [.int m1, .ref a1, .int (nI 0)])), (a1, .inl (G.2.2.1 6, c1, .inr (.inr (.inr (.inr (f1)))))), (q1, .inl (G.2.2.1 6, 0, .inr (.inr (.inr (.inr (va_cpy f1 (fun _ => none) 0 0 (min c1 0)))))))] := hD
  have hra_ : ra_ = q1 := hra_
  rw [hra_]
  refine lv_astore_n hx hb (show decode cJ2_addAll 6 = .ok (.astore_n 2, 1) by decide +kernel) rfl hl (by decide) rfl (fun ls hl => ?_)
  have hl : lv_has ls 6 [(2, .ref q1), (0, .ref h0), (1, .ref h1)] := hl
  refine lv_aload_n hx hb (show decode cJ2_addAll 7 = .ok (.aload_n 0, 1) by decide +kernel) rfl (lv_at hl 1 rfl) ?_
  refine lv_dup hx hb (show decode cJ2_addAll 8 = .ok (.dup, 1) by decide +kernel) rfl ?_
  refine va_get (D := G.1) (ci := 12) (v := .int m0) (C := RJ2) (T := TJ2) (N := 3) hx hb hts in_J2 hown hK.1 hP 0 rfl rfl 0 (by decide) (hts _ q422) (u_same (hts _ q421)) rfl (show decode cJ2_addAll 9 = .ok (.getfield 63, 3) by decide +kernel) ?_
  refine lv_iconst (v := 1) hx hb (show decode cJ2_addAll 12 = .ok (.iconst 1, 1) by decide +kernel) (by decide) ?_
  refine lv_iadd hx hb (show decode cJ2_addAll 13 = .ok (.iadd, 1) by decide +kernel) ?_
  refine va_put (D := G.1) (ci := 12) (v := .int (m0 + 1)) (ty := .int) (C := RJ2) (T := TJ2) (N := 3) hx hb hts in_J2 tyJ2 tyJ2_ok nmJ2 hown hK.1 hP hD hS 0 rfl rfl 0 (by decide) (hts _ q422) (u_same (hts _ q421)) rfl (by decide +kernel) rfl rfl (Nat.le_of_ble_eq_true rfl) (show decode cJ2_addAll 14 = .ok (.putfield 63, 3) by decide +kernel) (fun H locs hP hD hS => ?_)
  have hP : va_P G.1 zcl [(h0, .inr (12, [.int (m0 + 1), .ref a0, .int n9])), (h1, .inr (12, [.int m1, .ref a1, .int (nI 0)])), (a1, .inl (G.2.2.1 6, c1, .inr (.inr (.inr (.inr (f1)))))), (q1, .inl (G.2.2.1 6, 0, .inr (.inr (.inr (.inr (va_cpy f1 (fun _ => none) 0 0 (min c1 0)))))))] H := hP
  have hD : va_D A [(h0, .inr (12, [.int (m0 + 1), .ref a0, .int n9])), (h1, .inr (12, [.int m1, .ref a1, .int (nI 0)])), (a1, .inl (G.2.2.1 6, c1, .inr (.inr (.inr (.inr (f1)))))), (q1, .inl (G.2.2.1 6, 0, .inr (.inr (.inr (.inr (va_cpy f1 (fun _ => none) 0 0 (min c1 0)))))))] := hD
  refine lv_aload_n hx hb (show decode cJ2_addAll 17 = .ok (.aload_n 2, 1) by decide +kernel) rfl (lv_at hl 0 rfl) ?_
  refine va_alen (v := nI 0) hx hb hK.1 hP 3 6 rfl rfl rfl (show decode cJ2_addAll 18 = .ok (.arraylength, 1) by decide +kernel) ?_
  refine lv_istore_n hx hb (show decode cJ2_addAll 19 = .ok (.istore_n 3, 1) by decide +kernel) rfl hl (by decide) rfl (fun ls hl => ?_)
  have hl : lv_has ls 6 [(3, .int (nI 0)), (2, .ref q1), (0, .ref h0), (1, .ref h1)] := hl
  refine lv_iload_n hx hb (show decode cJ2_addAll 20 = .ok (.iload_n 3, 1) by decide +kernel) rfl (lv_at hl 0 rfl) ?_
  refine lv_if_ne (tgt := 26) hx hb (show decode cJ2_addAll 21 = .ok (.ifCond .ne 5, 3) by decide +kernel) (by decide) (fun cnd_ => absurd rfl cnd_) (fun cnd_ => ?_)
  refine lv_iconst (v := 0) hx hb (show decode cJ2_addAll 24 = .ok (.iconst 0, 1) by decide +kernel) (by decide) ?_
  have hP9 := hP.sub (ws' := [(h0, .inr (12, [.int (m0 + 1), .ref a0, .int n9])), (h1, .inr (12, [.int m1, .ref a1, .int (nI 0)])), (a1, .inl (G.2.2.1 6, c1, .inr (.inr (.inr (.inr (f1)))))), (q1, .inl (G.2.2.1 6, 0, .inr (.inr (.inr (.inr (va_cpy f1 (fun _ => none) 0 0 (min c1 0)))))))]) [0, 1, 2, 3] rfl
  have hD9 := hD.sub (ws' := [(h0, .inr (12, [.int (m0 + 1), .ref a0, .int n9])), (h1, .inr (12, [.int m1, .ref a1, .int (nI 0)])), (a1, .inl (G.2.2.1 6, c1, .inr (.inr (.inr (.inr (f1)))))), (q1, .inl (G.2.2.1 6, 0, .inr (.inr (.inr (.inr (va_cpy f1 (fun _ => none) 0 0 (min c1 0)))))))]) [0, 1, 2, 3] (by decide) rfl
  refine W.widen (k := 1) (n := 0) (by first | decide | omega) (by first | decide | omega) ?_
  exact W.zret (v := 0) hx hb hr rfl (fun t ht hW => ⟨⟨0, q1, rfl, rfl, by rw [ht]; exact hP9, hD9⟩, hS.F ht⟩) hS.2.2 (show decode cJ2_addAll 25 = .ok (.ireturn, 1) by decide +kernel)

set_option maxHeartbeats 4000000 in
set_option maxRecDepth 100000 in
theorem rJ2_addAll_eX11 (l : Launch) (G : zG) (d sz : Nat) (h0 : Nat) (a0 : Nat) (m0 : Int32) (n9 : Int32) (h1 : Nat) (a1 : Nat) (m1 : Int32) (c1 : Nat) (f1 : Nat → Option Nat) (mi : Nat) (hc : c1 < 2 ^ 31) : Met l yJ2_addAll (ws_ yJ2_addAll cJ2_addAll 6 (some .boolean)) (eRoom (d + 4) 1 0) (rPx G [.ref h0, .ref h1] [(h0, .inr (12, [.int m0, .ref a0, .int n9])), (h1, .inr (12, [.int m1, .ref a1, .int (nI 0)])), (a1, .inl (G.2.2.1 6, c1, .inr (.inr (.inr (.inr (f1))))))] sz (rEl G f1 c1 11 mi)) (va_Qi (fun (r : Int32) _ => r = 0) (rB G (fun q1 : Nat => [(h0, .inr (12, [.int (m0 + 1), .ref a0, .int n9])), (h1, .inr (12, [.int m1, .ref a1, .int (nI 0)])), (a1, .inl (G.2.2.1 6, c1, .inr (.inr (.inr (.inr (f1)))))), (q1, .inl (G.2.2.1 6, 0, .inr (.inr (.inr (.inr (va_cpy f1 (fun _ => none) 0 0 (min c1 0)))))))]) (va_A [(h0, .inr (12, [.int m0, .ref a0, .int n9])), (h1, .inr (12, [.int m1, .ref a1, .int (nI 0)])), (a1, .inl (G.2.2.1 6, c1, .inr (.inr (.inr (.inr (f1))))))] sz)) (va_A [(h0, .inr (12, [.int m0, .ref a0, .int n9])), (h1, .inr (12, [.int m1, .ref a1, .int (nI 0)])), (a1, .inl (G.2.2.1 6, c1, .inr (.inr (.inr (.inr (f1))))))] sz)) 1 0 (va_A [(h0, .inr (12, [.int m0, .ref a0, .int n9])), (h1, .inr (12, [.int m1, .ref a1, .int (nI 0)])), (a1, .inl (G.2.2.1 6, c1, .inr (.inr (.inr (.inr (f1))))))] sz) := by
  refine zMetF (cc := cJ2_addAll) (maxL := 6) (ret := (some .boolean)) (by decide +kernel) rfl ?_
  intro p e s m args below meth c s₁ B hml hv
  obtain ⟨rfl, hsz, hP, hK, hST, hD0, hE⟩ := hv
  have hx := B.exec
  have hb := B.bytes
  have hr := B.returns
  have hts := atoms_spec (ws := ws_ yJ2_addAll cJ2_addAll 6 (some .boolean)) B.pre
  have hts : ∀ w ∈ lw_all, w.before _ s = true := fun w h => hts w (List.mem_cons_of_mem _ h)
  have hown : s.vm.findClass RJ2 = some m.cls := findClass_of_methodNamed B.named
  have hlocks := B.notSynchronized
  subst hsz
  have hD := hD0.self (sz := s.heap.size)
  generalize hAe : va_A [(h0, .inr (12, [.int m0, .ref a0, .int n9])), (h1, .inr (12, [.int m1, .ref a1, .int (nI 0)])), (a1, .inl (G.2.2.1 6, c1, .inr (.inr (.inr (.inr (f1))))))] s.heap.size = A at hD hST hE ⊢
  have hA : ∀ q : Nat, s.heap.size ≤ q → A q := fun q h => by rw [← hAe]; exact Or.inr h
  have hS : va_S A s.heap s.heap [] := va_S.rf
  have hP : va_P G.1 zcl [(h0, .inr (12, [.int m0, .ref a0, .int n9])), (h1, .inr (12, [.int m1, .ref a1, .int (nI 0)])), (a1, .inl (G.2.2.1 6, c1, .inr (.inr (.inr (.inr (f1))))))] s.heap := hP
  have hl := lv_entry ([.ref h0, .ref h1]) (n := 6) (Nat.le_of_ble_eq_true rfl)
  rw [lg_entry_eq]
  generalize (lg_sl ([.ref h0, .ref h1]) ++ List.replicate (6 - (lg_sl ([.ref h0, .ref h1])).length) Slot.unset).toArray = ls at hl ⊢
  have hl : lv_has ls 6 [(0, .ref h0), (1, .ref h1)] := hl
  refine lv_aload_n hx hb (show decode cJ2_addAll 0 = .ok (.aload_n 1, 1) by decide +kernel) rfl (lv_at hl 1 rfl) ?_
  have hPc := hP.sub (ws' := [(h1, .inr (12, [.int m1, .ref a1, .int (nI 0)])), (a1, .inl (G.2.2.1 6, c1, .inr (.inr (.inr (.inr (f1))))))]) [1, 2] rfl
  have hDc := hD.sub (ws' := [(h1, .inr (12, [.int m1, .ref a1, .int (nI 0)])), (a1, .inl (G.2.2.1 6, c1, .inr (.inr (.inr (.inr (f1))))))]) [1, 2] (by decide) rfl
  have hFc := va_free (wc := [(h1, .inr (12, [.int m1, .ref a1, .int (nI 0)])), (a1, .inl (G.2.2.1 6, c1, .inr (.inr (.inr (.inr (f1))))))]) hD hS hA [1, 2] rfl
  refine va_callFr (va_runF (x := ⟨"java/util/Collection", "toArray", "()[Ljava/lang/Object;"⟩) (C := RJ2) (hK.1.1 12 _ rfl).2 (As := []) (rest := []) ⟨hx, hb, hml, hown, hts⟩ (rJ2_toArray_X11 l G (d + 0) s.heap.size (h1) (a1) (m1) (0) (c1) (f1) (mi) (by omega) hc) (va_cwF (x := ⟨"java/util/Collection", "toArray", "()[Ljava/lang/Object;"⟩) (C := RJ2) 0 hts (lw_app (lw_in4 q1671 q1675 q1677 q146) (lw_meth q1679)) rfl rfl rfl (hK.2.2 RJ2 ⟨"java/util/Collection", "toArray", "()[Ljava/lang/Object;"⟩ _ ⟨by decide, by decide⟩ q1673 q1672 q1678 q1676 q1674) (by decide +kernel) ⟨(rroom (d := d + 3) (mc := 1) (ms := 0) (mc' := 1) (ms' := 0) (mL := 1) (by decide)).1, by first | exact (rroom (d := d + 3) (mc := 1) (ms := 0) (mc' := 1) (ms' := 0) (mL := 1) (by decide)).2⟩) ⟨rxblind rEl_st, va_recv hK.1 hPc (ci := 12) (q0 := 0) rfl rfl, rpx rEl_st hE hK hST hS hPc hDc hFc [.ref h1]⟩ rfl rfl hl.1 rfl (lv_room (Nat.le_of_ble_eq_true rfl)) (show decode cJ2_addAll 1 = .ok (.invokeinterface 42 1, 5) by decide +kernel) ⟨by show _ ≤ 1; first | decide | omega, by show _ ≤ 0; first | decide | omega⟩) hS (fun q _ h => hFc q h) hFc (fun u ra_ t H1 locs ht hvm hw hB hz1 hk1 hS => ?_)
  obtain ⟨q1, rfl⟩ : ∃ z, z = u := ⟨_, rfl⟩
  obtain ⟨hra_, hP1, hD1⟩ := hB
  rw [ht] at hP1
  obtain ⟨hP, hD⟩ := va_join (wr := [(h0, .inr (12, [.int m0, .ref a0, .int n9]))]) (w1 := [(h1, .inr (12, [.int m1, .ref a1, .int (nI 0)])), (a1, .inl (G.2.2.1 6, c1, .inr (.inr (.inr (.inr (f1)))))), (q1, .inl (G.2.2.1 6, 0, .inr (.inr (.inr (.inr (va_cpy f1 (fun _ => none) 0 0 (min c1 0)))))))]) hP hD [1, 2] [0] rfl rfl (by decide) (by decide) hk1 hFc hP1 hD1
  generalize H1 = H at hP hS ⊢
  have hP : va_P G.1 zcl [(h0, .inr (12, [.int m0, .ref a0, .int n9])), (h1, .inr (12, [.int m1, .ref a1, .int (nI 0)])), (a1, .inl (G.2.2.1 6, c1, .inr (.inr (.inr (.inr (f1)))))), (q1, .inl (G.2.2.1 6, 0, .inr (.inr (.inr (.inr (va_cpy f1 (fun _ => none) 0 0 (min c1 0)))))))] H := hP
  have hD : va_D A [(h0, .inr (12, [.int m0, .ref a0, .int n9])), (h1, .inr (12, [.int m1, .ref a1, .int (nI 0)])), (a1, .inl (G.2.2.1 6, c1, .inr (.inr (.inr (.inr (f1)))))), (q1, .inl (G.2.2.1 6, 0, .inr (.inr (.inr (.inr (va_cpy f1 (fun _ => none) 0 0 (min c1 0)))))))] := hD
  have hra_ : ra_ = q1 := hra_
  rw [hra_]
  refine lv_astore_n hx hb (show decode cJ2_addAll 6 = .ok (.astore_n 2, 1) by decide +kernel) rfl hl (by decide) rfl (fun ls hl => ?_)
  have hl : lv_has ls 6 [(2, .ref q1), (0, .ref h0), (1, .ref h1)] := hl
  refine lv_aload_n hx hb (show decode cJ2_addAll 7 = .ok (.aload_n 0, 1) by decide +kernel) rfl (lv_at hl 1 rfl) ?_
  refine lv_dup hx hb (show decode cJ2_addAll 8 = .ok (.dup, 1) by decide +kernel) rfl ?_
  refine va_get (D := G.1) (ci := 12) (v := .int m0) (C := RJ2) (T := TJ2) (N := 3) hx hb hts in_J2 hown hK.1 hP 0 rfl rfl 0 (by decide) (hts _ q422) (u_same (hts _ q421)) rfl (show decode cJ2_addAll 9 = .ok (.getfield 63, 3) by decide +kernel) ?_
  refine lv_iconst (v := 1) hx hb (show decode cJ2_addAll 12 = .ok (.iconst 1, 1) by decide +kernel) (by decide) ?_
  refine lv_iadd hx hb (show decode cJ2_addAll 13 = .ok (.iadd, 1) by decide +kernel) ?_
  refine va_put (D := G.1) (ci := 12) (v := .int (m0 + 1)) (ty := .int) (C := RJ2) (T := TJ2) (N := 3) hx hb hts in_J2 tyJ2 tyJ2_ok nmJ2 hown hK.1 hP hD hS 0 rfl rfl 0 (by decide) (hts _ q422) (u_same (hts _ q421)) rfl (by decide +kernel) rfl rfl (Nat.le_of_ble_eq_true rfl) (show decode cJ2_addAll 14 = .ok (.putfield 63, 3) by decide +kernel) (fun H locs hP hD hS => ?_)
  have hP : va_P G.1 zcl [(h0, .inr (12, [.int (m0 + 1), .ref a0, .int n9])), (h1, .inr (12, [.int m1, .ref a1, .int (nI 0)])), (a1, .inl (G.2.2.1 6, c1, .inr (.inr (.inr (.inr (f1)))))), (q1, .inl (G.2.2.1 6, 0, .inr (.inr (.inr (.inr (va_cpy f1 (fun _ => none) 0 0 (min c1 0)))))))] H := hP
  have hD : va_D A [(h0, .inr (12, [.int (m0 + 1), .ref a0, .int n9])), (h1, .inr (12, [.int m1, .ref a1, .int (nI 0)])), (a1, .inl (G.2.2.1 6, c1, .inr (.inr (.inr (.inr (f1)))))), (q1, .inl (G.2.2.1 6, 0, .inr (.inr (.inr (.inr (va_cpy f1 (fun _ => none) 0 0 (min c1 0)))))))] := hD
  refine lv_aload_n hx hb (show decode cJ2_addAll 17 = .ok (.aload_n 2, 1) by decide +kernel) rfl (lv_at hl 0 rfl) ?_
  refine va_alen (v := nI 0) hx hb hK.1 hP 3 6 rfl rfl rfl (show decode cJ2_addAll 18 = .ok (.arraylength, 1) by decide +kernel) ?_
  refine lv_istore_n hx hb (show decode cJ2_addAll 19 = .ok (.istore_n 3, 1) by decide +kernel) rfl hl (by decide) rfl (fun ls hl => ?_)
  have hl : lv_has ls 6 [(3, .int (nI 0)), (2, .ref q1), (0, .ref h0), (1, .ref h1)] := hl
  refine lv_iload_n hx hb (show decode cJ2_addAll 20 = .ok (.iload_n 3, 1) by decide +kernel) rfl (lv_at hl 0 rfl) ?_
  refine lv_if_ne (tgt := 26) hx hb (show decode cJ2_addAll 21 = .ok (.ifCond .ne 5, 3) by decide +kernel) (by decide) (fun cnd_ => absurd rfl cnd_) (fun cnd_ => ?_)
  refine lv_iconst (v := 0) hx hb (show decode cJ2_addAll 24 = .ok (.iconst 0, 1) by decide +kernel) (by decide) ?_
  have hP9 := hP.sub (ws' := [(h0, .inr (12, [.int (m0 + 1), .ref a0, .int n9])), (h1, .inr (12, [.int m1, .ref a1, .int (nI 0)])), (a1, .inl (G.2.2.1 6, c1, .inr (.inr (.inr (.inr (f1)))))), (q1, .inl (G.2.2.1 6, 0, .inr (.inr (.inr (.inr (va_cpy f1 (fun _ => none) 0 0 (min c1 0)))))))]) [0, 1, 2, 3] rfl
  have hD9 := hD.sub (ws' := [(h0, .inr (12, [.int (m0 + 1), .ref a0, .int n9])), (h1, .inr (12, [.int m1, .ref a1, .int (nI 0)])), (a1, .inl (G.2.2.1 6, c1, .inr (.inr (.inr (.inr (f1)))))), (q1, .inl (G.2.2.1 6, 0, .inr (.inr (.inr (.inr (va_cpy f1 (fun _ => none) 0 0 (min c1 0)))))))]) [0, 1, 2, 3] (by decide) rfl
  refine W.widen (k := 1) (n := 0) (by first | decide | omega) (by first | decide | omega) ?_
  exact W.zret (v := 0) hx hb hr rfl (fun t ht hW => ⟨⟨0, q1, rfl, rfl, by rw [ht]; exact hP9, hD9⟩, hS.F ht⟩) hS.2.2 (show decode cJ2_addAll 25 = .ok (.ireturn, 1) by decide +kernel)

set_option maxHeartbeats 4000000 in
set_option maxRecDepth 100000 in
theorem rJ2_addAll_s (l : Launch) (G : zG) (d sz : Nat) (h0 : Nat) (a0 : Nat) (m0 : Int32) (n9 : Int32) (h1 : Nat) (m1 : Int32) (mi : Nat) : Met l yJ2_addAll (ws_ yJ2_addAll cJ2_addAll 6 (some .boolean)) (eRoom (d + 4) 1 0) (rPx G [.ref h0, .ref h1] [(h0, .inr (12, [.int m0, .ref a0, .int n9])), (h1, .inr (12, [.int m1, .ref (G.2.1 95 0), .int 0]))] sz (rEm G (G.2.1 95 0) mi)) (va_Qi (fun (r : Int32) _ => r = 0) (rB G (fun q1 : Nat => [(h0, .inr (12, [.int (m0 + 1), .ref a0, .int n9])), (h1, .inr (12, [.int m1, .ref (G.2.1 95 0), .int 0])), (q1, .inl (G.2.2.1 6, 0, .inr (.inr (.inr (.inr (va_cpy (fun _ => none) (fun _ => none) 0 0 0))))))]) (va_A [(h0, .inr (12, [.int m0, .ref a0, .int n9])), (h1, .inr (12, [.int m1, .ref (G.2.1 95 0), .int 0]))] sz)) (va_A [(h0, .inr (12, [.int m0, .ref a0, .int n9])), (h1, .inr (12, [.int m1, .ref (G.2.1 95 0), .int 0]))] sz)) 1 0 (va_A [(h0, .inr (12, [.int m0, .ref a0, .int n9])), (h1, .inr (12, [.int m1, .ref (G.2.1 95 0), .int 0]))] sz) := by
  refine zMetF (cc := cJ2_addAll) (maxL := 6) (ret := (some .boolean)) (by decide +kernel) rfl ?_
  intro p e s m args below meth c s₁ B hml hv
  obtain ⟨rfl, hsz, hP, hK, hST, hD0, hE⟩ := hv
  have hx := B.exec
  have hb := B.bytes
  have hr := B.returns
  have hts := atoms_spec (ws := ws_ yJ2_addAll cJ2_addAll 6 (some .boolean)) B.pre
  have hts : ∀ w ∈ lw_all, w.before _ s = true := fun w h => hts w (List.mem_cons_of_mem _ h)
  have hown : s.vm.findClass RJ2 = some m.cls := findClass_of_methodNamed B.named
  have hlocks := B.notSynchronized
  subst hsz
  have hD := hD0.self (sz := s.heap.size)
  generalize hAe : va_A [(h0, .inr (12, [.int m0, .ref a0, .int n9])), (h1, .inr (12, [.int m1, .ref (G.2.1 95 0), .int 0]))] s.heap.size = A at hD hST hE ⊢
  have hA : ∀ q : Nat, s.heap.size ≤ q → A q := fun q h => by rw [← hAe]; exact Or.inr h
  have hS : va_S A s.heap s.heap [] := va_S.rf
  have hP : va_P G.1 zcl [(h0, .inr (12, [.int m0, .ref a0, .int n9])), (h1, .inr (12, [.int m1, .ref (G.2.1 95 0), .int 0]))] s.heap := hP
  have hl := lv_entry ([.ref h0, .ref h1]) (n := 6) (Nat.le_of_ble_eq_true rfl)
  rw [lg_entry_eq]
  generalize (lg_sl ([.ref h0, .ref h1]) ++ List.replicate (6 - (lg_sl ([.ref h0, .ref h1])).length) Slot.unset).toArray = ls at hl ⊢
  have hl : lv_has ls 6 [(0, .ref h0), (1, .ref h1)] := hl
  refine lv_aload_n hx hb (show decode cJ2_addAll 0 = .ok (.aload_n 1, 1) by decide +kernel) rfl (lv_at hl 1 rfl) ?_
  have hPc := hP.sub (ws' := [(h1, .inr (12, [.int m1, .ref (G.2.1 95 0), .int 0]))]) [1] rfl
  have hDc := hD.sub (ws' := [(h1, .inr (12, [.int m1, .ref (G.2.1 95 0), .int 0]))]) [1] (by decide) rfl
  have hFc := va_free (wc := [(h1, .inr (12, [.int m1, .ref (G.2.1 95 0), .int 0]))]) hD hS hA [1] rfl
  refine va_callFr (va_runF (x := ⟨"java/util/Collection", "toArray", "()[Ljava/lang/Object;"⟩) (C := RJ2) (hK.1.1 12 _ rfl).2 (As := []) (rest := []) ⟨hx, hb, hml, hown, hts⟩ (rJ2_toArray_s l G (d + 0) s.heap.size (h1) (m1) (mi) ) (va_cwF (x := ⟨"java/util/Collection", "toArray", "()[Ljava/lang/Object;"⟩) (C := RJ2) 0 hts (lw_app (lw_in4 q1671 q1675 q1677 q146) (lw_meth q1679)) rfl rfl rfl (hK.2.2 RJ2 ⟨"java/util/Collection", "toArray", "()[Ljava/lang/Object;"⟩ _ ⟨by decide, by decide⟩ q1673 q1672 q1678 q1676 q1674) (by decide +kernel) ⟨(rroom (d := d + 3) (mc := 1) (ms := 0) (mc' := 1) (ms' := 0) (mL := 1) (by decide)).1, by first | exact (rroom (d := d + 3) (mc := 1) (ms := 0) (mc' := 1) (ms' := 0) (mL := 1) (by decide)).2⟩) ⟨rxblind rEm_st, va_recv hK.1 hPc (ci := 12) (q0 := 0) rfl rfl, rpx rEm_st hE hK hST hS hPc hDc hFc [.ref h1]⟩ rfl rfl hl.1 rfl (lv_room (Nat.le_of_ble_eq_true rfl)) (show decode cJ2_addAll 1 = .ok (.invokeinterface 42 1, 5) by decide +kernel) ⟨by show _ ≤ 1; first | decide | omega, by show _ ≤ 0; first | decide | omega⟩) hS (fun q _ h => hFc q h) hFc (fun u ra_ t H1 locs ht hvm hw hB hz1 hk1 hS => ?_)
  obtain ⟨q1, rfl⟩ : ∃ z, z = u := ⟨_, rfl⟩
  obtain ⟨hra_, hP1, hD1⟩ := hB
  rw [ht] at hP1
  obtain ⟨hP, hD⟩ := va_join (wr := [(h0, .inr (12, [.int m0, .ref a0, .int n9]))]) (w1 := [(h1, .inr (12, [.int m1, .ref (G.2.1 95 0), .int 0])), (q1, .inl (G.2.2.1 6, 0, .inr (.inr (.inr (.inr (va_cpy (fun _ => none) (fun _ => none) 0 0 0))))))]) hP hD [1] [0] rfl rfl (by decide) (by decide) hk1 hFc hP1 hD1
  generalize H1 = H at hP hS ⊢
  have hP : va_P G.1 zcl [(h0, .inr (12, [.int m0, .ref a0, .int n9])), (h1, .inr (12, [.int m1, .ref (G.2.1 95 0), .int 0])), (q1, .inl (G.2.2.1 6, 0, .inr (.inr (.inr (.inr (va_cpy (fun _ => none) (fun _ => none) 0 0 0))))))] H := hP
  have hD : va_D A [(h0, .inr (12, [.int m0, .ref a0, .int n9])), (h1, .inr (12, [.int m1, .ref (G.2.1 95 0), .int 0])), (q1, .inl (G.2.2.1 6, 0, .inr (.inr (.inr (.inr (va_cpy (fun _ => none) (fun _ => none) 0 0 0))))))] := hD
  have hra_ : ra_ = q1 := hra_
  rw [hra_]
  refine lv_astore_n hx hb (show decode cJ2_addAll 6 = .ok (.astore_n 2, 1) by decide +kernel) rfl hl (by decide) rfl (fun ls hl => ?_)
  have hl : lv_has ls 6 [(2, .ref q1), (0, .ref h0), (1, .ref h1)] := hl
  refine lv_aload_n hx hb (show decode cJ2_addAll 7 = .ok (.aload_n 0, 1) by decide +kernel) rfl (lv_at hl 1 rfl) ?_
  refine lv_dup hx hb (show decode cJ2_addAll 8 = .ok (.dup, 1) by decide +kernel) rfl ?_
  refine va_get (D := G.1) (ci := 12) (v := .int m0) (C := RJ2) (T := TJ2) (N := 3) hx hb hts in_J2 hown hK.1 hP 0 rfl rfl 0 (by decide) (hts _ q422) (u_same (hts _ q421)) rfl (show decode cJ2_addAll 9 = .ok (.getfield 63, 3) by decide +kernel) ?_
  refine lv_iconst (v := 1) hx hb (show decode cJ2_addAll 12 = .ok (.iconst 1, 1) by decide +kernel) (by decide) ?_
  refine lv_iadd hx hb (show decode cJ2_addAll 13 = .ok (.iadd, 1) by decide +kernel) ?_
  refine va_put (D := G.1) (ci := 12) (v := .int (m0 + 1)) (ty := .int) (C := RJ2) (T := TJ2) (N := 3) hx hb hts in_J2 tyJ2 tyJ2_ok nmJ2 hown hK.1 hP hD hS 0 rfl rfl 0 (by decide) (hts _ q422) (u_same (hts _ q421)) rfl (by decide +kernel) rfl rfl (Nat.le_of_ble_eq_true rfl) (show decode cJ2_addAll 14 = .ok (.putfield 63, 3) by decide +kernel) (fun H locs hP hD hS => ?_)
  have hP : va_P G.1 zcl [(h0, .inr (12, [.int (m0 + 1), .ref a0, .int n9])), (h1, .inr (12, [.int m1, .ref (G.2.1 95 0), .int 0])), (q1, .inl (G.2.2.1 6, 0, .inr (.inr (.inr (.inr (va_cpy (fun _ => none) (fun _ => none) 0 0 0))))))] H := hP
  have hD : va_D A [(h0, .inr (12, [.int (m0 + 1), .ref a0, .int n9])), (h1, .inr (12, [.int m1, .ref (G.2.1 95 0), .int 0])), (q1, .inl (G.2.2.1 6, 0, .inr (.inr (.inr (.inr (va_cpy (fun _ => none) (fun _ => none) 0 0 0))))))] := hD
  refine lv_aload_n hx hb (show decode cJ2_addAll 17 = .ok (.aload_n 2, 1) by decide +kernel) rfl (lv_at hl 0 rfl) ?_
  refine va_alen (v := nI 0) hx hb hK.1 hP 2 6 rfl rfl rfl (show decode cJ2_addAll 18 = .ok (.arraylength, 1) by decide +kernel) ?_
  refine lv_istore_n hx hb (show decode cJ2_addAll 19 = .ok (.istore_n 3, 1) by decide +kernel) rfl hl (by decide) rfl (fun ls hl => ?_)
  have hl : lv_has ls 6 [(3, .int (nI 0)), (2, .ref q1), (0, .ref h0), (1, .ref h1)] := hl
  refine lv_iload_n hx hb (show decode cJ2_addAll 20 = .ok (.iload_n 3, 1) by decide +kernel) rfl (lv_at hl 0 rfl) ?_
  refine lv_if_ne (tgt := 26) hx hb (show decode cJ2_addAll 21 = .ok (.ifCond .ne 5, 3) by decide +kernel) (by decide) (fun cnd_ => absurd rfl cnd_) (fun cnd_ => ?_)
  refine lv_iconst (v := 0) hx hb (show decode cJ2_addAll 24 = .ok (.iconst 0, 1) by decide +kernel) (by decide) ?_
  have hP9 := hP.sub (ws' := [(h0, .inr (12, [.int (m0 + 1), .ref a0, .int n9])), (h1, .inr (12, [.int m1, .ref (G.2.1 95 0), .int 0])), (q1, .inl (G.2.2.1 6, 0, .inr (.inr (.inr (.inr (va_cpy (fun _ => none) (fun _ => none) 0 0 0))))))]) [0, 1, 2] rfl
  have hD9 := hD.sub (ws' := [(h0, .inr (12, [.int (m0 + 1), .ref a0, .int n9])), (h1, .inr (12, [.int m1, .ref (G.2.1 95 0), .int 0])), (q1, .inl (G.2.2.1 6, 0, .inr (.inr (.inr (.inr (va_cpy (fun _ => none) (fun _ => none) 0 0 0))))))]) [0, 1, 2] (by decide) rfl
  refine W.widen (k := 1) (n := 0) (by first | decide | omega) (by first | decide | omega) ?_
  exact W.zret (v := 0) hx hb hr rfl (fun t ht hW => ⟨⟨0, q1, rfl, rfl, by rw [ht]; exact hP9, hD9⟩, hS.F ht⟩) hS.2.2 (show decode cJ2_addAll 25 = .ok (.ireturn, 1) by decide +kernel)

set_option maxHeartbeats 4000000 in
set_option maxRecDepth 100000 in
theorem rJ2_addAll_w (l : Launch) (G : zG) (d sz : Nat) (h0 : Nat) (a0 : Nat) (m0 : Int32) (c0 : Nat) (f0 : Nat → Option Nat) (h1 : Nat) (a1 : Nat) (m1 : Int32) (n0 : Nat) (c1 : Nat) (f1 : Nat → Option Nat) (mi : Nat) (hn : 0 < n0) (hn0 : n0 ≤ c0) (hc0 : c0 ≤ 40000) (hn1 : n0 ≤ c1) (hc1 : c1 < 2 ^ 31) : Met l yJ2_addAll (ws_ yJ2_addAll cJ2_addAll 6 (some .boolean)) (eRoom (d + 4) 1 n0) (rPx G [.ref h0, .ref h1] [(h0, .inr (12, [.int m0, .ref a0, .int 0])), (a0, .inl (G.2.2.1 6, c0, .inr (.inr (.inr (.inr (f0)))))), (h1, .inr (12, [.int m1, .ref a1, .int (nI n0)])), (a1, .inl (G.2.2.1 6, c1, .inr (.inr (.inr (.inr (f1))))))] sz (rEl G f1 c1 10 mi)) (va_Qi (fun (r : Int32) _ => r = 1) (rB G (fun q1 : Nat => [(h0, .inr (12, [.int (m0 + 1), .ref a0, .int (nI n0)])), (a0, .inl (G.2.2.1 6, c0, .inr (.inr (.inr (.inr (va_cpy (va_cpy f1 (fun _ => none) 0 0 (min c1 n0)) f0 0 0 n0)))))), (h1, .inr (12, [.int m1, .ref a1, .int (nI n0)])), (a1, .inl (G.2.2.1 6, c1, .inr (.inr (.inr (.inr (f1)))))), (q1, .inl (G.2.2.1 6, n0, .inr (.inr (.inr (.inr (va_cpy f1 (fun _ => none) 0 0 (min c1 n0)))))))]) (va_A [(h0, .inr (12, [.int m0, .ref a0, .int 0])), (a0, .inl (G.2.2.1 6, c0, .inr (.inr (.inr (.inr (f0)))))), (h1, .inr (12, [.int m1, .ref a1, .int (nI n0)])), (a1, .inl (G.2.2.1 6, c1, .inr (.inr (.inr (.inr (f1))))))] sz)) (va_A [(h0, .inr (12, [.int m0, .ref a0, .int 0])), (a0, .inl (G.2.2.1 6, c0, .inr (.inr (.inr (.inr (f0)))))), (h1, .inr (12, [.int m1, .ref a1, .int (nI n0)])), (a1, .inl (G.2.2.1 6, c1, .inr (.inr (.inr (.inr (f1))))))] sz)) 1 n0 (va_A [(h0, .inr (12, [.int m0, .ref a0, .int 0])), (a0, .inl (G.2.2.1 6, c0, .inr (.inr (.inr (.inr (f0)))))), (h1, .inr (12, [.int m1, .ref a1, .int (nI n0)])), (a1, .inl (G.2.2.1 6, c1, .inr (.inr (.inr (.inr (f1))))))] sz) := by
  refine zMetF (cc := cJ2_addAll) (maxL := 6) (ret := (some .boolean)) (by decide +kernel) rfl ?_
  intro p e s m args below meth c s₁ B hml hv
  obtain ⟨rfl, hsz, hP, hK, hST, hD0, hE⟩ := hv
  have hx := B.exec
  have hb := B.bytes
  have hr := B.returns
  have hts := atoms_spec (ws := ws_ yJ2_addAll cJ2_addAll 6 (some .boolean)) B.pre
  have hts : ∀ w ∈ lw_all, w.before _ s = true := fun w h => hts w (List.mem_cons_of_mem _ h)
  have hown : s.vm.findClass RJ2 = some m.cls := findClass_of_methodNamed B.named
  have hlocks := B.notSynchronized
  subst hsz
  have hD := hD0.self (sz := s.heap.size)
  generalize hAe : va_A [(h0, .inr (12, [.int m0, .ref a0, .int 0])), (a0, .inl (G.2.2.1 6, c0, .inr (.inr (.inr (.inr (f0)))))), (h1, .inr (12, [.int m1, .ref a1, .int (nI n0)])), (a1, .inl (G.2.2.1 6, c1, .inr (.inr (.inr (.inr (f1))))))] s.heap.size = A at hD hST hE ⊢
  have hA : ∀ q : Nat, s.heap.size ≤ q → A q := fun q h => by rw [← hAe]; exact Or.inr h
  have hS : va_S A s.heap s.heap [] := va_S.rf
  have hP : va_P G.1 zcl [(h0, .inr (12, [.int m0, .ref a0, .int 0])), (a0, .inl (G.2.2.1 6, c0, .inr (.inr (.inr (.inr (f0)))))), (h1, .inr (12, [.int m1, .ref a1, .int (nI n0)])), (a1, .inl (G.2.2.1 6, c1, .inr (.inr (.inr (.inr (f1))))))] s.heap := hP
  have hl := lv_entry ([.ref h0, .ref h1]) (n := 6) (Nat.le_of_ble_eq_true rfl)
  rw [lg_entry_eq]
  generalize (lg_sl ([.ref h0, .ref h1]) ++ List.replicate (6 - (lg_sl ([.ref h0, .ref h1])).length) Slot.unset).toArray = ls at hl ⊢
  have hl : lv_has ls 6 [(0, .ref h0), (1, .ref h1)] := hl
  refine lv_aload_n hx hb (show decode cJ2_addAll 0 = .ok (.aload_n 1, 1) by decide +kernel) rfl (lv_at hl 1 rfl) ?_
  have hPc := hP.sub (ws' := [(h1, .inr (12, [.int m1, .ref a1, .int (nI n0)])), (a1, .inl (G.2.2.1 6, c1, .inr (.inr (.inr (.inr (f1))))))]) [2, 3] rfl
  have hDc := hD.sub (ws' := [(h1, .inr (12, [.int m1, .ref a1, .int (nI n0)])), (a1, .inl (G.2.2.1 6, c1, .inr (.inr (.inr (.inr (f1))))))]) [2, 3] (by decide) rfl
  have hFc := va_free (wc := [(h1, .inr (12, [.int m1, .ref a1, .int (nI n0)])), (a1, .inl (G.2.2.1 6, c1, .inr (.inr (.inr (.inr (f1))))))]) hD hS hA [2, 3] rfl
  refine va_callFr (va_runF (x := ⟨"java/util/Collection", "toArray", "()[Ljava/lang/Object;"⟩) (C := RJ2) (hK.1.1 12 _ rfl).2 (As := []) (rest := []) ⟨hx, hb, hml, hown, hts⟩ (rJ2_toArray_X10 l G (d + 0) s.heap.size (h1) (a1) (m1) (n0) (c1) (f1) (mi) (by omega) hc1) (va_cwF (x := ⟨"java/util/Collection", "toArray", "()[Ljava/lang/Object;"⟩) (C := RJ2) 0 hts (lw_app (lw_in4 q1671 q1675 q1677 q146) (lw_meth q1679)) rfl rfl rfl (hK.2.2 RJ2 ⟨"java/util/Collection", "toArray", "()[Ljava/lang/Object;"⟩ _ ⟨by decide, by decide⟩ q1673 q1672 q1678 q1676 q1674) (by decide +kernel) ⟨(rroom (d := d + 3) (mc := 1) (ms := n0) (mc' := 1) (ms' := n0) (mL := 1) (by decide)).1, by first | exact (rroom (d := d + 3) (mc := 1) (ms := n0) (mc' := 1) (ms' := n0) (mL := 1) (by decide)).2⟩) ⟨rxblind rEl_st, va_recv hK.1 hPc (ci := 12) (q0 := 0) rfl rfl, rpx rEl_st hE hK hST hS hPc hDc hFc [.ref h1]⟩ rfl rfl hl.1 rfl (lv_room (Nat.le_of_ble_eq_true rfl)) (show decode cJ2_addAll 1 = .ok (.invokeinterface 42 1, 5) by decide +kernel) ⟨by show _ ≤ 1; first | decide | omega, by show _ ≤ n0; first | decide | omega⟩) hS (fun q _ h => hFc q h) hFc (fun u ra_ t H1 locs ht hvm hw hB hz1 hk1 hS => ?_)
  obtain ⟨q1, rfl⟩ : ∃ z, z = u := ⟨_, rfl⟩
  obtain ⟨hra_, hP1, hD1⟩ := hB
  rw [ht] at hP1
  obtain ⟨hP, hD⟩ := va_join (wr := [(h0, .inr (12, [.int m0, .ref a0, .int 0])), (a0, .inl (G.2.2.1 6, c0, .inr (.inr (.inr (.inr (f0))))))]) (w1 := [(h1, .inr (12, [.int m1, .ref a1, .int (nI n0)])), (a1, .inl (G.2.2.1 6, c1, .inr (.inr (.inr (.inr (f1)))))), (q1, .inl (G.2.2.1 6, n0, .inr (.inr (.inr (.inr (va_cpy f1 (fun _ => none) 0 0 (min c1 n0)))))))]) hP hD [2, 3] [0, 1] rfl rfl (by decide) (by decide) hk1 hFc hP1 hD1
  generalize H1 = H at hP hS ⊢
  have hP : va_P G.1 zcl [(h0, .inr (12, [.int m0, .ref a0, .int 0])), (a0, .inl (G.2.2.1 6, c0, .inr (.inr (.inr (.inr (f0)))))), (h1, .inr (12, [.int m1, .ref a1, .int (nI n0)])), (a1, .inl (G.2.2.1 6, c1, .inr (.inr (.inr (.inr (f1)))))), (q1, .inl (G.2.2.1 6, n0, .inr (.inr (.inr (.inr (va_cpy f1 (fun _ => none) 0 0 (min c1 n0)))))))] H := hP
  have hD : va_D A [(h0, .inr (12, [.int m0, .ref a0, .int 0])), (a0, .inl (G.2.2.1 6, c0, .inr (.inr (.inr (.inr (f0)))))), (h1, .inr (12, [.int m1, .ref a1, .int (nI n0)])), (a1, .inl (G.2.2.1 6, c1, .inr (.inr (.inr (.inr (f1)))))), (q1, .inl (G.2.2.1 6, n0, .inr (.inr (.inr (.inr (va_cpy f1 (fun _ => none) 0 0 (min c1 n0)))))))] := hD
  have hra_ : ra_ = q1 := hra_
  rw [hra_]
  refine lv_astore_n hx hb (show decode cJ2_addAll 6 = .ok (.astore_n 2, 1) by decide +kernel) rfl hl (by decide) rfl (fun ls hl => ?_)
  have hl : lv_has ls 6 [(2, .ref q1), (0, .ref h0), (1, .ref h1)] := hl
  refine lv_aload_n hx hb (show decode cJ2_addAll 7 = .ok (.aload_n 0, 1) by decide +kernel) rfl (lv_at hl 1 rfl) ?_
  refine lv_dup hx hb (show decode cJ2_addAll 8 = .ok (.dup, 1) by decide +kernel) rfl ?_
  refine va_get (D := G.1) (ci := 12) (v := .int m0) (C := RJ2) (T := TJ2) (N := 3) hx hb hts in_J2 hown hK.1 hP 0 rfl rfl 0 (by decide) (hts _ q422) (u_same (hts _ q421)) rfl (show decode cJ2_addAll 9 = .ok (.getfield 63, 3) by decide +kernel) ?_
  refine lv_iconst (v := 1) hx hb (show decode cJ2_addAll 12 = .ok (.iconst 1, 1) by decide +kernel) (by decide) ?_
  refine lv_iadd hx hb (show decode cJ2_addAll 13 = .ok (.iadd, 1) by decide +kernel) ?_
  refine va_put (D := G.1) (ci := 12) (v := .int (m0 + 1)) (ty := .int) (C := RJ2) (T := TJ2) (N := 3) hx hb hts in_J2 tyJ2 tyJ2_ok nmJ2 hown hK.1 hP hD hS 0 rfl rfl 0 (by decide) (hts _ q422) (u_same (hts _ q421)) rfl (by decide +kernel) rfl rfl (Nat.le_of_ble_eq_true rfl) (show decode cJ2_addAll 14 = .ok (.putfield 63, 3) by decide +kernel) (fun H locs hP hD hS => ?_)
  have hP : va_P G.1 zcl [(h0, .inr (12, [.int (m0 + 1), .ref a0, .int 0])), (a0, .inl (G.2.2.1 6, c0, .inr (.inr (.inr (.inr (f0)))))), (h1, .inr (12, [.int m1, .ref a1, .int (nI n0)])), (a1, .inl (G.2.2.1 6, c1, .inr (.inr (.inr (.inr (f1)))))), (q1, .inl (G.2.2.1 6, n0, .inr (.inr (.inr (.inr (va_cpy f1 (fun _ => none) 0 0 (min c1 n0)))))))] H := hP
  have hD : va_D A [(h0, .inr (12, [.int (m0 + 1), .ref a0, .int 0])), (a0, .inl (G.2.2.1 6, c0, .inr (.inr (.inr (.inr (f0)))))), (h1, .inr (12, [.int m1, .ref a1, .int (nI n0)])), (a1, .inl (G.2.2.1 6, c1, .inr (.inr (.inr (.inr (f1)))))), (q1, .inl (G.2.2.1 6, n0, .inr (.inr (.inr (.inr (va_cpy f1 (fun _ => none) 0 0 (min c1 n0)))))))] := hD
  refine lv_aload_n hx hb (show decode cJ2_addAll 17 = .ok (.aload_n 2, 1) by decide +kernel) rfl (lv_at hl 0 rfl) ?_
  refine va_alen (v := nI n0) hx hb hK.1 hP 4 6 rfl rfl rfl (show decode cJ2_addAll 18 = .ok (.arraylength, 1) by decide +kernel) ?_
  refine lv_istore_n hx hb (show decode cJ2_addAll 19 = .ok (.istore_n 3, 1) by decide +kernel) rfl hl (by decide) rfl (fun ls hl => ?_)
  have hl : lv_has ls 6 [(3, .int (nI n0)), (2, .ref q1), (0, .ref h0), (1, .ref h1)] := hl
  refine lv_iload_n hx hb (show decode cJ2_addAll 20 = .ok (.iload_n 3, 1) by decide +kernel) rfl (lv_at hl 0 rfl) ?_
  refine lv_if_ne (tgt := 26) hx hb (show decode cJ2_addAll 21 = .ok (.ifCond .ne 5, 3) by decide +kernel) (by decide) (fun cnd_ => ?_) (fun cnd_ => absurd ((nI_eq (a := n0) (b := 0) (by omega) (by decide)).mp cnd_) (by omega))
  refine lv_iload_n hx hb (show decode cJ2_addAll 26 = .ok (.iload_n 3, 1) by decide +kernel) rfl (lv_at hl 0 rfl) ?_
  refine lv_aload_n hx hb (show decode cJ2_addAll 27 = .ok (.aload_n 0, 1) by decide +kernel) rfl (lv_at hl 2 rfl) ?_
  refine va_get (D := G.1) (ci := 12) (v := .ref a0) (C := RJ2) (T := TJ2) (N := 3) hx hb hts in_J2 hown hK.1 hP 0 rfl rfl 1 (by decide) (hts _ q415) (fun _ h9 => h9) rfl (show decode cJ2_addAll 28 = .ok (.getfield 9, 3) by decide +kernel) ?_
  refine lv_dup hx hb (show decode cJ2_addAll 31 = .ok (.dup, 1) by decide +kernel) rfl ?_
  refine lv_astore hx hb (show decode cJ2_addAll 32 = .ok (.astore 4, 2) by decide +kernel) hl (by decide) rfl (fun ls hl => ?_)
  have hl : lv_has ls 6 [(4, .ref a0), (3, .int (nI n0)), (2, .ref q1), (0, .ref h0), (1, .ref h1)] := hl
  refine va_alen (v := nI c0) hx hb hK.1 hP 1 6 rfl rfl rfl (show decode cJ2_addAll 34 = .ok (.arraylength, 1) by decide +kernel) ?_
  refine lv_aload_n hx hb (show decode cJ2_addAll 35 = .ok (.aload_n 0, 1) by decide +kernel) rfl (lv_at hl 3 rfl) ?_
  refine va_get (D := G.1) (ci := 12) (v := .int 0) (C := RJ2) (T := TJ2) (N := 3) hx hb hts in_J2 hown hK.1 hP 0 rfl rfl 2 (by decide) (hts _ q418) (fun _ h9 => h9) rfl (show decode cJ2_addAll 36 = .ok (.getfield 48, 3) by decide +kernel) ?_
  refine lv_dup hx hb (show decode cJ2_addAll 39 = .ok (.dup, 1) by decide +kernel) rfl ?_
  refine lv_istore hx hb (show decode cJ2_addAll 40 = .ok (.istore 5, 2) by decide +kernel) hl (by decide) rfl (fun ls hl => ?_)
  have hl : lv_has ls 6 [(5, .int 0), (4, .ref a0), (3, .int (nI n0)), (2, .ref q1), (0, .ref h0), (1, .ref h1)] := hl
  refine lv_isub hx hb (show decode cJ2_addAll 42 = .ok (.isub, 1) by decide +kernel) ?_
  refine lv_topi (fun yy_ ey_ => ?_)
  obtain rfl : yy_ = nI c0 := ey_.trans (Int32.sub_zero _)
  refine lv_icmp_le (tgt := 56) hx hb (show decode cJ2_addAll 43 = .ok (.if_icmp .le 13, 3) by decide +kernel) (by decide) (fun cnd_ => ?_) (fun cnd_ => absurd (nI_le hn0 (by omega)) cnd_)
  refine lv_aload_n hx hb (show decode cJ2_addAll 56 = .ok (.aload_n 2, 1) by decide +kernel) rfl (lv_at hl 3 rfl) ?_
  refine lv_iconst (v := 0) hx hb (show decode cJ2_addAll 57 = .ok (.iconst 0, 1) by decide +kernel) (by decide) ?_
  refine lv_aload hx hb (show decode cJ2_addAll 58 = .ok (.aload 4, 2) by decide +kernel) (lv_at hl 1 rfl) ?_
  refine lv_iload hx hb (show decode cJ2_addAll 60 = .ok (.iload 5, 2) by decide +kernel) (lv_at hl 0 rfl) ?_
  refine lv_iload_n hx hb (show decode cJ2_addAll 62 = .ok (.iload_n 3, 1) by decide +kernel) rfl (lv_at hl 2 rfl) ?_
  refine va_copyq (C := RX10) hx hb (by rw [hml]; exact hl.1.symm) hown (hts _ q1566) (hts _ q375) (hts _ q374) (hts _ q164) hK.1 hP hD hS 4 1 6 6 rfl rfl rfl rfl (by decide) (by decide) (nI_pos (by omega)) (by rw [nI_clamp (by omega)]; show 0 + _ ≤ n0; omega) (by rw [nI_clamp (by omega)]; show 0 + _ ≤ _; omega) (fun i hi y hy => ?_) (fun comp c9 e1 e2 => ?_) (Nat.succ_le_succ (Nat.zero_le _)) (by show _ ≤ 48 * (_ + 1); exact Nat.le_trans (Nat.le_of_ble_eq_true rfl) (Nat.le_mul_of_pos_right 48 (Nat.succ_pos _))) (show decode cJ2_addAll 63 = .ok (.invokestatic 112, 3) by decide +kernel) (fun H locs hP hD hS => ?_)
  · rw [nI_clamp (by omega)] at hi
    rw [show (0 : Int32).toNatClampNeg + i = i from Nat.zero_add i, rcpy0 (by omega)] at hy
    obtain ⟨g1, cell, g2, g3, g4⟩ := hE.2 i (by omega) y hy
    exact ⟨cell, by rw [hS.2.1 y (Array.getElem?_eq_some_iff.mp g2).1 g1]; exact g2, g3, by rw [g4]; exact (hK.1.1 10 _ rfl).2.1⟩
  · obtain ⟨d0, d1, f1_, f2_, f3_⟩ := Cond.castable_spec (va_Nw.use (A := ([.ref h0, .ref h1] : List Value).toArray) rfl (hK.2.1 _ q2508 rfl))
    cases f1_.symm.trans e2
    cases f2_.symm.trans e1
    exact f3_
  rw [nI_clamp (by omega)] at hP hD
  have hP : va_P G.1 zcl [(h0, .inr (12, [.int (m0 + 1), .ref a0, .int 0])), (a0, .inl (G.2.2.1 6, c0, .inr (.inr (.inr (.inr (va_cpy (va_cpy f1 (fun _ => none) 0 0 (min c1 n0)) f0 0 0 n0)))))), (h1, .inr (12, [.int m1, .ref a1, .int (nI n0)])), (a1, .inl (G.2.2.1 6, c1, .inr (.inr (.inr (.inr (f1)))))), (q1, .inl (G.2.2.1 6, n0, .inr (.inr (.inr (.inr (va_cpy f1 (fun _ => none) 0 0 (min c1 n0)))))))] H := hP
  have hD : va_D A [(h0, .inr (12, [.int (m0 + 1), .ref a0, .int 0])), (a0, .inl (G.2.2.1 6, c0, .inr (.inr (.inr (.inr (va_cpy (va_cpy f1 (fun _ => none) 0 0 (min c1 n0)) f0 0 0 n0)))))), (h1, .inr (12, [.int m1, .ref a1, .int (nI n0)])), (a1, .inl (G.2.2.1 6, c1, .inr (.inr (.inr (.inr (f1)))))), (q1, .inl (G.2.2.1 6, n0, .inr (.inr (.inr (.inr (va_cpy f1 (fun _ => none) 0 0 (min c1 n0)))))))] := hD
  refine lv_aload_n hx hb (show decode cJ2_addAll 66 = .ok (.aload_n 0, 1) by decide +kernel) rfl (lv_at hl 4 rfl) ?_
  refine lv_iload hx hb (show decode cJ2_addAll 67 = .ok (.iload 5, 2) by decide +kernel) (lv_at hl 0 rfl) ?_
  refine lv_iload_n hx hb (show decode cJ2_addAll 69 = .ok (.iload_n 3, 1) by decide +kernel) rfl (lv_at hl 2 rfl) ?_
  refine lv_iadd hx hb (show decode cJ2_addAll 70 = .ok (.iadd, 1) by decide +kernel) ?_
  refine lv_topi (fun yy_ ey_ => ?_)
  obtain rfl : yy_ = nI n0 := ey_.trans (Int32.zero_add _)
  refine va_put (D := G.1) (ci := 12) (v := .int (nI n0)) (ty := .int) (C := RJ2) (T := TJ2) (N := 3) hx hb hts in_J2 tyJ2 tyJ2_ok nmJ2 hown hK.1 hP hD hS 0 rfl rfl 2 (by decide) (hts _ q418) (fun _ h9 => h9) rfl (by decide +kernel) rfl rfl (Nat.le_of_ble_eq_true rfl) (show decode cJ2_addAll 71 = .ok (.putfield 48, 3) by decide +kernel) (fun H locs hP hD hS => ?_)
  have hP : va_P G.1 zcl [(h0, .inr (12, [.int (m0 + 1), .ref a0, .int (nI n0)])), (a0, .inl (G.2.2.1 6, c0, .inr (.inr (.inr (.inr (va_cpy (va_cpy f1 (fun _ => none) 0 0 (min c1 n0)) f0 0 0 n0)))))), (h1, .inr (12, [.int m1, .ref a1, .int (nI n0)])), (a1, .inl (G.2.2.1 6, c1, .inr (.inr (.inr (.inr (f1)))))), (q1, .inl (G.2.2.1 6, n0, .inr (.inr (.inr (.inr (va_cpy f1 (fun _ => none) 0 0 (min c1 n0)))))))] H := hP
  have hD : va_D A [(h0, .inr (12, [.int (m0 + 1), .ref a0, .int (nI n0)])), (a0, .inl (G.2.2.1 6, c0, .inr (.inr (.inr (.inr (va_cpy (va_cpy f1 (fun _ => none) 0 0 (min c1 n0)) f0 0 0 n0)))))), (h1, .inr (12, [.int m1, .ref a1, .int (nI n0)])), (a1, .inl (G.2.2.1 6, c1, .inr (.inr (.inr (.inr (f1)))))), (q1, .inl (G.2.2.1 6, n0, .inr (.inr (.inr (.inr (va_cpy f1 (fun _ => none) 0 0 (min c1 n0)))))))] := hD
  refine lv_iconst (v := 1) hx hb (show decode cJ2_addAll 74 = .ok (.iconst 1, 1) by decide +kernel) (by decide) ?_
  have hP9 := hP.sub (ws' := [(h0, .inr (12, [.int (m0 + 1), .ref a0, .int (nI n0)])), (a0, .inl (G.2.2.1 6, c0, .inr (.inr (.inr (.inr (va_cpy (va_cpy f1 (fun _ => none) 0 0 (min c1 n0)) f0 0 0 n0)))))), (h1, .inr (12, [.int m1, .ref a1, .int (nI n0)])), (a1, .inl (G.2.2.1 6, c1, .inr (.inr (.inr (.inr (f1)))))), (q1, .inl (G.2.2.1 6, n0, .inr (.inr (.inr (.inr (va_cpy f1 (fun _ => none) 0 0 (min c1 n0)))))))]) [0, 1, 2, 3, 4] rfl
  have hD9 := hD.sub (ws' := [(h0, .inr (12, [.int (m0 + 1), .ref a0, .int (nI n0)])), (a0, .inl (G.2.2.1 6, c0, .inr (.inr (.inr (.inr (va_cpy (va_cpy f1 (fun _ => none) 0 0 (min c1 n0)) f0 0 0 n0)))))), (h1, .inr (12, [.int m1, .ref a1, .int (nI n0)])), (a1, .inl (G.2.2.1 6, c1, .inr (.inr (.inr (.inr (f1)))))), (q1, .inl (G.2.2.1 6, n0, .inr (.inr (.inr (.inr (va_cpy f1 (fun _ => none) 0 0 (min c1 n0)))))))]) [0, 1, 2, 3, 4] (by decide) rfl
  refine W.widen (k := 1) (n := n0) (by first | decide | omega) (by first | decide | omega) ?_
  exact W.zret (v := 1) hx hb hr rfl (fun t ht hW => ⟨⟨1, q1, rfl, rfl, by rw [ht]; exact hP9, hD9⟩, hS.F ht⟩) hS.2.2 (show decode cJ2_addAll 75 = .ok (.ireturn, 1) by decide +kernel)

