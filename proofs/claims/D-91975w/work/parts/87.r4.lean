/-! RAW: makers, lists -/
set_option maxHeartbeats 4000000 in
set_option maxRecDepth 100000 in
theorem rJ12_copyOf_2_X9 (l : Launch) (G : zG) (d sz : Nat) (a0 : Nat) (c0 : Nat) (f0 : Nat → Option Nat) (n1 : Nat) (mi : Nat) (hc : c0 < 2 ^ 31) (hn : n1 ≤ 40000) : Met l yJ12_copyOf_2 (ws_ yJ12_copyOf_2 cJ12_copyOf_2 4 (some (.array (.object "java/lang/Object")))) (eRoom (d + 1) 1 n1) (rPx G [.ref a0, .int (nI n1), .ref mi] [(a0, .inl (G.2.2.1 6, c0, .inr (.inr (.inr (.inr (f0))))))] sz (rEl G f0 c0 9 mi)) (va_Qr (fun _ => True) (fun (q1 : Nat) (ra : Nat) (t : State) => ra = q1 ∧ rB G (fun _ : Unit => [(a0, .inl (G.2.2.1 6, c0, .inr (.inr (.inr (.inr (f0)))))), (q1, .inl (G.2.2.1 6, n1, .inr (.inr (.inr (.inr (va_cpy f0 (fun _ => none) 0 0 (min c0 n1)))))))]) (va_A [(a0, .inl (G.2.2.1 6, c0, .inr (.inr (.inr (.inr (f0))))))] sz) () t) (va_A [(a0, .inl (G.2.2.1 6, c0, .inr (.inr (.inr (.inr (f0))))))] sz)) 1 n1 (va_A [(a0, .inl (G.2.2.1 6, c0, .inr (.inr (.inr (.inr (f0))))))] sz) := by
  refine zMetF (cc := cJ12_copyOf_2) (maxL := 4) (ret := (some (.array (.object "java/lang/Object")))) (by decide +kernel) rfl ?_
  intro p e s m args below meth c s₁ B hml hv
  obtain ⟨rfl, hsz, hP, hK, hST, hD0, hE⟩ := hv
  have hx := B.exec
  have hb := B.bytes
  have hr := B.returns
  have hts := atoms_spec (ws := ws_ yJ12_copyOf_2 cJ12_copyOf_2 4 (some (.array (.object "java/lang/Object")))) B.pre
  have hts : ∀ w ∈ lw_all, w.before _ s = true := fun w h => hts w (List.mem_cons_of_mem _ h)
  have hown : s.vm.findClass RJ12 = some m.cls := findClass_of_methodNamed B.named
  have hlocks := B.notSynchronized
  subst hsz
  have hD := hD0.self (sz := s.heap.size)
  generalize hAe : va_A [(a0, .inl (G.2.2.1 6, c0, .inr (.inr (.inr (.inr (f0))))))] s.heap.size = A at hD hST hE ⊢
  have hA : ∀ q : Nat, s.heap.size ≤ q → A q := fun q h => by rw [← hAe]; exact Or.inr h
  have hS : va_S A s.heap s.heap [] := va_S.rf
  have hP : va_P G.1 zcl [(a0, .inl (G.2.2.1 6, c0, .inr (.inr (.inr (.inr (f0))))))] s.heap := hP
  have hl := lv_entry ([.ref a0, .int (nI n1), .ref mi]) (n := 4) (Nat.le_of_ble_eq_true rfl)
  rw [lg_entry_eq]
  generalize (lg_sl ([.ref a0, .int (nI n1), .ref mi]) ++ List.replicate (4 - (lg_sl ([.ref a0, .int (nI n1), .ref mi])).length) Slot.unset).toArray = ls at hl ⊢
  have hl : lv_has ls 4 [(0, .ref a0), (1, .int (nI n1)), (2, .ref mi)] := hl
  refine lv_aload_n hx hb (show decode cJ12_copyOf_2 0 = .ok (.aload_n 2, 1) by decide +kernel) rfl (lv_at hl 2 rfl) ?_
  refine va_ldcM hx hb hown (hts _ q911) hE.1 (show decode cJ12_copyOf_2 1 = .ok (.ldc 110, 2) by decide +kernel) ?_
  refine lv_acmp_ne (rx := some (mi)) (ry := some (mi)) (tgt := 13) hx hb (show decode cJ12_copyOf_2 3 = .ok (.if_acmp .ne 10, 3) by decide +kernel) (by decide) (fun cnd_ => absurd rfl cnd_) (fun cnd_ => ?_)
  refine lv_iload_n hx hb (show decode cJ12_copyOf_2 6 = .ok (.iload_n 1, 1) by decide +kernel) rfl (lv_at hl 1 rfl) ?_
  refine r_newq hx hb hown (hts _ q912) hST.2.2.1 6 rfl hK hP hD hS hA (nI_pos (by omega)) (nI_clamp (by omega)) (by omega) (by show _ ≤ 1; first | decide | omega) (by show _ ≤ n1; first | decide | omega) (show decode cJ12_copyOf_2 7 = .ok (.anewarray 2, 3) by decide +kernel) (fun q1 H locs hP hD hS => ?_)
  have hP : va_P G.1 zcl [(a0, .inl (G.2.2.1 6, c0, .inr (.inr (.inr (.inr (f0)))))), (q1, .inl (G.2.2.1 6, n1, .inr (.inr (.inr (.inr (fun _ => none))))))] H := hP
  have hD : va_D A [(a0, .inl (G.2.2.1 6, c0, .inr (.inr (.inr (.inr (f0)))))), (q1, .inl (G.2.2.1 6, n1, .inr (.inr (.inr (.inr (fun _ => none))))))] := hD
  refine lv_goto (tgt := 24) hx hb (show decode cJ12_copyOf_2 10 = .ok (.goto 14, 3) by decide +kernel) (by decide) ?_
  refine lv_astore_n hx hb (show decode cJ12_copyOf_2 24 = .ok (.astore_n 3, 1) by decide +kernel) rfl hl (by decide) rfl (fun ls hl => ?_)
  have hl : lv_has ls 4 [(3, .ref q1), (0, .ref a0), (1, .int (nI n1)), (2, .ref mi)] := hl
  refine lv_aload_n hx hb (show decode cJ12_copyOf_2 25 = .ok (.aload_n 0, 1) by decide +kernel) rfl (lv_at hl 1 rfl) ?_
  refine lv_iconst (v := 0) hx hb (show decode cJ12_copyOf_2 26 = .ok (.iconst 0, 1) by decide +kernel) (by decide) ?_
  refine lv_aload_n hx hb (show decode cJ12_copyOf_2 27 = .ok (.aload_n 3, 1) by decide +kernel) rfl (lv_at hl 0 rfl) ?_
  refine lv_iconst (v := 0) hx hb (show decode cJ12_copyOf_2 28 = .ok (.iconst 0, 1) by decide +kernel) (by decide) ?_
  refine lv_aload_n hx hb (show decode cJ12_copyOf_2 29 = .ok (.aload_n 0, 1) by decide +kernel) rfl (lv_at hl 1 rfl) ?_
  refine va_alen (v := nI c0) hx hb hK.1 hP 0 6 rfl rfl rfl (show decode cJ12_copyOf_2 30 = .ok (.arraylength, 1) by decide +kernel) ?_
  refine lv_iload_n hx hb (show decode cJ12_copyOf_2 31 = .ok (.iload_n 1, 1) by decide +kernel) rfl (lv_at hl 2 rfl) ?_
  refine va_mmin hx hb (by rw [hml]; exact hl.1.symm) hown (hts _ q913) (hts _ q668) (hts _ q152) (hts _ q669) (Nat.succ_le_succ (Nat.zero_le _)) (by show _ ≤ 48 * (_ + 1); exact Nat.le_trans (Nat.le_of_ble_eq_true rfl) (Nat.le_mul_of_pos_right 48 (Nat.succ_pos _))) (by show _ ≤ 1; decide) (by show _ ≤ n1; omega) (show decode cJ12_copyOf_2 32 = .ok (.invokestatic 304, 3) by decide +kernel) ?_
  rw [show (if nI n1 < nI c0 then nI n1 else nI c0) = nI (min c0 n1) from rmin (by omega) (by omega)]
  refine va_copyq (C := RX9) hx hb (by rw [hml]; exact hl.1.symm) hown (hts _ q914) (hts _ q375) (hts _ q374) (hts _ q164) hK.1 hP hD hS 0 1 6 6 rfl rfl rfl rfl (by decide) (by decide) (nI_pos (by omega)) (by rw [nI_clamp (by omega)]; show 0 + _ ≤ c0; omega) (by rw [nI_clamp (by omega)]; show 0 + _ ≤ n1; omega) (fun i hi y hy => ?_) (fun comp c9 e1 e2 => ?_) (Nat.succ_le_succ (Nat.zero_le _)) (by show _ ≤ 48 * (_ + 1); exact Nat.le_trans (Nat.le_of_ble_eq_true rfl) (Nat.le_mul_of_pos_right 48 (Nat.succ_pos _))) (show decode cJ12_copyOf_2 35 = .ok (.invokestatic 150, 3) by decide +kernel) (fun H locs hP hD hS => ?_)
  · rw [nI_clamp (by omega)] at hi
    obtain ⟨g1, cell, g2, g3, g4⟩ := hE.2 i (by omega) y (by rw [show i = (0 : Int32).toNatClampNeg + i from (Nat.zero_add i).symm]; exact hy)
    exact ⟨cell, by rw [hS.2.1 y (Array.getElem?_eq_some_iff.mp g2).1 g1]; exact g2, g3, by rw [g4]; exact (hK.1.1 9 _ rfl).2.1⟩
  · obtain ⟨d0, d1, f1, f2, f3⟩ := Cond.castable_spec (va_Nw.use (A := ([.ref a0, .int (nI n1), .ref mi] : List Value).toArray) rfl (hK.2.1 _ q2507 rfl))
    cases f1.symm.trans e2
    cases f2.symm.trans e1
    exact f3
  rw [nI_clamp (by omega)] at hP hD
  have hP : va_P G.1 zcl [(a0, .inl (G.2.2.1 6, c0, .inr (.inr (.inr (.inr (f0)))))), (q1, .inl (G.2.2.1 6, n1, .inr (.inr (.inr (.inr (va_cpy f0 (fun _ => none) 0 0 (min c0 n1)))))))] H := hP
  have hD : va_D A [(a0, .inl (G.2.2.1 6, c0, .inr (.inr (.inr (.inr (f0)))))), (q1, .inl (G.2.2.1 6, n1, .inr (.inr (.inr (.inr (va_cpy f0 (fun _ => none) 0 0 (min c0 n1)))))))] := hD
  refine lv_aload_n hx hb (show decode cJ12_copyOf_2 38 = .ok (.aload_n 3, 1) by decide +kernel) rfl (lv_at hl 0 rfl) ?_
  have hP9 := hP.sub (ws' := [(a0, .inl (G.2.2.1 6, c0, .inr (.inr (.inr (.inr (f0)))))), (q1, .inl (G.2.2.1 6, n1, .inr (.inr (.inr (.inr (va_cpy f0 (fun _ => none) 0 0 (min c0 n1)))))))]) [0, 1] rfl
  have hD9 := hD.sub (ws' := [(a0, .inl (G.2.2.1 6, c0, .inr (.inr (.inr (.inr (f0)))))), (q1, .inl (G.2.2.1 6, n1, .inr (.inr (.inr (.inr (va_cpy f0 (fun _ => none) 0 0 (min c0 n1)))))))]) [0, 1] (by decide) rfl
  refine W.widen (k := 1) (n := n1) (by first | decide | omega) (by first | decide | omega) ?_
  exact W.aret (v := .ref q1) hx hb hr (Or.inr ⟨_, rfl⟩) (Or.inr ⟨_, rfl⟩) (fun t ht hW => ⟨⟨q1, q1, rfl, trivial, rfl, by rw [ht]; exact hP9, hD9⟩, hS.F ht⟩) hS.2.2 (show decode cJ12_copyOf_2 39 = .ok (.areturn, 1) by decide +kernel)

set_option maxHeartbeats 4000000 in
set_option maxRecDepth 100000 in
theorem rJ12_copyOf_X9 (l : Launch) (G : zG) (d sz : Nat) (a0 : Nat) (c0 : Nat) (f0 : Nat → Option Nat) (n1 : Nat) (mi : Nat) (hc : c0 < 2 ^ 31) (hn : n1 ≤ 40000) : Met l yJ12_copyOf (ws_ yJ12_copyOf cJ12_copyOf 2 (some (.array (.object "java/lang/Object")))) (eRoom (d + 2) 1 n1) (rPx G [.ref a0, .int (nI n1)] [(a0, .inl (G.2.2.1 6, c0, .inr (.inr (.inr (.inr (f0))))))] sz (rEl G f0 c0 9 mi)) (va_Qr (fun _ => True) (fun (q1 : Nat) (ra : Nat) (t : State) => ra = q1 ∧ rB G (fun _ : Unit => [(a0, .inl (G.2.2.1 6, c0, .inr (.inr (.inr (.inr (f0)))))), (q1, .inl (G.2.2.1 6, n1, .inr (.inr (.inr (.inr (va_cpy f0 (fun _ => none) 0 0 (min c0 n1)))))))]) (va_A [(a0, .inl (G.2.2.1 6, c0, .inr (.inr (.inr (.inr (f0))))))] sz) () t) (va_A [(a0, .inl (G.2.2.1 6, c0, .inr (.inr (.inr (.inr (f0))))))] sz)) 1 n1 (va_A [(a0, .inl (G.2.2.1 6, c0, .inr (.inr (.inr (.inr (f0))))))] sz) := by
  refine zMetF (cc := cJ12_copyOf) (maxL := 2) (ret := (some (.array (.object "java/lang/Object")))) (by decide +kernel) rfl ?_
  intro p e s m args below meth c s₁ B hml hv
  obtain ⟨rfl, hsz, hP, hK, hST, hD0, hE⟩ := hv
  have hx := B.exec
  have hb := B.bytes
  have hr := B.returns
  have hts := atoms_spec (ws := ws_ yJ12_copyOf cJ12_copyOf 2 (some (.array (.object "java/lang/Object")))) B.pre
  have hts : ∀ w ∈ lw_all, w.before _ s = true := fun w h => hts w (List.mem_cons_of_mem _ h)
  have hown : s.vm.findClass RJ12 = some m.cls := findClass_of_methodNamed B.named
  have hlocks := B.notSynchronized
  subst hsz
  have hD := hD0.self (sz := s.heap.size)
  generalize hAe : va_A [(a0, .inl (G.2.2.1 6, c0, .inr (.inr (.inr (.inr (f0))))))] s.heap.size = A at hD hST hE ⊢
  have hA : ∀ q : Nat, s.heap.size ≤ q → A q := fun q h => by rw [← hAe]; exact Or.inr h
  have hS : va_S A s.heap s.heap [] := va_S.rf
  have hP : va_P G.1 zcl [(a0, .inl (G.2.2.1 6, c0, .inr (.inr (.inr (.inr (f0))))))] s.heap := hP
  have hl := lv_entry ([.ref a0, .int (nI n1)]) (n := 2) (Nat.le_of_ble_eq_true rfl)
  rw [lg_entry_eq]
  generalize (lg_sl ([.ref a0, .int (nI n1)]) ++ List.replicate (2 - (lg_sl ([.ref a0, .int (nI n1)])).length) Slot.unset).toArray = ls at hl ⊢
  have hl : lv_has ls 2 [(0, .ref a0), (1, .int (nI n1))] := hl
  refine lv_aload_n hx hb (show decode cJ12_copyOf 0 = .ok (.aload_n 0, 1) by decide +kernel) rfl (lv_at hl 0 rfl) ?_
  refine lv_iload_n hx hb (show decode cJ12_copyOf 1 = .ok (.iload_n 1, 1) by decide +kernel) rfl (lv_at hl 1 rfl) ?_
  refine lv_aload_n hx hb (show decode cJ12_copyOf 2 = .ok (.aload_n 0, 1) by decide +kernel) rfl (lv_at hl 0 rfl) ?_
  refine va_getC hx hb (by rw [hml]; exact hl.1.symm) hown (hts _ q886) (va_Dc.use hST.2.2.2.2.2.2.1) (hts _ q2518) (hts _ q887) (hts _ q907) hE.1 (r_recvA hK hP (i := 0) rfl) (Nat.succ_le_succ (Nat.zero_le _)) (by show _ ≤ 48 * (_ + 1); exact Nat.le_trans (Nat.le_of_ble_eq_true rfl) (Nat.le_mul_of_pos_right 48 (Nat.succ_pos _))) (show decode cJ12_copyOf 3 = .ok (.invokevirtual 86, 3) by decide +kernel) ?_
  have hPc := hP.sub (ws' := [(a0, .inl (G.2.2.1 6, c0, .inr (.inr (.inr (.inr (f0))))))]) [0] rfl
  have hDc := hD.sub (ws' := [(a0, .inl (G.2.2.1 6, c0, .inr (.inr (.inr (.inr (f0))))))]) [0] (by decide) rfl
  have hFc := va_free (wc := [(a0, .inl (G.2.2.1 6, c0, .inr (.inr (.inr (.inr (f0))))))]) hD hS hA [0] rfl
  refine va_callr (va_runS (As := [.ref a0, .int (nI n1), .ref mi]) (rest := []) ⟨hx, hb, hml, hown, hts⟩ (rJ12_copyOf_2_X9 l G (d + 0) s.heap.size (a0) (c0) (f0) (n1) (mi) hc hn) (va_cwS 3 hts (lw_S q908 q909 q163 q910) rfl rfl rfl (by decide +kernel) ⟨(rroom (d := d + 1) (mc := 1) (ms := n1) (mc' := 1) (ms' := n1) (mL := 4) (by decide)).1, by first | exact (rroom (d := d + 1) (mc := 1) (ms := n1) (mc' := 1) (ms' := n1) (mL := 4) (by decide)).2⟩) ⟨rxblind rEl_st, rpx rEl_st hE hK hST hS hPc hDc hFc [.ref a0, .int (nI n1), .ref mi]⟩ rfl rfl hl.1 rfl (lv_room (Nat.le_of_ble_eq_true rfl)) (show decode cJ12_copyOf 6 = .ok (.invokestatic 300, 3) by decide +kernel) ⟨by show _ ≤ 1; first | decide | omega, by show _ ≤ n1; first | decide | omega⟩) hS (fun q _ h => hFc q h) hFc (fun u ra_ t H1 locs ht hvm hw hB hz1 hk1 hS => ?_)
  obtain ⟨q1, rfl⟩ : ∃ z, z = u := ⟨_, rfl⟩
  obtain ⟨hra_, hP1, hD1⟩ := hB
  rw [ht] at hP1
  obtain ⟨hP, hD⟩ := va_join (wr := []) (w1 := [(a0, .inl (G.2.2.1 6, c0, .inr (.inr (.inr (.inr (f0)))))), (q1, .inl (G.2.2.1 6, n1, .inr (.inr (.inr (.inr (va_cpy f0 (fun _ => none) 0 0 (min c0 n1)))))))]) hP hD [0] [] rfl rfl (by decide) (by decide) hk1 hFc hP1 hD1
  generalize H1 = H at hP hS ⊢
  have hP : va_P G.1 zcl [(a0, .inl (G.2.2.1 6, c0, .inr (.inr (.inr (.inr (f0)))))), (q1, .inl (G.2.2.1 6, n1, .inr (.inr (.inr (.inr (va_cpy f0 (fun _ => none) 0 0 (min c0 n1)))))))] H := hP
  have hD : va_D A [(a0, .inl (G.2.2.1 6, c0, .inr (.inr (.inr (.inr (f0)))))), (q1, .inl (G.2.2.1 6, n1, .inr (.inr (.inr (.inr (va_cpy f0 (fun _ => none) 0 0 (min c0 n1)))))))] := hD
  have hra_ : ra_ = q1 := hra_
  rw [hra_]
  have hP9 := hP.sub (ws' := [(a0, .inl (G.2.2.1 6, c0, .inr (.inr (.inr (.inr (f0)))))), (q1, .inl (G.2.2.1 6, n1, .inr (.inr (.inr (.inr (va_cpy f0 (fun _ => none) 0 0 (min c0 n1)))))))]) [0, 1] rfl
  have hD9 := hD.sub (ws' := [(a0, .inl (G.2.2.1 6, c0, .inr (.inr (.inr (.inr (f0)))))), (q1, .inl (G.2.2.1 6, n1, .inr (.inr (.inr (.inr (va_cpy f0 (fun _ => none) 0 0 (min c0 n1)))))))]) [0, 1] (by decide) rfl
  refine W.widen (k := 1) (n := n1) (by first | decide | omega) (by first | decide | omega) ?_
  exact W.aret (v := .ref q1) hx hb hr (Or.inr ⟨_, rfl⟩) (Or.inr ⟨_, rfl⟩) (fun t ht hW => ⟨⟨q1, q1, rfl, trivial, rfl, by rw [ht]; exact hP9, hD9⟩, hS.F ht⟩) hS.2.2 (show decode cJ12_copyOf 9 = .ok (.areturn, 1) by decide +kernel)

set_option maxHeartbeats 4000000 in
set_option maxRecDepth 100000 in
theorem rJ12_copyOf_2_X10 (l : Launch) (G : zG) (d sz : Nat) (a0 : Nat) (c0 : Nat) (f0 : Nat → Option Nat) (n1 : Nat) (mi : Nat) (hc : c0 < 2 ^ 31) (hn : n1 ≤ 40000) : Met l yJ12_copyOf_2 (ws_ yJ12_copyOf_2 cJ12_copyOf_2 4 (some (.array (.object "java/lang/Object")))) (eRoom (d + 1) 1 n1) (rPx G [.ref a0, .int (nI n1), .ref mi] [(a0, .inl (G.2.2.1 6, c0, .inr (.inr (.inr (.inr (f0))))))] sz (rEl G f0 c0 10 mi)) (va_Qr (fun _ => True) (fun (q1 : Nat) (ra : Nat) (t : State) => ra = q1 ∧ rB G (fun _ : Unit => [(a0, .inl (G.2.2.1 6, c0, .inr (.inr (.inr (.inr (f0)))))), (q1, .inl (G.2.2.1 6, n1, .inr (.inr (.inr (.inr (va_cpy f0 (fun _ => none) 0 0 (min c0 n1)))))))]) (va_A [(a0, .inl (G.2.2.1 6, c0, .inr (.inr (.inr (.inr (f0))))))] sz) () t) (va_A [(a0, .inl (G.2.2.1 6, c0, .inr (.inr (.inr (.inr (f0))))))] sz)) 1 n1 (va_A [(a0, .inl (G.2.2.1 6, c0, .inr (.inr (.inr (.inr (f0))))))] sz) := by
  refine zMetF (cc := cJ12_copyOf_2) (maxL := 4) (ret := (some (.array (.object "java/lang/Object")))) (by decide +kernel) rfl ?_
  intro p e s m args below meth c s₁ B hml hv
  obtain ⟨rfl, hsz, hP, hK, hST, hD0, hE⟩ := hv
  have hx := B.exec
  have hb := B.bytes
  have hr := B.returns
  have hts := atoms_spec (ws := ws_ yJ12_copyOf_2 cJ12_copyOf_2 4 (some (.array (.object "java/lang/Object")))) B.pre
  have hts : ∀ w ∈ lw_all, w.before _ s = true := fun w h => hts w (List.mem_cons_of_mem _ h)
  have hown : s.vm.findClass RJ12 = some m.cls := findClass_of_methodNamed B.named
  have hlocks := B.notSynchronized
  subst hsz
  have hD := hD0.self (sz := s.heap.size)
  generalize hAe : va_A [(a0, .inl (G.2.2.1 6, c0, .inr (.inr (.inr (.inr (f0))))))] s.heap.size = A at hD hST hE ⊢
  have hA : ∀ q : Nat, s.heap.size ≤ q → A q := fun q h => by rw [← hAe]; exact Or.inr h
  have hS : va_S A s.heap s.heap [] := va_S.rf
  have hP : va_P G.1 zcl [(a0, .inl (G.2.2.1 6, c0, .inr (.inr (.inr (.inr (f0))))))] s.heap := hP
  have hl := lv_entry ([.ref a0, .int (nI n1), .ref mi]) (n := 4) (Nat.le_of_ble_eq_true rfl)
  rw [lg_entry_eq]
  generalize (lg_sl ([.ref a0, .int (nI n1), .ref mi]) ++ List.replicate (4 - (lg_sl ([.ref a0, .int (nI n1), .ref mi])).length) Slot.unset).toArray = ls at hl ⊢
  have hl : lv_has ls 4 [(0, .ref a0), (1, .int (nI n1)), (2, .ref mi)] := hl
  refine lv_aload_n hx hb (show decode cJ12_copyOf_2 0 = .ok (.aload_n 2, 1) by decide +kernel) rfl (lv_at hl 2 rfl) ?_
  refine va_ldcM hx hb hown (hts _ q911) hE.1 (show decode cJ12_copyOf_2 1 = .ok (.ldc 110, 2) by decide +kernel) ?_
  refine lv_acmp_ne (rx := some (mi)) (ry := some (mi)) (tgt := 13) hx hb (show decode cJ12_copyOf_2 3 = .ok (.if_acmp .ne 10, 3) by decide +kernel) (by decide) (fun cnd_ => absurd rfl cnd_) (fun cnd_ => ?_)
  refine lv_iload_n hx hb (show decode cJ12_copyOf_2 6 = .ok (.iload_n 1, 1) by decide +kernel) rfl (lv_at hl 1 rfl) ?_
  refine r_newq hx hb hown (hts _ q912) hST.2.2.1 6 rfl hK hP hD hS hA (nI_pos (by omega)) (nI_clamp (by omega)) (by omega) (by show _ ≤ 1; first | decide | omega) (by show _ ≤ n1; first | decide | omega) (show decode cJ12_copyOf_2 7 = .ok (.anewarray 2, 3) by decide +kernel) (fun q1 H locs hP hD hS => ?_)
  have hP : va_P G.1 zcl [(a0, .inl (G.2.2.1 6, c0, .inr (.inr (.inr (.inr (f0)))))), (q1, .inl (G.2.2.1 6, n1, .inr (.inr (.inr (.inr (fun _ => none))))))] H := hP
  have hD : va_D A [(a0, .inl (G.2.2.1 6, c0, .inr (.inr (.inr (.inr (f0)))))), (q1, .inl (G.2.2.1 6, n1, .inr (.inr (.inr (.inr (fun _ => none))))))] := hD
  refine lv_goto (tgt := 24) hx hb (show decode cJ12_copyOf_2 10 = .ok (.goto 14, 3) by decide +kernel) (by decide) ?_
  refine lv_astore_n hx hb (show decode cJ12_copyOf_2 24 = .ok (.astore_n 3, 1) by decide +kernel) rfl hl (by decide) rfl (fun ls hl => ?_)
  have hl : lv_has ls 4 [(3, .ref q1), (0, .ref a0), (1, .int (nI n1)), (2, .ref mi)] := hl
  refine lv_aload_n hx hb (show decode cJ12_copyOf_2 25 = .ok (.aload_n 0, 1) by decide +kernel) rfl (lv_at hl 1 rfl) ?_
  refine lv_iconst (v := 0) hx hb (show decode cJ12_copyOf_2 26 = .ok (.iconst 0, 1) by decide +kernel) (by decide) ?_
  refine lv_aload_n hx hb (show decode cJ12_copyOf_2 27 = .ok (.aload_n 3, 1) by decide +kernel) rfl (lv_at hl 0 rfl) ?_
  refine lv_iconst (v := 0) hx hb (show decode cJ12_copyOf_2 28 = .ok (.iconst 0, 1) by decide +kernel) (by decide) ?_
  refine lv_aload_n hx hb (show decode cJ12_copyOf_2 29 = .ok (.aload_n 0, 1) by decide +kernel) rfl (lv_at hl 1 rfl) ?_
  refine va_alen (v := nI c0) hx hb hK.1 hP 0 6 rfl rfl rfl (show decode cJ12_copyOf_2 30 = .ok (.arraylength, 1) by decide +kernel) ?_
  refine lv_iload_n hx hb (show decode cJ12_copyOf_2 31 = .ok (.iload_n 1, 1) by decide +kernel) rfl (lv_at hl 2 rfl) ?_
  refine va_mmin hx hb (by rw [hml]; exact hl.1.symm) hown (hts _ q913) (hts _ q668) (hts _ q152) (hts _ q669) (Nat.succ_le_succ (Nat.zero_le _)) (by show _ ≤ 48 * (_ + 1); exact Nat.le_trans (Nat.le_of_ble_eq_true rfl) (Nat.le_mul_of_pos_right 48 (Nat.succ_pos _))) (by show _ ≤ 1; decide) (by show _ ≤ n1; omega) (show decode cJ12_copyOf_2 32 = .ok (.invokestatic 304, 3) by decide +kernel) ?_
  rw [show (if nI n1 < nI c0 then nI n1 else nI c0) = nI (min c0 n1) from rmin (by omega) (by omega)]
  refine va_copyq (C := RX10) hx hb (by rw [hml]; exact hl.1.symm) hown (hts _ q914) (hts _ q375) (hts _ q374) (hts _ q164) hK.1 hP hD hS 0 1 6 6 rfl rfl rfl rfl (by decide) (by decide) (nI_pos (by omega)) (by rw [nI_clamp (by omega)]; show 0 + _ ≤ c0; omega) (by rw [nI_clamp (by omega)]; show 0 + _ ≤ n1; omega) (fun i hi y hy => ?_) (fun comp c9 e1 e2 => ?_) (Nat.succ_le_succ (Nat.zero_le _)) (by show _ ≤ 48 * (_ + 1); exact Nat.le_trans (Nat.le_of_ble_eq_true rfl) (Nat.le_mul_of_pos_right 48 (Nat.succ_pos _))) (show decode cJ12_copyOf_2 35 = .ok (.invokestatic 150, 3) by decide +kernel) (fun H locs hP hD hS => ?_)
  · rw [nI_clamp (by omega)] at hi
    obtain ⟨g1, cell, g2, g3, g4⟩ := hE.2 i (by omega) y (by rw [show i = (0 : Int32).toNatClampNeg + i from (Nat.zero_add i).symm]; exact hy)
    exact ⟨cell, by rw [hS.2.1 y (Array.getElem?_eq_some_iff.mp g2).1 g1]; exact g2, g3, by rw [g4]; exact (hK.1.1 10 _ rfl).2.1⟩
  · obtain ⟨d0, d1, f1, f2, f3⟩ := Cond.castable_spec (va_Nw.use (A := ([.ref a0, .int (nI n1), .ref mi] : List Value).toArray) rfl (hK.2.1 _ q2508 rfl))
    cases f1.symm.trans e2
    cases f2.symm.trans e1
    exact f3
  rw [nI_clamp (by omega)] at hP hD
  have hP : va_P G.1 zcl [(a0, .inl (G.2.2.1 6, c0, .inr (.inr (.inr (.inr (f0)))))), (q1, .inl (G.2.2.1 6, n1, .inr (.inr (.inr (.inr (va_cpy f0 (fun _ => none) 0 0 (min c0 n1)))))))] H := hP
  have hD : va_D A [(a0, .inl (G.2.2.1 6, c0, .inr (.inr (.inr (.inr (f0)))))), (q1, .inl (G.2.2.1 6, n1, .inr (.inr (.inr (.inr (va_cpy f0 (fun _ => none) 0 0 (min c0 n1)))))))] := hD
  refine lv_aload_n hx hb (show decode cJ12_copyOf_2 38 = .ok (.aload_n 3, 1) by decide +kernel) rfl (lv_at hl 0 rfl) ?_
  have hP9 := hP.sub (ws' := [(a0, .inl (G.2.2.1 6, c0, .inr (.inr (.inr (.inr (f0)))))), (q1, .inl (G.2.2.1 6, n1, .inr (.inr (.inr (.inr (va_cpy f0 (fun _ => none) 0 0 (min c0 n1)))))))]) [0, 1] rfl
  have hD9 := hD.sub (ws' := [(a0, .inl (G.2.2.1 6, c0, .inr (.inr (.inr (.inr (f0)))))), (q1, .inl (G.2.2.1 6, n1, .inr (.inr (.inr (.inr (va_cpy f0 (fun _ => none) 0 0 (min c0 n1)))))))]) [0, 1] (by decide) rfl
  refine W.widen (k := 1) (n := n1) (by first | decide | omega) (by first | decide | omega) ?_
  exact W.aret (v := .ref q1) hx hb hr (Or.inr ⟨_, rfl⟩) (Or.inr ⟨_, rfl⟩) (fun t ht hW => ⟨⟨q1, q1, rfl, trivial, rfl, by rw [ht]; exact hP9, hD9⟩, hS.F ht⟩) hS.2.2 (show decode cJ12_copyOf_2 39 = .ok (.areturn, 1) by decide +kernel)

set_option maxHeartbeats 4000000 in
set_option maxRecDepth 100000 in
theorem rJ12_copyOf_X10 (l : Launch) (G : zG) (d sz : Nat) (a0 : Nat) (c0 : Nat) (f0 : Nat → Option Nat) (n1 : Nat) (mi : Nat) (hc : c0 < 2 ^ 31) (hn : n1 ≤ 40000) : Met l yJ12_copyOf (ws_ yJ12_copyOf cJ12_copyOf 2 (some (.array (.object "java/lang/Object")))) (eRoom (d + 2) 1 n1) (rPx G [.ref a0, .int (nI n1)] [(a0, .inl (G.2.2.1 6, c0, .inr (.inr (.inr (.inr (f0))))))] sz (rEl G f0 c0 10 mi)) (va_Qr (fun _ => True) (fun (q1 : Nat) (ra : Nat) (t : State) => ra = q1 ∧ rB G (fun _ : Unit => [(a0, .inl (G.2.2.1 6, c0, .inr (.inr (.inr (.inr (f0)))))), (q1, .inl (G.2.2.1 6, n1, .inr (.inr (.inr (.inr (va_cpy f0 (fun _ => none) 0 0 (min c0 n1)))))))]) (va_A [(a0, .inl (G.2.2.1 6, c0, .inr (.inr (.inr (.inr (f0))))))] sz) () t) (va_A [(a0, .inl (G.2.2.1 6, c0, .inr (.inr (.inr (.inr (f0))))))] sz)) 1 n1 (va_A [(a0, .inl (G.2.2.1 6, c0, .inr (.inr (.inr (.inr (f0))))))] sz) := by
  refine zMetF (cc := cJ12_copyOf) (maxL := 2) (ret := (some (.array (.object "java/lang/Object")))) (by decide +kernel) rfl ?_
  intro p e s m args below meth c s₁ B hml hv
  obtain ⟨rfl, hsz, hP, hK, hST, hD0, hE⟩ := hv
  have hx := B.exec
  have hb := B.bytes
  have hr := B.returns
  have hts := atoms_spec (ws := ws_ yJ12_copyOf cJ12_copyOf 2 (some (.array (.object "java/lang/Object")))) B.pre
  have hts : ∀ w ∈ lw_all, w.before _ s = true := fun w h => hts w (List.mem_cons_of_mem _ h)
  have hown : s.vm.findClass RJ12 = some m.cls := findClass_of_methodNamed B.named
  have hlocks := B.notSynchronized
  subst hsz
  have hD := hD0.self (sz := s.heap.size)
  generalize hAe : va_A [(a0, .inl (G.2.2.1 6, c0, .inr (.inr (.inr (.inr (f0))))))] s.heap.size = A at hD hST hE ⊢
  have hA : ∀ q : Nat, s.heap.size ≤ q → A q := fun q h => by rw [← hAe]; exact Or.inr h
  have hS : va_S A s.heap s.heap [] := va_S.rf
  have hP : va_P G.1 zcl [(a0, .inl (G.2.2.1 6, c0, .inr (.inr (.inr (.inr (f0))))))] s.heap := hP
  have hl := lv_entry ([.ref a0, .int (nI n1)]) (n := 2) (Nat.le_of_ble_eq_true rfl)
  rw [lg_entry_eq]
  generalize (lg_sl ([.ref a0, .int (nI n1)]) ++ List.replicate (2 - (lg_sl ([.ref a0, .int (nI n1)])).length) Slot.unset).toArray = ls at hl ⊢
  have hl : lv_has ls 2 [(0, .ref a0), (1, .int (nI n1))] := hl
  refine lv_aload_n hx hb (show decode cJ12_copyOf 0 = .ok (.aload_n 0, 1) by decide +kernel) rfl (lv_at hl 0 rfl) ?_
  refine lv_iload_n hx hb (show decode cJ12_copyOf 1 = .ok (.iload_n 1, 1) by decide +kernel) rfl (lv_at hl 1 rfl) ?_
  refine lv_aload_n hx hb (show decode cJ12_copyOf 2 = .ok (.aload_n 0, 1) by decide +kernel) rfl (lv_at hl 0 rfl) ?_
  refine va_getC hx hb (by rw [hml]; exact hl.1.symm) hown (hts _ q886) (va_Dc.use hST.2.2.2.2.2.2.1) (hts _ q2518) (hts _ q887) (hts _ q907) hE.1 (r_recvA hK hP (i := 0) rfl) (Nat.succ_le_succ (Nat.zero_le _)) (by show _ ≤ 48 * (_ + 1); exact Nat.le_trans (Nat.le_of_ble_eq_true rfl) (Nat.le_mul_of_pos_right 48 (Nat.succ_pos _))) (show decode cJ12_copyOf 3 = .ok (.invokevirtual 86, 3) by decide +kernel) ?_
  have hPc := hP.sub (ws' := [(a0, .inl (G.2.2.1 6, c0, .inr (.inr (.inr (.inr (f0))))))]) [0] rfl
  have hDc := hD.sub (ws' := [(a0, .inl (G.2.2.1 6, c0, .inr (.inr (.inr (.inr (f0))))))]) [0] (by decide) rfl
  have hFc := va_free (wc := [(a0, .inl (G.2.2.1 6, c0, .inr (.inr (.inr (.inr (f0))))))]) hD hS hA [0] rfl
  refine va_callr (va_runS (As := [.ref a0, .int (nI n1), .ref mi]) (rest := []) ⟨hx, hb, hml, hown, hts⟩ (rJ12_copyOf_2_X10 l G (d + 0) s.heap.size (a0) (c0) (f0) (n1) (mi) hc hn) (va_cwS 3 hts (lw_S q908 q909 q163 q910) rfl rfl rfl (by decide +kernel) ⟨(rroom (d := d + 1) (mc := 1) (ms := n1) (mc' := 1) (ms' := n1) (mL := 4) (by decide)).1, by first | exact (rroom (d := d + 1) (mc := 1) (ms := n1) (mc' := 1) (ms' := n1) (mL := 4) (by decide)).2⟩) ⟨rxblind rEl_st, rpx rEl_st hE hK hST hS hPc hDc hFc [.ref a0, .int (nI n1), .ref mi]⟩ rfl rfl hl.1 rfl (lv_room (Nat.le_of_ble_eq_true rfl)) (show decode cJ12_copyOf 6 = .ok (.invokestatic 300, 3) by decide +kernel) ⟨by show _ ≤ 1; first | decide | omega, by show _ ≤ n1; first | decide | omega⟩) hS (fun q _ h => hFc q h) hFc (fun u ra_ t H1 locs ht hvm hw hB hz1 hk1 hS => ?_)
  obtain ⟨q1, rfl⟩ : ∃ z, z = u := ⟨_, rfl⟩
  obtain ⟨hra_, hP1, hD1⟩ := hB
  rw [ht] at hP1
  obtain ⟨hP, hD⟩ := va_join (wr := []) (w1 := [(a0, .inl (G.2.2.1 6, c0, .inr (.inr (.inr (.inr (f0)))))), (q1, .inl (G.2.2.1 6, n1, .inr (.inr (.inr (.inr (va_cpy f0 (fun _ => none) 0 0 (min c0 n1)))))))]) hP hD [0] [] rfl rfl (by decide) (by decide) hk1 hFc hP1 hD1
  generalize H1 = H at hP hS ⊢
  have hP : va_P G.1 zcl [(a0, .inl (G.2.2.1 6, c0, .inr (.inr (.inr (.inr (f0)))))), (q1, .inl (G.2.2.1 6, n1, .inr (.inr (.inr (.inr (va_cpy f0 (fun _ => none) 0 0 (min c0 n1)))))))] H := hP
  have hD : va_D A [(a0, .inl (G.2.2.1 6, c0, .inr (.inr (.inr (.inr (f0)))))), (q1, .inl (G.2.2.1 6, n1, .inr (.inr (.inr (.inr (va_cpy f0 (fun _ => none) 0 0 (min c0 n1)))))))] := hD
  have hra_ : ra_ = q1 := hra_
  rw [hra_]
  have hP9 := hP.sub (ws' := [(a0, .inl (G.2.2.1 6, c0, .inr (.inr (.inr (.inr (f0)))))), (q1, .inl (G.2.2.1 6, n1, .inr (.inr (.inr (.inr (va_cpy f0 (fun _ => none) 0 0 (min c0 n1)))))))]) [0, 1] rfl
  have hD9 := hD.sub (ws' := [(a0, .inl (G.2.2.1 6, c0, .inr (.inr (.inr (.inr (f0)))))), (q1, .inl (G.2.2.1 6, n1, .inr (.inr (.inr (.inr (va_cpy f0 (fun _ => none) 0 0 (min c0 n1)))))))]) [0, 1] (by decide) rfl
  refine W.widen (k := 1) (n := n1) (by first | decide | omega) (by first | decide | omega) ?_
  exact W.aret (v := .ref q1) hx hb hr (Or.inr ⟨_, rfl⟩) (Or.inr ⟨_, rfl⟩) (fun t ht hW => ⟨⟨q1, q1, rfl, trivial, rfl, by rw [ht]; exact hP9, hD9⟩, hS.F ht⟩) hS.2.2 (show decode cJ12_copyOf 9 = .ok (.areturn, 1) by decide +kernel)

set_option maxHeartbeats 4000000 in
set_option maxRecDepth 100000 in
theorem rJ12_copyOf_2_X11 (l : Launch) (G : zG) (d sz : Nat) (a0 : Nat) (c0 : Nat) (f0 : Nat → Option Nat) (n1 : Nat) (mi : Nat) (hc : c0 < 2 ^ 31) (hn : n1 ≤ 40000) : Met l yJ12_copyOf_2 (ws_ yJ12_copyOf_2 cJ12_copyOf_2 4 (some (.array (.object "java/lang/Object")))) (eRoom (d + 1) 1 n1) (rPx G [.ref a0, .int (nI n1), .ref mi] [(a0, .inl (G.2.2.1 6, c0, .inr (.inr (.inr (.inr (f0))))))] sz (rEl G f0 c0 11 mi)) (va_Qr (fun _ => True) (fun (q1 : Nat) (ra : Nat) (t : State) => ra = q1 ∧ rB G (fun _ : Unit => [(a0, .inl (G.2.2.1 6, c0, .inr (.inr (.inr (.inr (f0)))))), (q1, .inl (G.2.2.1 6, n1, .inr (.inr (.inr (.inr (va_cpy f0 (fun _ => none) 0 0 (min c0 n1)))))))]) (va_A [(a0, .inl (G.2.2.1 6, c0, .inr (.inr (.inr (.inr (f0))))))] sz) () t) (va_A [(a0, .inl (G.2.2.1 6, c0, .inr (.inr (.inr (.inr (f0))))))] sz)) 1 n1 (va_A [(a0, .inl (G.2.2.1 6, c0, .inr (.inr (.inr (.inr (f0))))))] sz) := by
  refine zMetF (cc := cJ12_copyOf_2) (maxL := 4) (ret := (some (.array (.object "java/lang/Object")))) (by decide +kernel) rfl ?_
  intro p e s m args below meth c s₁ B hml hv
  obtain ⟨rfl, hsz, hP, hK, hST, hD0, hE⟩ := hv
  have hx := B.exec
  have hb := B.bytes
  have hr := B.returns
  have hts := atoms_spec (ws := ws_ yJ12_copyOf_2 cJ12_copyOf_2 4 (some (.array (.object "java/lang/Object")))) B.pre
  have hts : ∀ w ∈ lw_all, w.before _ s = true := fun w h => hts w (List.mem_cons_of_mem _ h)
  have hown : s.vm.findClass RJ12 = some m.cls := findClass_of_methodNamed B.named
  have hlocks := B.notSynchronized
  subst hsz
  have hD := hD0.self (sz := s.heap.size)
  generalize hAe : va_A [(a0, .inl (G.2.2.1 6, c0, .inr (.inr (.inr (.inr (f0))))))] s.heap.size = A at hD hST hE ⊢
  have hA : ∀ q : Nat, s.heap.size ≤ q → A q := fun q h => by rw [← hAe]; exact Or.inr h
  have hS : va_S A s.heap s.heap [] := va_S.rf
  have hP : va_P G.1 zcl [(a0, .inl (G.2.2.1 6, c0, .inr (.inr (.inr (.inr (f0))))))] s.heap := hP
  have hl := lv_entry ([.ref a0, .int (nI n1), .ref mi]) (n := 4) (Nat.le_of_ble_eq_true rfl)
  rw [lg_entry_eq]
  generalize (lg_sl ([.ref a0, .int (nI n1), .ref mi]) ++ List.replicate (4 - (lg_sl ([.ref a0, .int (nI n1), .ref mi])).length) Slot.unset).toArray = ls at hl ⊢
  have hl : lv_has ls 4 [(0, .ref a0), (1, .int (nI n1)), (2, .ref mi)] := hl
  refine lv_aload_n hx hb (show decode cJ12_copyOf_2 0 = .ok (.aload_n 2, 1) by decide +kernel) rfl (lv_at hl 2 rfl) ?_
  refine va_ldcM hx hb hown (hts _ q911) hE.1 (show decode cJ12_copyOf_2 1 = .ok (.ldc 110, 2) by decide +kernel) ?_
  refine lv_acmp_ne (rx := some (mi)) (ry := some (mi)) (tgt := 13) hx hb (show decode cJ12_copyOf_2 3 = .ok (.if_acmp .ne 10, 3) by decide +kernel) (by decide) (fun cnd_ => absurd rfl cnd_) (fun cnd_ => ?_)
  refine lv_iload_n hx hb (show decode cJ12_copyOf_2 6 = .ok (.iload_n 1, 1) by decide +kernel) rfl (lv_at hl 1 rfl) ?_
  refine r_newq hx hb hown (hts _ q912) hST.2.2.1 6 rfl hK hP hD hS hA (nI_pos (by omega)) (nI_clamp (by omega)) (by omega) (by show _ ≤ 1; first | decide | omega) (by show _ ≤ n1; first | decide | omega) (show decode cJ12_copyOf_2 7 = .ok (.anewarray 2, 3) by decide +kernel) (fun q1 H locs hP hD hS => ?_)
  have hP : va_P G.1 zcl [(a0, .inl (G.2.2.1 6, c0, .inr (.inr (.inr (.inr (f0)))))), (q1, .inl (G.2.2.1 6, n1, .inr (.inr (.inr (.inr (fun _ => none))))))] H := hP
  have hD : va_D A [(a0, .inl (G.2.2.1 6, c0, .inr (.inr (.inr (.inr (f0)))))), (q1, .inl (G.2.2.1 6, n1, .inr (.inr (.inr (.inr (fun _ => none))))))] := hD
  refine lv_goto (tgt := 24) hx hb (show decode cJ12_copyOf_2 10 = .ok (.goto 14, 3) by decide +kernel) (by decide) ?_
  refine lv_astore_n hx hb (show decode cJ12_copyOf_2 24 = .ok (.astore_n 3, 1) by decide +kernel) rfl hl (by decide) rfl (fun ls hl => ?_)
  have hl : lv_has ls 4 [(3, .ref q1), (0, .ref a0), (1, .int (nI n1)), (2, .ref mi)] := hl
  refine lv_aload_n hx hb (show decode cJ12_copyOf_2 25 = .ok (.aload_n 0, 1) by decide +kernel) rfl (lv_at hl 1 rfl) ?_
  refine lv_iconst (v := 0) hx hb (show decode cJ12_copyOf_2 26 = .ok (.iconst 0, 1) by decide +kernel) (by decide) ?_
  refine lv_aload_n hx hb (show decode cJ12_copyOf_2 27 = .ok (.aload_n 3, 1) by decide +kernel) rfl (lv_at hl 0 rfl) ?_
  refine lv_iconst (v := 0) hx hb (show decode cJ12_copyOf_2 28 = .ok (.iconst 0, 1) by decide +kernel) (by decide) ?_
  refine lv_aload_n hx hb (show decode cJ12_copyOf_2 29 = .ok (.aload_n 0, 1) by decide +kernel) rfl (lv_at hl 1 rfl) ?_
  refine va_alen (v := nI c0) hx hb hK.1 hP 0 6 rfl rfl rfl (show decode cJ12_copyOf_2 30 = .ok (.arraylength, 1) by decide +kernel) ?_
  refine lv_iload_n hx hb (show decode cJ12_copyOf_2 31 = .ok (.iload_n 1, 1) by decide +kernel) rfl (lv_at hl 2 rfl) ?_
  refine va_mmin hx hb (by rw [hml]; exact hl.1.symm) hown (hts _ q913) (hts _ q668) (hts _ q152) (hts _ q669) (Nat.succ_le_succ (Nat.zero_le _)) (by show _ ≤ 48 * (_ + 1); exact Nat.le_trans (Nat.le_of_ble_eq_true rfl) (Nat.le_mul_of_pos_right 48 (Nat.succ_pos _))) (by show _ ≤ 1; decide) (by show _ ≤ n1; omega) (show decode cJ12_copyOf_2 32 = .ok (.invokestatic 304, 3) by decide +kernel) ?_
  rw [show (if nI n1 < nI c0 then nI n1 else nI c0) = nI (min c0 n1) from rmin (by omega) (by omega)]
  refine va_copyq (C := RX11) hx hb (by rw [hml]; exact hl.1.symm) hown (hts _ q914) (hts _ q375) (hts _ q374) (hts _ q164) hK.1 hP hD hS 0 1 6 6 rfl rfl rfl rfl (by decide) (by decide) (nI_pos (by omega)) (by rw [nI_clamp (by omega)]; show 0 + _ ≤ c0; omega) (by rw [nI_clamp (by omega)]; show 0 + _ ≤ n1; omega) (fun i hi y hy => ?_) (fun comp c9 e1 e2 => ?_) (Nat.succ_le_succ (Nat.zero_le _)) (by show _ ≤ 48 * (_ + 1); exact Nat.le_trans (Nat.le_of_ble_eq_true rfl) (Nat.le_mul_of_pos_right 48 (Nat.succ_pos _))) (show decode cJ12_copyOf_2 35 = .ok (.invokestatic 150, 3) by decide +kernel) (fun H locs hP hD hS => ?_)
  · rw [nI_clamp (by omega)] at hi
    obtain ⟨g1, cell, g2, g3, g4⟩ := hE.2 i (by omega) y (by rw [show i = (0 : Int32).toNatClampNeg + i from (Nat.zero_add i).symm]; exact hy)
    exact ⟨cell, by rw [hS.2.1 y (Array.getElem?_eq_some_iff.mp g2).1 g1]; exact g2, g3, by rw [g4]; exact (hK.1.1 11 _ rfl).2.1⟩
  · obtain ⟨d0, d1, f1, f2, f3⟩ := Cond.castable_spec (va_Nw.use (A := ([.ref a0, .int (nI n1), .ref mi] : List Value).toArray) rfl (hK.2.1 _ q2509 rfl))
    cases f1.symm.trans e2
    cases f2.symm.trans e1
    exact f3
  rw [nI_clamp (by omega)] at hP hD
  have hP : va_P G.1 zcl [(a0, .inl (G.2.2.1 6, c0, .inr (.inr (.inr (.inr (f0)))))), (q1, .inl (G.2.2.1 6, n1, .inr (.inr (.inr (.inr (va_cpy f0 (fun _ => none) 0 0 (min c0 n1)))))))] H := hP
  have hD : va_D A [(a0, .inl (G.2.2.1 6, c0, .inr (.inr (.inr (.inr (f0)))))), (q1, .inl (G.2.2.1 6, n1, .inr (.inr (.inr (.inr (va_cpy f0 (fun _ => none) 0 0 (min c0 n1)))))))] := hD
  refine lv_aload_n hx hb (show decode cJ12_copyOf_2 38 = .ok (.aload_n 3, 1) by decide +kernel) rfl (lv_at hl 0 rfl) ?_
  have hP9 := hP.sub (ws' := [(a0, .inl (G.2.2.1 6, c0, .inr (.inr (.inr (.inr (f0)))))), (q1, .inl (G.2.2.1 6, n1, .inr (.inr (.inr (.inr (va_cpy f0 (fun _ => none) 0 0 (min c0 n1)))))))]) [0, 1] rfl
  have hD9 := hD.sub (ws' := [(a0, .inl (G.2.2.1 6, c0, .inr (.inr (.inr (.inr (f0)))))), (q1, .inl (G.2.2.1 6, n1, .inr (.inr (.inr (.inr (va_cpy f0 (fun _ => none) 0 0 (min c0 n1)))))))]) [0, 1] (by decide) rfl
  refine W.widen (k := 1) (n := n1) (by first | decide | omega) (by first | decide | omega) ?_
  exact W.aret (v := .ref q1) hx hb hr (Or.inr ⟨_, rfl⟩) (Or.inr ⟨_, rfl⟩) (fun t ht hW => ⟨⟨q1, q1, rfl, trivial, rfl, by rw [ht]; exact hP9, hD9⟩, hS.F ht⟩) hS.2.2 (show decode cJ12_copyOf_2 39 = .ok (.areturn, 1) by decide +kernel)

set_option maxHeartbeats 4000000 in
set_option maxRecDepth 100000 in
theorem rJ12_copyOf_X11 (l : Launch) (G : zG) (d sz : Nat) (a0 : Nat) (c0 : Nat) (f0 : Nat → Option Nat) (n1 : Nat) (mi : Nat) (hc : c0 < 2 ^ 31) (hn : n1 ≤ 40000) : Met l yJ12_copyOf (ws_ yJ12_copyOf cJ12_copyOf 2 (some (.array (.object "java/lang/Object")))) (eRoom (d + 2) 1 n1) (rPx G [.ref a0, .int (nI n1)] [(a0, .inl (G.2.2.1 6, c0, .inr (.inr (.inr (.inr (f0))))))] sz (rEl G f0 c0 11 mi)) (va_Qr (fun _ => True) (fun (q1 : Nat) (ra : Nat) (t : State) => ra = q1 ∧ rB G (fun _ : Unit => [(a0, .inl (G.2.2.1 6, c0, .inr (.inr (.inr (.inr (f0)))))), (q1, .inl (G.2.2.1 6, n1, .inr (.inr (.inr (.inr (va_cpy f0 (fun _ => none) 0 0 (min c0 n1)))))))]) (va_A [(a0, .inl (G.2.2.1 6, c0, .inr (.inr (.inr (.inr (f0))))))] sz) () t) (va_A [(a0, .inl (G.2.2.1 6, c0, .inr (.inr (.inr (.inr (f0))))))] sz)) 1 n1 (va_A [(a0, .inl (G.2.2.1 6, c0, .inr (.inr (.inr (.inr (f0))))))] sz) := by
  refine zMetF (cc := cJ12_copyOf) (maxL := 2) (ret := (some (.array (.object "java/lang/Object")))) (by decide +kernel) rfl ?_
  intro p e s m args below meth c s₁ B hml hv
  obtain ⟨rfl, hsz, hP, hK, hST, hD0, hE⟩ := hv
  have hx := B.exec
  have hb := B.bytes
  have hr := B.returns
  have hts := atoms_spec (ws := ws_ yJ12_copyOf cJ12_copyOf 2 (some (.array (.object "java/lang/Object")))) B.pre
  have hts : ∀ w ∈ lw_all, w.before _ s = true := fun w h => hts w (List.mem_cons_of_mem _ h)
  have hown : s.vm.findClass RJ12 = some m.cls := findClass_of_methodNamed B.named
  have hlocks := B.notSynchronized
  subst hsz
  have hD := hD0.self (sz := s.heap.size)
  generalize hAe : va_A [(a0, .inl (G.2.2.1 6, c0, .inr (.inr (.inr (.inr (f0))))))] s.heap.size = A at hD hST hE ⊢
  have hA : ∀ q : Nat, s.heap.size ≤ q → A q := fun q h => by rw [← hAe]; exact Or.inr h
  have hS : va_S A s.heap s.heap [] := va_S.rf
  have hP : va_P G.1 zcl [(a0, .inl (G.2.2.1 6, c0, .inr (.inr (.inr (.inr (f0))))))] s.heap := hP
  have hl := lv_entry ([.ref a0, .int (nI n1)]) (n := 2) (Nat.le_of_ble_eq_true rfl)
  rw [lg_entry_eq]
  generalize (lg_sl ([.ref a0, .int (nI n1)]) ++ List.replicate (2 - (lg_sl ([.ref a0, .int (nI n1)])).length) Slot.unset).toArray = ls at hl ⊢
  have hl : lv_has ls 2 [(0, .ref a0), (1, .int (nI n1))] := hl
  refine lv_aload_n hx hb (show decode cJ12_copyOf 0 = .ok (.aload_n 0, 1) by decide +kernel) rfl (lv_at hl 0 rfl) ?_
  refine lv_iload_n hx hb (show decode cJ12_copyOf 1 = .ok (.iload_n 1, 1) by decide +kernel) rfl (lv_at hl 1 rfl) ?_
  refine lv_aload_n hx hb (show decode cJ12_copyOf 2 = .ok (.aload_n 0, 1) by decide +kernel) rfl (lv_at hl 0 rfl) ?_
  refine va_getC hx hb (by rw [hml]; exact hl.1.symm) hown (hts _ q886) (va_Dc.use hST.2.2.2.2.2.2.1) (hts _ q2518) (hts _ q887) (hts _ q907) hE.1 (r_recvA hK hP (i := 0) rfl) (Nat.succ_le_succ (Nat.zero_le _)) (by show _ ≤ 48 * (_ + 1); exact Nat.le_trans (Nat.le_of_ble_eq_true rfl) (Nat.le_mul_of_pos_right 48 (Nat.succ_pos _))) (show decode cJ12_copyOf 3 = .ok (.invokevirtual 86, 3) by decide +kernel) ?_
  have hPc := hP.sub (ws' := [(a0, .inl (G.2.2.1 6, c0, .inr (.inr (.inr (.inr (f0))))))]) [0] rfl
  have hDc := hD.sub (ws' := [(a0, .inl (G.2.2.1 6, c0, .inr (.inr (.inr (.inr (f0))))))]) [0] (by decide) rfl
  have hFc := va_free (wc := [(a0, .inl (G.2.2.1 6, c0, .inr (.inr (.inr (.inr (f0))))))]) hD hS hA [0] rfl
  refine va_callr (va_runS (As := [.ref a0, .int (nI n1), .ref mi]) (rest := []) ⟨hx, hb, hml, hown, hts⟩ (rJ12_copyOf_2_X11 l G (d + 0) s.heap.size (a0) (c0) (f0) (n1) (mi) hc hn) (va_cwS 3 hts (lw_S q908 q909 q163 q910) rfl rfl rfl (by decide +kernel) ⟨(rroom (d := d + 1) (mc := 1) (ms := n1) (mc' := 1) (ms' := n1) (mL := 4) (by decide)).1, by first | exact (rroom (d := d + 1) (mc := 1) (ms := n1) (mc' := 1) (ms' := n1) (mL := 4) (by decide)).2⟩) ⟨rxblind rEl_st, rpx rEl_st hE hK hST hS hPc hDc hFc [.ref a0, .int (nI n1), .ref mi]⟩ rfl rfl hl.1 rfl (lv_room (Nat.le_of_ble_eq_true rfl)) (show decode cJ12_copyOf 6 = .ok (.invokestatic 300, 3) by decide +kernel) ⟨by show _ ≤ 1; first | decide | omega, by show _ ≤ n1; first | decide | omega⟩) hS (fun q _ h => hFc q h) hFc (fun u ra_ t H1 locs ht hvm hw hB hz1 hk1 hS => ?_)
  obtain ⟨q1, rfl⟩ : ∃ z, z = u := ⟨_, rfl⟩
  obtain ⟨hra_, hP1, hD1⟩ := hB
  rw [ht] at hP1
  obtain ⟨hP, hD⟩ := va_join (wr := []) (w1 := [(a0, .inl (G.2.2.1 6, c0, .inr (.inr (.inr (.inr (f0)))))), (q1, .inl (G.2.2.1 6, n1, .inr (.inr (.inr (.inr (va_cpy f0 (fun _ => none) 0 0 (min c0 n1)))))))]) hP hD [0] [] rfl rfl (by decide) (by decide) hk1 hFc hP1 hD1
  generalize H1 = H at hP hS ⊢
  have hP : va_P G.1 zcl [(a0, .inl (G.2.2.1 6, c0, .inr (.inr (.inr (.inr (f0)))))), (q1, .inl (G.2.2.1 6, n1, .inr (.inr (.inr (.inr (va_cpy f0 (fun _ => none) 0 0 (min c0 n1)))))))] H := hP
  have hD : va_D A [(a0, .inl (G.2.2.1 6, c0, .inr (.inr (.inr (.inr (f0)))))), (q1, .inl (G.2.2.1 6, n1, .inr (.inr (.inr (.inr (va_cpy f0 (fun _ => none) 0 0 (min c0 n1)))))))] := hD
  have hra_ : ra_ = q1 := hra_
  rw [hra_]
  have hP9 := hP.sub (ws' := [(a0, .inl (G.2.2.1 6, c0, .inr (.inr (.inr (.inr (f0)))))), (q1, .inl (G.2.2.1 6, n1, .inr (.inr (.inr (.inr (va_cpy f0 (fun _ => none) 0 0 (min c0 n1)))))))]) [0, 1] rfl
  have hD9 := hD.sub (ws' := [(a0, .inl (G.2.2.1 6, c0, .inr (.inr (.inr (.inr (f0)))))), (q1, .inl (G.2.2.1 6, n1, .inr (.inr (.inr (.inr (va_cpy f0 (fun _ => none) 0 0 (min c0 n1)))))))]) [0, 1] (by decide) rfl
  refine W.widen (k := 1) (n := n1) (by first | decide | omega) (by first | decide | omega) ?_
  exact W.aret (v := .ref q1) hx hb hr (Or.inr ⟨_, rfl⟩) (Or.inr ⟨_, rfl⟩) (fun t ht hW => ⟨⟨q1, q1, rfl, trivial, rfl, by rw [ht]; exact hP9, hD9⟩, hS.F ht⟩) hS.2.2 (show decode cJ12_copyOf 9 = .ok (.areturn, 1) by decide +kernel)

