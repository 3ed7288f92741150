/-! RAW: makers, lists -/
set_option maxHeartbeats 4000000 in
set_option maxRecDepth 100000 in
theorem rJ11_newLength (l : Launch) (G : zG) (d sz : Nat) (c0 : Nat) (p0 : Nat) (hc : c0 ≤ 20000) (hp : p0 ≤ 20000) (hp1 : 1 ≤ p0) : Met l yJ11_newLength (ws_ yJ11_newLength cJ11_newLength 4 (some .int)) (eRoom (d + 1) 0 0) (rPc G [.int (nI c0), .int (nI 1), .int (nI p0)] [] sz) (va_Qi (fun (r : Int32) _ => r = nI (c0 + p0)) (rB G (fun _ : Unit => []) (va_A [] sz)) (va_A [] sz)) 0 0 (va_A [] sz) := by
  refine Met.ofW (cc := cJ11_newLength) (maxL := 4) (ret := (some .int)) (by decide) rfl ?_
  intro p e s m args below meth c s₁ B hml hv
  obtain ⟨rfl, hsz, hP, hK, hST, hD0⟩ := hv
  have hx := B.exec
  have hb := B.bytes
  have hr := B.returns
  have hts := atoms_spec (ws := ws_ yJ11_newLength cJ11_newLength 4 (some .int)) B.pre
  have hts : ∀ w ∈ lw_all, w.before _ s = true := fun w h => hts w (List.mem_cons_of_mem _ h)
  have hown : s.vm.findClass RJ11 = some m.cls := findClass_of_methodNamed B.named
  have hlocks := B.notSynchronized
  subst hsz
  have hD := hD0.self (sz := s.heap.size)
  generalize hAe : va_A [] s.heap.size = A at hD hST ⊢
  have hA : ∀ q : Nat, s.heap.size ≤ q → A q := fun q h => by rw [← hAe]; exact Or.inr h
  have hS : va_S A s.heap s.heap [] := va_S.rf
  have hP : va_P G.1 zcl [] s.heap := hP
  have hl := lv_entry ([.int (nI c0), .int (nI 1), .int (nI p0)]) (n := 4) (Nat.le_of_ble_eq_true rfl)
  rw [lg_entry_eq]
  generalize (lg_sl ([.int (nI c0), .int (nI 1), .int (nI p0)]) ++ List.replicate (4 - (lg_sl ([.int (nI c0), .int (nI 1), .int (nI p0)])).length) Slot.unset).toArray = ls at hl ⊢
  have hl : lv_has ls 4 [(0, .int (nI c0)), (1, .int (nI 1)), (2, .int (nI p0))] := hl
  refine lv_iload_n hx hb (show decode cJ11_newLength 0 = .ok (.iload_n 0, 1) by decide +kernel) rfl (lv_at hl 0 rfl) ?_
  refine lv_iload_n hx hb (show decode cJ11_newLength 1 = .ok (.iload_n 1, 1) by decide +kernel) rfl (lv_at hl 1 rfl) ?_
  refine lv_iload_n hx hb (show decode cJ11_newLength 2 = .ok (.iload_n 2, 1) by decide +kernel) rfl (lv_at hl 2 rfl) ?_
  refine va_mmax hx hb (by rw [hml]; exact hl.1.symm) hown (hts _ q876) (hts _ q877) (hts _ q152) (hts _ q878) (Nat.succ_le_succ (Nat.zero_le _)) (by show _ ≤ 48 * (_ + 1); exact Nat.le_trans (Nat.le_of_ble_eq_true rfl) (Nat.le_mul_of_pos_right 48 (Nat.succ_pos _))) (by show _ ≤ 0; decide) (by show _ ≤ 0; decide) (show decode cJ11_newLength 3 = .ok (.invokestatic 194, 3) by decide +kernel) ?_
  rw [show (if nI 1 < nI p0 then nI p0 else nI 1) = nI p0 from rmax1 hp1 (by omega)]
  refine lv_iadd hx hb (show decode cJ11_newLength 6 = .ok (.iadd, 1) by decide +kernel) ?_
  refine lv_topi (fun yy_ ey_ => ?_)
  obtain rfl : yy_ = nI (c0 + p0) := ey_.trans (nI_add _ _)
  refine lv_istore_n hx hb (show decode cJ11_newLength 7 = .ok (.istore_n 3, 1) by decide +kernel) rfl hl (by decide) rfl (fun ls hl => ?_)
  have hl : lv_has ls 4 [(3, .int (nI (c0 + p0))), (0, .int (nI c0)), (1, .int (nI 1)), (2, .int (nI p0))] := hl
  refine lv_iconst (v := 0) hx hb (show decode cJ11_newLength 8 = .ok (.iconst 0, 1) by decide +kernel) (by decide) ?_
  refine lv_iload_n hx hb (show decode cJ11_newLength 9 = .ok (.iload_n 3, 1) by decide +kernel) rfl (lv_at hl 0 rfl) ?_
  refine lv_icmp_ge (tgt := 21) hx hb (show decode cJ11_newLength 10 = .ok (.if_icmp .ge 11, 3) by decide +kernel) (by decide) (fun cnd_ => absurd cnd_ (by rw [show (0 : Int32) = nI 0 from rfl, nI_leI (by omega) (by decide)]; omega)) (fun cnd_ => ?_)
  refine lv_iload_n hx hb (show decode cJ11_newLength 13 = .ok (.iload_n 3, 1) by decide +kernel) rfl (lv_at hl 0 rfl) ?_
  refine lv_ldc hx hb hown (hts _ q879) (show decode cJ11_newLength 14 = .ok (.ldc 200, 2) by decide +kernel) ?_
  refine lv_icmp_gt (tgt := 21) hx hb (show decode cJ11_newLength 16 = .ok (.if_icmp .gt 5, 3) by decide +kernel) (by decide) (fun cnd_ => absurd cnd_ (by rw [show (2147483639 : Int32) = nI 2147483639 from rfl, nI_ltI (by decide) (by omega)]; omega)) (fun cnd_ => ?_)
  refine lv_iload_n hx hb (show decode cJ11_newLength 19 = .ok (.iload_n 3, 1) by decide +kernel) rfl (lv_at hl 0 rfl) ?_
  have hP9 := hP.sub (ws' := []) [] rfl
  have hD9 := hD.sub (ws' := []) [] (by decide) rfl
  exact W.iret (v := (nI (c0 + p0))) hx hb hr (fun t ht hW => ⟨⟨(nI (c0 + p0)), (), rfl, rfl, by rw [ht]; exact hP9, hD9⟩, hS.F ht⟩) hS.2.2 (show decode cJ11_newLength 20 = .ok (.ireturn, 1) by decide +kernel)

set_option maxHeartbeats 4000000 in
set_option maxRecDepth 100000 in
theorem rJ2_grow_2_g (l : Launch) (G : zG) (d sz : Nat) (h0 : Nat) (a0 : Nat) (m0 : Int32) (c0 : Nat) (f0 : Nat → Option Nat) (mi : Nat) (hc : c0 ≤ 20000) (hc2 : 10 ≤ c0) : Met l yJ2_grow_2 (ws_ yJ2_grow_2 cJ2_grow_2 4 (some (.array (.object "java/lang/Object")))) (eRoom (d + 3) 1 (c0 + c0 / 2)) (rPx G [.ref h0, .int (nI (c0 + 1))] [(h0, .inr (12, [.int m0, .ref a0, .int (nI c0)])), (a0, .inl (G.2.2.1 6, c0, .inr (.inr (.inr (.inr (f0))))))] sz (rEl G f0 c0 11 mi)) (va_Qr (fun _ => True) (fun (q1 : Nat) (ra : Nat) (t : State) => ra = q1 ∧ rB G (fun _ : Unit => [(h0, .inr (12, [.int m0, .ref q1, .int (nI c0)])), (a0, .inl (G.2.2.1 6, c0, .inr (.inr (.inr (.inr (f0)))))), (q1, .inl (G.2.2.1 6, (c0 + c0 / 2), .inr (.inr (.inr (.inr (va_cpy f0 (fun _ => none) 0 0 (min c0 (c0 + c0 / 2))))))))]) (va_A [(h0, .inr (12, [.int m0, .ref a0, .int (nI c0)])), (a0, .inl (G.2.2.1 6, c0, .inr (.inr (.inr (.inr (f0))))))] sz) () t) (va_A [(h0, .inr (12, [.int m0, .ref a0, .int (nI c0)])), (a0, .inl (G.2.2.1 6, c0, .inr (.inr (.inr (.inr (f0))))))] sz)) 1 (c0 + c0 / 2) (va_A [(h0, .inr (12, [.int m0, .ref a0, .int (nI c0)])), (a0, .inl (G.2.2.1 6, c0, .inr (.inr (.inr (.inr (f0))))))] sz) := by
  refine zMetF (cc := cJ2_grow_2) (maxL := 4) (ret := (some (.array (.object "java/lang/Object")))) (by decide +kernel) rfl ?_
  intro p e s m args below meth c s₁ B hml hv
  obtain ⟨rfl, hsz, hP, hK, hST, hD0, hE⟩ := hv
  have hx := B.exec
  have hb := B.bytes
  have hr := B.returns
  have hts := atoms_spec (ws := ws_ yJ2_grow_2 cJ2_grow_2 4 (some (.array (.object "java/lang/Object")))) B.pre
  have hts : ∀ w ∈ lw_all, w.before _ s = true := fun w h => hts w (List.mem_cons_of_mem _ h)
  have hown : s.vm.findClass RJ2 = some m.cls := findClass_of_methodNamed B.named
  have hlocks := B.notSynchronized
  subst hsz
  have hD := hD0.self (sz := s.heap.size)
  generalize hAe : va_A [(h0, .inr (12, [.int m0, .ref a0, .int (nI c0)])), (a0, .inl (G.2.2.1 6, c0, .inr (.inr (.inr (.inr (f0))))))] s.heap.size = A at hD hST hE ⊢
  have hA : ∀ q : Nat, s.heap.size ≤ q → A q := fun q h => by rw [← hAe]; exact Or.inr h
  have hS : va_S A s.heap s.heap [] := va_S.rf
  have hP : va_P G.1 zcl [(h0, .inr (12, [.int m0, .ref a0, .int (nI c0)])), (a0, .inl (G.2.2.1 6, c0, .inr (.inr (.inr (.inr (f0))))))] s.heap := hP
  have hl := lv_entry ([.ref h0, .int (nI (c0 + 1))]) (n := 4) (Nat.le_of_ble_eq_true rfl)
  rw [lg_entry_eq]
  generalize (lg_sl ([.ref h0, .int (nI (c0 + 1))]) ++ List.replicate (4 - (lg_sl ([.ref h0, .int (nI (c0 + 1))])).length) Slot.unset).toArray = ls at hl ⊢
  have hl : lv_has ls 4 [(0, .ref h0), (1, .int (nI (c0 + 1)))] := hl
  refine lv_aload_n hx hb (show decode cJ2_grow_2 0 = .ok (.aload_n 0, 1) by decide +kernel) rfl (lv_at hl 0 rfl) ?_
  refine va_get (D := G.1) (ci := 12) (v := .ref a0) (C := RJ2) (T := TJ2) (N := 3) hx hb hts in_J2 hown hK.1 hP 0 rfl rfl 1 (by decide) (hts _ q415) (fun _ h9 => h9) rfl (show decode cJ2_grow_2 1 = .ok (.getfield 9, 3) by decide +kernel) ?_
  refine va_alen (v := nI c0) hx hb hK.1 hP 1 6 rfl rfl rfl (show decode cJ2_grow_2 4 = .ok (.arraylength, 1) by decide +kernel) ?_
  refine lv_istore_n hx hb (show decode cJ2_grow_2 5 = .ok (.istore_n 2, 1) by decide +kernel) rfl hl (by decide) rfl (fun ls hl => ?_)
  have hl : lv_has ls 4 [(2, .int (nI c0)), (0, .ref h0), (1, .int (nI (c0 + 1)))] := hl
  refine lv_iload_n hx hb (show decode cJ2_grow_2 6 = .ok (.iload_n 2, 1) by decide +kernel) rfl (lv_at hl 0 rfl) ?_
  refine lv_if_gt (tgt := 20) hx hb (show decode cJ2_grow_2 7 = .ok (.ifCond .gt 13, 3) by decide +kernel) (by decide) (fun cnd_ => ?_) (fun cnd_ => absurd (nI_lt (a := 0) (b := c0) (by omega) (by omega)) cnd_)
  refine lv_iload_n hx hb (show decode cJ2_grow_2 20 = .ok (.iload_n 2, 1) by decide +kernel) rfl (lv_at hl 0 rfl) ?_
  refine lv_iload_n hx hb (show decode cJ2_grow_2 21 = .ok (.iload_n 1, 1) by decide +kernel) rfl (lv_at hl 2 rfl) ?_
  refine lv_iload_n hx hb (show decode cJ2_grow_2 22 = .ok (.iload_n 2, 1) by decide +kernel) rfl (lv_at hl 0 rfl) ?_
  refine lv_isub hx hb (show decode cJ2_grow_2 23 = .ok (.isub, 1) by decide +kernel) ?_
  refine lv_topi (fun yy_ ey_ => ?_)
  obtain rfl : yy_ = nI 1 := ey_.trans (rsub1)
  refine lv_iload_n hx hb (show decode cJ2_grow_2 24 = .ok (.iload_n 2, 1) by decide +kernel) rfl (lv_at hl 0 rfl) ?_
  refine lv_iconst (v := 1) hx hb (show decode cJ2_grow_2 25 = .ok (.iconst 1, 1) by decide +kernel) (by decide) ?_
  refine lv_ishr hx hb (show decode cJ2_grow_2 26 = .ok (.ishr, 1) by decide +kernel) ?_
  refine lv_topi (fun yy_ ey_ => ?_)
  obtain rfl : yy_ = nI (c0 / 2) := ey_.trans (rhalf (by omega))
  have hPc := hP.sub (ws' := []) [] rfl
  have hDc := hD.sub (ws' := []) [] (by decide) rfl
  have hFc := va_free (wc := []) hD hS hA [] rfl
  refine va_calli (va_runS (As := [.int (nI c0), .int (nI 1), .int (nI (c0 / 2))]) (rest := []) ⟨hx, hb, hml, hown, hts⟩ (rJ11_newLength l G (d + 1) s.heap.size (c0) (c0 / 2) hc (by omega) (by omega)) (va_cwS 3 hts (lw_S q873 q874 q162 q875) rfl rfl rfl (by decide +kernel) ⟨(rroom (d := d + 2) (mc := 1) (ms := (c0 + c0 / 2)) (mc' := 0) (ms' := 0) (mL := 4) (by decide)).1, by first | exact (rroom (d := d + 2) (mc := 1) (ms := (c0 + c0 / 2)) (mc' := 0) (ms' := 0) (mL := 4) (by decide)).2⟩) ⟨rblind, rpc hK hST hS hPc hDc hFc [.int (nI c0), .int (nI 1), .int (nI (c0 / 2))]⟩ rfl rfl hl.1 rfl (lv_room (Nat.le_of_ble_eq_true rfl)) (show decode cJ2_grow_2 27 = .ok (.invokestatic 73, 3) by decide +kernel) ⟨by show _ ≤ 1; first | decide | omega, by show _ ≤ c0 + c0 / 2; first | decide | omega⟩) hS (fun q _ h => hFc q h) hFc (fun r_ u t H1 locs ht hvm hw hB hz1 hk1 hS => ?_)
  obtain ⟨hP1, hD1⟩ := hB
  rw [ht] at hP1
  obtain ⟨hP, hD⟩ := va_join (wr := [(h0, .inr (12, [.int m0, .ref a0, .int (nI c0)])), (a0, .inl (G.2.2.1 6, c0, .inr (.inr (.inr (.inr (f0))))))]) (w1 := []) hP hD [] [0, 1] rfl rfl (by decide) (by decide) hk1 hFc hP1 hD1
  generalize H1 = H at hP hS ⊢
  have hP : va_P G.1 zcl [(h0, .inr (12, [.int m0, .ref a0, .int (nI c0)])), (a0, .inl (G.2.2.1 6, c0, .inr (.inr (.inr (.inr (f0))))))] H := hP
  have hD : va_D A [(h0, .inr (12, [.int m0, .ref a0, .int (nI c0)])), (a0, .inl (G.2.2.1 6, c0, .inr (.inr (.inr (.inr (f0))))))] := hD
  obtain rfl := hw
  refine lv_istore_n hx hb (show decode cJ2_grow_2 30 = .ok (.istore_n 3, 1) by decide +kernel) rfl hl (by decide) rfl (fun ls hl => ?_)
  have hl : lv_has ls 4 [(3, .int (nI (c0 + c0 / 2))), (2, .int (nI c0)), (0, .ref h0), (1, .int (nI (c0 + 1)))] := hl
  refine lv_aload_n hx hb (show decode cJ2_grow_2 31 = .ok (.aload_n 0, 1) by decide +kernel) rfl (lv_at hl 2 rfl) ?_
  refine lv_aload_n hx hb (show decode cJ2_grow_2 32 = .ok (.aload_n 0, 1) by decide +kernel) rfl (lv_at hl 2 rfl) ?_
  refine va_get (D := G.1) (ci := 12) (v := .ref a0) (C := RJ2) (T := TJ2) (N := 3) hx hb hts in_J2 hown hK.1 hP 0 rfl rfl 1 (by decide) (hts _ q415) (fun _ h9 => h9) rfl (show decode cJ2_grow_2 33 = .ok (.getfield 9, 3) by decide +kernel) ?_
  refine lv_iload_n hx hb (show decode cJ2_grow_2 36 = .ok (.iload_n 3, 1) by decide +kernel) rfl (lv_at hl 0 rfl) ?_
  have hPc := hP.sub (ws' := [(a0, .inl (G.2.2.1 6, c0, .inr (.inr (.inr (.inr (f0))))))]) [1] rfl
  have hDc := hD.sub (ws' := [(a0, .inl (G.2.2.1 6, c0, .inr (.inr (.inr (.inr (f0))))))]) [1] (by decide) rfl
  have hFc := va_free (wc := [(a0, .inl (G.2.2.1 6, c0, .inr (.inr (.inr (.inr (f0))))))]) hD hS hA [1] rfl
  refine va_callr (va_runS (As := [.ref a0, .int (nI (c0 + c0 / 2))]) (rest := [.ref h0]) ⟨hx, hb, hml, hown, hts⟩ (rJ12_copyOf_X11 l G (d + 0) H.size (a0) (c0) (f0) (c0 + c0 / 2) (mi) (by omega) (by omega)) (va_cwS 2 hts (lw_S q883 q884 q163 q885) rfl rfl rfl (by decide +kernel) ⟨(rroom (d := d + 2) (mc := 1) (ms := (c0 + c0 / 2)) (mc' := 1) (ms' := ((c0 + c0 / 2))) (mL := 2) (by decide)).1, by first | exact (rroom (d := d + 2) (mc := 1) (ms := (c0 + c0 / 2)) (mc' := 1) (ms' := ((c0 + c0 / 2))) (mL := 2) (by decide)).2⟩) ⟨rxblind rEl_st, rpx rEl_st hE hK hST hS hPc hDc hFc [.ref a0, .int (nI (c0 + c0 / 2))]⟩ rfl rfl hl.1 rfl (lv_room (Nat.le_of_ble_eq_true rfl)) (show decode cJ2_grow_2 37 = .ok (.invokestatic 66, 3) by decide +kernel) ⟨by show _ ≤ 1; first | decide | omega, by show _ ≤ c0 + c0 / 2; first | decide | omega⟩) hS (fun q _ h => hFc q h) hFc (fun u ra_ t H1 locs ht hvm hw hB hz1 hk1 hS => ?_)
  obtain ⟨q1, rfl⟩ : ∃ z, z = u := ⟨_, rfl⟩
  obtain ⟨hra_, hP1, hD1⟩ := hB
  rw [ht] at hP1
  obtain ⟨hP, hD⟩ := va_join (wr := [(h0, .inr (12, [.int m0, .ref a0, .int (nI c0)]))]) (w1 := [(a0, .inl (G.2.2.1 6, c0, .inr (.inr (.inr (.inr (f0)))))), (q1, .inl (G.2.2.1 6, (c0 + c0 / 2), .inr (.inr (.inr (.inr (va_cpy f0 (fun _ => none) 0 0 (min c0 (c0 + c0 / 2))))))))]) hP hD [1] [0] rfl rfl (by decide) (by decide) hk1 hFc hP1 hD1
  generalize H1 = H at hP hS ⊢
  have hP : va_P G.1 zcl [(h0, .inr (12, [.int m0, .ref a0, .int (nI c0)])), (a0, .inl (G.2.2.1 6, c0, .inr (.inr (.inr (.inr (f0)))))), (q1, .inl (G.2.2.1 6, (c0 + c0 / 2), .inr (.inr (.inr (.inr (va_cpy f0 (fun _ => none) 0 0 (min c0 (c0 + c0 / 2))))))))] H := hP
  have hD : va_D A [(h0, .inr (12, [.int m0, .ref a0, .int (nI c0)])), (a0, .inl (G.2.2.1 6, c0, .inr (.inr (.inr (.inr (f0)))))), (q1, .inl (G.2.2.1 6, (c0 + c0 / 2), .inr (.inr (.inr (.inr (va_cpy f0 (fun _ => none) 0 0 (min c0 (c0 + c0 / 2))))))))] := hD
  have hra_ : ra_ = q1 := hra_
  rw [hra_]
  refine lv_dup_x1 hx hb (show decode cJ2_grow_2 40 = .ok (.dup_x1, 1) by decide +kernel) rfl rfl ?_
  refine va_put (D := G.1) (ci := 12) (v := .ref q1) (ty := .array (.object "java/lang/Object")) (C := RJ2) (T := TJ2) (N := 3) hx hb hts in_J2 tyJ2 tyJ2_ok nmJ2 hown hK.1 hP hD hS 0 rfl rfl 1 (by decide) (hts _ q415) (fun _ h9 => h9) rfl (by decide +kernel) rfl rfl (Nat.le_of_ble_eq_true rfl) (show decode cJ2_grow_2 41 = .ok (.putfield 9, 3) by decide +kernel) (fun H locs hP hD hS => ?_)
  have hP : va_P G.1 zcl [(h0, .inr (12, [.int m0, .ref q1, .int (nI c0)])), (a0, .inl (G.2.2.1 6, c0, .inr (.inr (.inr (.inr (f0)))))), (q1, .inl (G.2.2.1 6, (c0 + c0 / 2), .inr (.inr (.inr (.inr (va_cpy f0 (fun _ => none) 0 0 (min c0 (c0 + c0 / 2))))))))] H := hP
  have hD : va_D A [(h0, .inr (12, [.int m0, .ref q1, .int (nI c0)])), (a0, .inl (G.2.2.1 6, c0, .inr (.inr (.inr (.inr (f0)))))), (q1, .inl (G.2.2.1 6, (c0 + c0 / 2), .inr (.inr (.inr (.inr (va_cpy f0 (fun _ => none) 0 0 (min c0 (c0 + c0 / 2))))))))] := hD
  have hP9 := hP.sub (ws' := [(h0, .inr (12, [.int m0, .ref q1, .int (nI c0)])), (a0, .inl (G.2.2.1 6, c0, .inr (.inr (.inr (.inr (f0)))))), (q1, .inl (G.2.2.1 6, (c0 + c0 / 2), .inr (.inr (.inr (.inr (va_cpy f0 (fun _ => none) 0 0 (min c0 (c0 + c0 / 2))))))))]) [0, 1, 2] rfl
  have hD9 := hD.sub (ws' := [(h0, .inr (12, [.int m0, .ref q1, .int (nI c0)])), (a0, .inl (G.2.2.1 6, c0, .inr (.inr (.inr (.inr (f0)))))), (q1, .inl (G.2.2.1 6, (c0 + c0 / 2), .inr (.inr (.inr (.inr (va_cpy f0 (fun _ => none) 0 0 (min c0 (c0 + c0 / 2))))))))]) [0, 1, 2] (by decide) rfl
  refine W.widen (k := 1) (n := c0 + c0 / 2) (by first | decide | omega) (by first | decide | omega) ?_
  exact W.aret (v := .ref q1) hx hb hr (Or.inr ⟨_, rfl⟩) (Or.inr ⟨_, rfl⟩) (fun t ht hW => ⟨⟨q1, q1, rfl, trivial, rfl, by rw [ht]; exact hP9, hD9⟩, hS.F ht⟩) hS.2.2 (show decode cJ2_grow_2 44 = .ok (.areturn, 1) by decide +kernel)

set_option maxHeartbeats 4000000 in
set_option maxRecDepth 100000 in
theorem rJ2_grow_g (l : Launch) (G : zG) (d sz : Nat) (h0 : Nat) (a0 : Nat) (m0 : Int32) (c0 : Nat) (f0 : Nat → Option Nat) (mi : Nat) (hc : c0 ≤ 20000) (hc2 : 10 ≤ c0) : Met l yJ2_grow (ws_ yJ2_grow cJ2_grow 1 (some (.array (.object "java/lang/Object")))) (eRoom (d + 4) 1 (c0 + c0 / 2)) (rPx G [.ref h0] [(h0, .inr (12, [.int m0, .ref a0, .int (nI c0)])), (a0, .inl (G.2.2.1 6, c0, .inr (.inr (.inr (.inr (f0))))))] sz (rEl G f0 c0 11 mi)) (va_Qr (fun _ => True) (fun (q1 : Nat) (ra : Nat) (t : State) => ra = q1 ∧ rB G (fun _ : Unit => [(h0, .inr (12, [.int m0, .ref q1, .int (nI c0)])), (a0, .inl (G.2.2.1 6, c0, .inr (.inr (.inr (.inr (f0)))))), (q1, .inl (G.2.2.1 6, (c0 + c0 / 2), .inr (.inr (.inr (.inr (va_cpy f0 (fun _ => none) 0 0 (min c0 (c0 + c0 / 2))))))))]) (va_A [(h0, .inr (12, [.int m0, .ref a0, .int (nI c0)])), (a0, .inl (G.2.2.1 6, c0, .inr (.inr (.inr (.inr (f0))))))] sz) () t) (va_A [(h0, .inr (12, [.int m0, .ref a0, .int (nI c0)])), (a0, .inl (G.2.2.1 6, c0, .inr (.inr (.inr (.inr (f0))))))] sz)) 1 (c0 + c0 / 2) (va_A [(h0, .inr (12, [.int m0, .ref a0, .int (nI c0)])), (a0, .inl (G.2.2.1 6, c0, .inr (.inr (.inr (.inr (f0))))))] sz) := by
  refine zMetF (cc := cJ2_grow) (maxL := 1) (ret := (some (.array (.object "java/lang/Object")))) (by decide +kernel) rfl ?_
  intro p e s m args below meth c s₁ B hml hv
  obtain ⟨rfl, hsz, hP, hK, hST, hD0, hE⟩ := hv
  have hx := B.exec
  have hb := B.bytes
  have hr := B.returns
  have hts := atoms_spec (ws := ws_ yJ2_grow cJ2_grow 1 (some (.array (.object "java/lang/Object")))) B.pre
  have hts : ∀ w ∈ lw_all, w.before _ s = true := fun w h => hts w (List.mem_cons_of_mem _ h)
  have hown : s.vm.findClass RJ2 = some m.cls := findClass_of_methodNamed B.named
  have hlocks := B.notSynchronized
  subst hsz
  have hD := hD0.self (sz := s.heap.size)
  generalize hAe : va_A [(h0, .inr (12, [.int m0, .ref a0, .int (nI c0)])), (a0, .inl (G.2.2.1 6, c0, .inr (.inr (.inr (.inr (f0))))))] s.heap.size = A at hD hST hE ⊢
  have hA : ∀ q : Nat, s.heap.size ≤ q → A q := fun q h => by rw [← hAe]; exact Or.inr h
  have hS : va_S A s.heap s.heap [] := va_S.rf
  have hP : va_P G.1 zcl [(h0, .inr (12, [.int m0, .ref a0, .int (nI c0)])), (a0, .inl (G.2.2.1 6, c0, .inr (.inr (.inr (.inr (f0))))))] s.heap := hP
  have hl := lv_entry ([.ref h0]) (n := 1) (Nat.le_of_ble_eq_true rfl)
  rw [lg_entry_eq]
  generalize (lg_sl ([.ref h0]) ++ List.replicate (1 - (lg_sl ([.ref h0])).length) Slot.unset).toArray = ls at hl ⊢
  have hl : lv_has ls 1 [(0, .ref h0)] := hl
  refine lv_aload_n hx hb (show decode cJ2_grow 0 = .ok (.aload_n 0, 1) by decide +kernel) rfl (lv_at hl 0 rfl) ?_
  refine lv_aload_n hx hb (show decode cJ2_grow 1 = .ok (.aload_n 0, 1) by decide +kernel) rfl (lv_at hl 0 rfl) ?_
  refine va_get (D := G.1) (ci := 12) (v := .int (nI c0)) (C := RJ2) (T := TJ2) (N := 3) hx hb hts in_J2 hown hK.1 hP 0 rfl rfl 2 (by decide) (hts _ q418) (fun _ h9 => h9) rfl (show decode cJ2_grow 2 = .ok (.getfield 48, 3) by decide +kernel) ?_
  refine lv_iconst (v := 1) hx hb (show decode cJ2_grow 5 = .ok (.iconst 1, 1) by decide +kernel) (by decide) ?_
  refine lv_iadd hx hb (show decode cJ2_grow 6 = .ok (.iadd, 1) by decide +kernel) ?_
  refine lv_topi (fun yy_ ey_ => ?_)
  obtain rfl : yy_ = nI (c0 + 1) := ey_.trans (nI_add c0 1)
  have hPc := hP.sub (ws' := [(h0, .inr (12, [.int m0, .ref a0, .int (nI c0)])), (a0, .inl (G.2.2.1 6, c0, .inr (.inr (.inr (.inr (f0))))))]) [0, 1] rfl
  have hDc := hD.sub (ws' := [(h0, .inr (12, [.int m0, .ref a0, .int (nI c0)])), (a0, .inl (G.2.2.1 6, c0, .inr (.inr (.inr (.inr (f0))))))]) [0, 1] (by decide) rfl
  have hFc := va_free (wc := [(h0, .inr (12, [.int m0, .ref a0, .int (nI c0)])), (a0, .inl (G.2.2.1 6, c0, .inr (.inr (.inr (.inr (f0))))))]) hD hS hA [0, 1] rfl
  refine va_callr (va_runV (As := [.int (nI (c0 + 1))]) (rest := []) ⟨hx, hb, hml, hown, hts⟩ (rJ2_grow_2_g l G (d + 0) s.heap.size (h0) (a0) (m0) (c0) (f0) (mi) hc hc2) (cwV 1 hts (lw_V q869 q871 qs17 q146 q872) rfl rfl rfl (by decide +kernel) ⟨(rroom (d := d + 3) (mc := 1) (ms := (c0 + c0 / 2)) (mc' := 1) (ms' := (c0 + c0 / 2)) (mL := 4) (by decide)).1, by first | exact (rroom (d := d + 3) (mc := 1) (ms := (c0 + c0 / 2)) (mc' := 1) (ms' := (c0 + c0 / 2)) (mL := 4) (by decide)).2⟩) ⟨rxblind rEl_st, va_recv hK.1 hPc (ci := 12) (q0 := 0) rfl rfl, rpx rEl_st hE hK hST hS hPc hDc hFc [.ref h0, .int (nI (c0 + 1))]⟩ rfl rfl hl.1 rfl (lv_room (Nat.le_of_ble_eq_true rfl)) (show decode cJ2_grow 7 = .ok (.invokevirtual 69, 3) by decide +kernel) ⟨by show _ ≤ 1; first | decide | omega, by show _ ≤ c0 + c0 / 2; first | decide | omega⟩) hS (fun q _ h => hFc q h) hFc (fun u ra_ t H1 locs ht hvm hw hB hz1 hk1 hS => ?_)
  obtain ⟨q1, rfl⟩ : ∃ z, z = u := ⟨_, rfl⟩
  obtain ⟨hra_, hP1, hD1⟩ := hB
  rw [ht] at hP1
  obtain ⟨hP, hD⟩ := va_join (wr := []) (w1 := [(h0, .inr (12, [.int m0, .ref q1, .int (nI c0)])), (a0, .inl (G.2.2.1 6, c0, .inr (.inr (.inr (.inr (f0)))))), (q1, .inl (G.2.2.1 6, (c0 + c0 / 2), .inr (.inr (.inr (.inr (va_cpy f0 (fun _ => none) 0 0 (min c0 (c0 + c0 / 2))))))))]) hP hD [0, 1] [] rfl rfl (by decide) (by decide) hk1 hFc hP1 hD1
  generalize H1 = H at hP hS ⊢
  have hP : va_P G.1 zcl [(h0, .inr (12, [.int m0, .ref q1, .int (nI c0)])), (a0, .inl (G.2.2.1 6, c0, .inr (.inr (.inr (.inr (f0)))))), (q1, .inl (G.2.2.1 6, (c0 + c0 / 2), .inr (.inr (.inr (.inr (va_cpy f0 (fun _ => none) 0 0 (min c0 (c0 + c0 / 2))))))))] H := hP
  have hD : va_D A [(h0, .inr (12, [.int m0, .ref q1, .int (nI c0)])), (a0, .inl (G.2.2.1 6, c0, .inr (.inr (.inr (.inr (f0)))))), (q1, .inl (G.2.2.1 6, (c0 + c0 / 2), .inr (.inr (.inr (.inr (va_cpy f0 (fun _ => none) 0 0 (min c0 (c0 + c0 / 2))))))))] := hD
  have hra_ : ra_ = q1 := hra_
  rw [hra_]
  have hP9 := hP.sub (ws' := [(h0, .inr (12, [.int m0, .ref q1, .int (nI c0)])), (a0, .inl (G.2.2.1 6, c0, .inr (.inr (.inr (.inr (f0)))))), (q1, .inl (G.2.2.1 6, (c0 + c0 / 2), .inr (.inr (.inr (.inr (va_cpy f0 (fun _ => none) 0 0 (min c0 (c0 + c0 / 2))))))))]) [0, 1, 2] rfl
  have hD9 := hD.sub (ws' := [(h0, .inr (12, [.int m0, .ref q1, .int (nI c0)])), (a0, .inl (G.2.2.1 6, c0, .inr (.inr (.inr (.inr (f0)))))), (q1, .inl (G.2.2.1 6, (c0 + c0 / 2), .inr (.inr (.inr (.inr (va_cpy f0 (fun _ => none) 0 0 (min c0 (c0 + c0 / 2))))))))]) [0, 1, 2] (by decide) rfl
  refine W.widen (k := 1) (n := c0 + c0 / 2) (by first | decide | omega) (by first | decide | omega) ?_
  exact W.aret (v := .ref q1) hx hb hr (Or.inr ⟨_, rfl⟩) (Or.inr ⟨_, rfl⟩) (fun t ht hW => ⟨⟨q1, q1, rfl, trivial, rfl, by rw [ht]; exact hP9, hD9⟩, hS.F ht⟩) hS.2.2 (show decode cJ2_grow 10 = .ok (.areturn, 1) by decide +kernel)

set_option maxHeartbeats 4000000 in
set_option maxRecDepth 100000 in
theorem rJ2_add_2_g (l : Launch) (G : zG) (d sz : Nat) (h0 : Nat) (a0 : Nat) (e0 : Nat) (m0 : Int32) (c0 : Nat) (f0 : Nat → Option Nat) (v0 : List Value) (mi : Nat) (hc : c0 ≤ 20000) (hc2 : 10 ≤ c0) : Met l yJ2_add_2 (ws_ yJ2_add_2 cJ2_add_2 4 none) (eRoom (d + 5) 1 (c0 + c0 / 2)) (rPx G [.ref h0, .ref e0, .ref a0, .int (nI c0)] [(h0, .inr (12, [.int m0, .ref a0, .int (nI c0)])), (a0, .inl (G.2.2.1 6, c0, .inr (.inr (.inr (.inr (f0)))))), (e0, .inr (11, v0))] sz (rEl G f0 c0 11 mi)) (va_Qv (fun _ => True) (rB G (fun q1 : Nat => [(h0, .inr (12, [.int m0, .ref q1, .int (nI (c0 + 1))])), (q1, .inl (G.2.2.1 6, (c0 + c0 / 2), .inr (.inr (.inr (.inr (va_up (va_cpy f0 (fun _ => none) 0 0 (min c0 (c0 + c0 / 2))) (c0) (some e0))))))), (e0, .inr (11, v0))]) (va_A [(h0, .inr (12, [.int m0, .ref a0, .int (nI c0)])), (a0, .inl (G.2.2.1 6, c0, .inr (.inr (.inr (.inr (f0)))))), (e0, .inr (11, v0))] sz)) (va_A [(h0, .inr (12, [.int m0, .ref a0, .int (nI c0)])), (a0, .inl (G.2.2.1 6, c0, .inr (.inr (.inr (.inr (f0)))))), (e0, .inr (11, v0))] sz)) 1 (c0 + c0 / 2) (va_A [(h0, .inr (12, [.int m0, .ref a0, .int (nI c0)])), (a0, .inl (G.2.2.1 6, c0, .inr (.inr (.inr (.inr (f0)))))), (e0, .inr (11, v0))] sz) := by
  refine zMetF (cc := cJ2_add_2) (maxL := 4) (ret := none) (by decide +kernel) rfl ?_
  intro p e s m args below meth c s₁ B hml hv
  obtain ⟨rfl, hsz, hP, hK, hST, hD0, hE⟩ := hv
  have hx := B.exec
  have hb := B.bytes
  have hr := B.returns
  have hts := atoms_spec (ws := ws_ yJ2_add_2 cJ2_add_2 4 none) B.pre
  have hts : ∀ w ∈ lw_all, w.before _ s = true := fun w h => hts w (List.mem_cons_of_mem _ h)
  have hown : s.vm.findClass RJ2 = some m.cls := findClass_of_methodNamed B.named
  have hlocks := B.notSynchronized
  subst hsz
  have hD := hD0.self (sz := s.heap.size)
  generalize hAe : va_A [(h0, .inr (12, [.int m0, .ref a0, .int (nI c0)])), (a0, .inl (G.2.2.1 6, c0, .inr (.inr (.inr (.inr (f0)))))), (e0, .inr (11, v0))] s.heap.size = A at hD hST hE ⊢
  have hA : ∀ q : Nat, s.heap.size ≤ q → A q := fun q h => by rw [← hAe]; exact Or.inr h
  have hS : va_S A s.heap s.heap [] := va_S.rf
  have hP : va_P G.1 zcl [(h0, .inr (12, [.int m0, .ref a0, .int (nI c0)])), (a0, .inl (G.2.2.1 6, c0, .inr (.inr (.inr (.inr (f0)))))), (e0, .inr (11, v0))] s.heap := hP
  have hl := lv_entry ([.ref h0, .ref e0, .ref a0, .int (nI c0)]) (n := 4) (Nat.le_of_ble_eq_true rfl)
  rw [lg_entry_eq]
  generalize (lg_sl ([.ref h0, .ref e0, .ref a0, .int (nI c0)]) ++ List.replicate (4 - (lg_sl ([.ref h0, .ref e0, .ref a0, .int (nI c0)])).length) Slot.unset).toArray = ls at hl ⊢
  have hl : lv_has ls 4 [(0, .ref h0), (1, .ref e0), (2, .ref a0), (3, .int (nI c0))] := hl
  refine lv_iload_n hx hb (show decode cJ2_add_2 0 = .ok (.iload_n 3, 1) by decide +kernel) rfl (lv_at hl 3 rfl) ?_
  refine lv_aload_n hx hb (show decode cJ2_add_2 1 = .ok (.aload_n 2, 1) by decide +kernel) rfl (lv_at hl 2 rfl) ?_
  refine va_alen (v := nI c0) hx hb hK.1 hP 1 6 rfl rfl rfl (show decode cJ2_add_2 2 = .ok (.arraylength, 1) by decide +kernel) ?_
  refine lv_icmp_ne (tgt := 11) hx hb (show decode cJ2_add_2 3 = .ok (.if_icmp .ne 8, 3) by decide +kernel) (by decide) (fun cnd_ => absurd rfl cnd_) (fun cnd_ => ?_)
  refine lv_aload_n hx hb (show decode cJ2_add_2 6 = .ok (.aload_n 0, 1) by decide +kernel) rfl (lv_at hl 0 rfl) ?_
  have hPc := hP.sub (ws' := [(h0, .inr (12, [.int m0, .ref a0, .int (nI c0)])), (a0, .inl (G.2.2.1 6, c0, .inr (.inr (.inr (.inr (f0))))))]) [0, 1] rfl
  have hDc := hD.sub (ws' := [(h0, .inr (12, [.int m0, .ref a0, .int (nI c0)])), (a0, .inl (G.2.2.1 6, c0, .inr (.inr (.inr (.inr (f0))))))]) [0, 1] (by decide) rfl
  have hFc := va_free (wc := [(h0, .inr (12, [.int m0, .ref a0, .int (nI c0)])), (a0, .inl (G.2.2.1 6, c0, .inr (.inr (.inr (.inr (f0))))))]) hD hS hA [0, 1] rfl
  refine va_callr (va_runV (As := []) (rest := []) ⟨hx, hb, hml, hown, hts⟩ (rJ2_grow_g l G (d + 0) s.heap.size (h0) (a0) (m0) (c0) (f0) (mi) hc hc2) (cwV 0 hts (lw_V q865 q867 qs16 q146 q868) rfl rfl rfl (by decide +kernel) ⟨(rroom (d := d + 4) (mc := 1) (ms := (c0 + c0 / 2)) (mc' := 1) (ms' := (c0 + c0 / 2)) (mL := 1) (by decide)).1, by first | exact (rroom (d := d + 4) (mc := 1) (ms := (c0 + c0 / 2)) (mc' := 1) (ms' := (c0 + c0 / 2)) (mL := 1) (by decide)).2⟩) ⟨rxblind rEl_st, va_recv hK.1 hPc (ci := 12) (q0 := 0) rfl rfl, rpx rEl_st hE hK hST hS hPc hDc hFc [.ref h0]⟩ rfl rfl hl.1 rfl (lv_room (Nat.le_of_ble_eq_true rfl)) (show decode cJ2_add_2 7 = .ok (.invokevirtual 129, 3) by decide +kernel) ⟨by show _ ≤ 1; first | decide | omega, by show _ ≤ c0 + c0 / 2; first | decide | omega⟩) hS (fun q _ h => hFc q h) hFc (fun u ra_ t H1 locs ht hvm hw hB hz1 hk1 hS => ?_)
  obtain ⟨q1, rfl⟩ : ∃ z, z = u := ⟨_, rfl⟩
  obtain ⟨hra_, hP1, hD1⟩ := hB
  rw [ht] at hP1
  obtain ⟨hP, hD⟩ := va_join (wr := [(e0, .inr (11, v0))]) (w1 := [(h0, .inr (12, [.int m0, .ref q1, .int (nI c0)])), (a0, .inl (G.2.2.1 6, c0, .inr (.inr (.inr (.inr (f0)))))), (q1, .inl (G.2.2.1 6, (c0 + c0 / 2), .inr (.inr (.inr (.inr (va_cpy f0 (fun _ => none) 0 0 (min c0 (c0 + c0 / 2))))))))]) hP hD [0, 1] [2] rfl rfl (by decide) (by decide) hk1 hFc hP1 hD1
  generalize H1 = H at hP hS ⊢
  have hP : va_P G.1 zcl [(e0, .inr (11, v0)), (h0, .inr (12, [.int m0, .ref q1, .int (nI c0)])), (a0, .inl (G.2.2.1 6, c0, .inr (.inr (.inr (.inr (f0)))))), (q1, .inl (G.2.2.1 6, (c0 + c0 / 2), .inr (.inr (.inr (.inr (va_cpy f0 (fun _ => none) 0 0 (min c0 (c0 + c0 / 2))))))))] H := hP
  have hD : va_D A [(e0, .inr (11, v0)), (h0, .inr (12, [.int m0, .ref q1, .int (nI c0)])), (a0, .inl (G.2.2.1 6, c0, .inr (.inr (.inr (.inr (f0)))))), (q1, .inl (G.2.2.1 6, (c0 + c0 / 2), .inr (.inr (.inr (.inr (va_cpy f0 (fun _ => none) 0 0 (min c0 (c0 + c0 / 2))))))))] := hD
  have hra_ : ra_ = q1 := hra_
  rw [hra_]
  refine lv_astore_n hx hb (show decode cJ2_add_2 10 = .ok (.astore_n 2, 1) by decide +kernel) rfl hl (by decide) rfl (fun ls hl => ?_)
  have hl : lv_has ls 4 [(2, .ref q1), (0, .ref h0), (1, .ref e0), (3, .int (nI c0))] := hl
  refine lv_aload_n hx hb (show decode cJ2_add_2 11 = .ok (.aload_n 2, 1) by decide +kernel) rfl (lv_at hl 0 rfl) ?_
  refine lv_iload_n hx hb (show decode cJ2_add_2 12 = .ok (.iload_n 3, 1) by decide +kernel) rfl (lv_at hl 3 rfl) ?_
  refine lv_aload_n hx hb (show decode cJ2_add_2 13 = .ok (.aload_n 1, 1) by decide +kernel) rfl (lv_at hl 2 rfl) ?_
  refine va_astqO (E := "java/lang/Object") hx hb hK.1 hP hD hS 3 6 0 11 rfl rfl (hK.2.1 _ q2509 rfl) rfl rfl (vp_in_nI (by omega) (by omega)) (show decode cJ2_add_2 14 = .ok (.aastore, 1) by decide +kernel) (fun H locs hP hD hS => ?_)
  rw [nI_clamp (by omega)] at hP hD
  have hP : va_P G.1 zcl [(e0, .inr (11, v0)), (h0, .inr (12, [.int m0, .ref q1, .int (nI c0)])), (a0, .inl (G.2.2.1 6, c0, .inr (.inr (.inr (.inr (f0)))))), (q1, .inl (G.2.2.1 6, (c0 + c0 / 2), .inr (.inr (.inr (.inr (va_up (va_cpy f0 (fun _ => none) 0 0 (min c0 (c0 + c0 / 2))) (c0) (some e0)))))))] H := hP
  have hD : va_D A [(e0, .inr (11, v0)), (h0, .inr (12, [.int m0, .ref q1, .int (nI c0)])), (a0, .inl (G.2.2.1 6, c0, .inr (.inr (.inr (.inr (f0)))))), (q1, .inl (G.2.2.1 6, (c0 + c0 / 2), .inr (.inr (.inr (.inr (va_up (va_cpy f0 (fun _ => none) 0 0 (min c0 (c0 + c0 / 2))) (c0) (some e0)))))))] := hD
  refine lv_aload_n hx hb (show decode cJ2_add_2 15 = .ok (.aload_n 0, 1) by decide +kernel) rfl (lv_at hl 1 rfl) ?_
  refine lv_iload_n hx hb (show decode cJ2_add_2 16 = .ok (.iload_n 3, 1) by decide +kernel) rfl (lv_at hl 3 rfl) ?_
  refine lv_iconst (v := 1) hx hb (show decode cJ2_add_2 17 = .ok (.iconst 1, 1) by decide +kernel) (by decide) ?_
  refine lv_iadd hx hb (show decode cJ2_add_2 18 = .ok (.iadd, 1) by decide +kernel) ?_
  refine lv_topi (fun yy_ ey_ => ?_)
  obtain rfl : yy_ = nI (c0 + 1) := ey_.trans (nI_add c0 1)
  refine va_put (D := G.1) (ci := 12) (v := .int (nI (c0 + 1))) (ty := .int) (C := RJ2) (T := TJ2) (N := 3) hx hb hts in_J2 tyJ2 tyJ2_ok nmJ2 hown hK.1 hP hD hS 1 rfl rfl 2 (by decide) (hts _ q418) (fun _ h9 => h9) rfl (by decide +kernel) rfl rfl (Nat.le_of_ble_eq_true rfl) (show decode cJ2_add_2 19 = .ok (.putfield 48, 3) by decide +kernel) (fun H locs hP hD hS => ?_)
  have hP : va_P G.1 zcl [(e0, .inr (11, v0)), (h0, .inr (12, [.int m0, .ref q1, .int (nI (c0 + 1))])), (a0, .inl (G.2.2.1 6, c0, .inr (.inr (.inr (.inr (f0)))))), (q1, .inl (G.2.2.1 6, (c0 + c0 / 2), .inr (.inr (.inr (.inr (va_up (va_cpy f0 (fun _ => none) 0 0 (min c0 (c0 + c0 / 2))) (c0) (some e0)))))))] H := hP
  have hD : va_D A [(e0, .inr (11, v0)), (h0, .inr (12, [.int m0, .ref q1, .int (nI (c0 + 1))])), (a0, .inl (G.2.2.1 6, c0, .inr (.inr (.inr (.inr (f0)))))), (q1, .inl (G.2.2.1 6, (c0 + c0 / 2), .inr (.inr (.inr (.inr (va_up (va_cpy f0 (fun _ => none) 0 0 (min c0 (c0 + c0 / 2))) (c0) (some e0)))))))] := hD
  have hP9 := hP.sub (ws' := [(h0, .inr (12, [.int m0, .ref q1, .int (nI (c0 + 1))])), (q1, .inl (G.2.2.1 6, (c0 + c0 / 2), .inr (.inr (.inr (.inr (va_up (va_cpy f0 (fun _ => none) 0 0 (min c0 (c0 + c0 / 2))) (c0) (some e0))))))), (e0, .inr (11, v0))]) [1, 3, 0] rfl
  have hD9 := hD.sub (ws' := [(h0, .inr (12, [.int m0, .ref q1, .int (nI (c0 + 1))])), (q1, .inl (G.2.2.1 6, (c0 + c0 / 2), .inr (.inr (.inr (.inr (va_up (va_cpy f0 (fun _ => none) 0 0 (min c0 (c0 + c0 / 2))) (c0) (some e0))))))), (e0, .inr (11, v0))]) [1, 3, 0] (by decide) rfl
  refine W.widen (k := 1) (n := c0 + c0 / 2) (by first | decide | omega) (by first | decide | omega) ?_
  exact W.vret hx hb hr (fun t ht hW => ⟨⟨q1, rfl, trivial, by rw [ht]; exact hP9, hD9⟩, hS.F ht⟩) hS.2.2 (show decode cJ2_add_2 22 = .ok (.return_, 1) by decide +kernel)

set_option maxHeartbeats 4000000 in
set_option maxRecDepth 100000 in
/-- add, where the room grows -/
theorem rJ2_add_g (l : Launch) (G : zG) (d sz : Nat) (h0 : Nat) (a0 : Nat) (e0 : Nat) (m0 : Int32) (c0 : Nat) (f0 : Nat → Option Nat) (v0 : List Value) (mi : Nat) (hc : c0 ≤ 20000) (hc2 : 10 ≤ c0) : Met l yJ2_add (ws_ yJ2_add cJ2_add 2 (some .boolean)) (eRoom (d + 6) 1 (c0 + c0 / 2)) (rPx G [.ref h0, .ref e0] [(h0, .inr (12, [.int m0, .ref a0, .int (nI c0)])), (a0, .inl (G.2.2.1 6, c0, .inr (.inr (.inr (.inr (f0)))))), (e0, .inr (11, v0))] sz (rEl G f0 c0 11 mi)) (va_Qi (fun (r : Int32) _ => r = 1) (rB G (fun q1 : Nat => [(h0, .inr (12, [.int (m0 + 1), .ref q1, .int (nI (c0 + 1))])), (q1, .inl (G.2.2.1 6, (c0 + c0 / 2), .inr (.inr (.inr (.inr (va_up (va_cpy f0 (fun _ => none) 0 0 (min c0 (c0 + c0 / 2))) (c0) (some e0))))))), (e0, .inr (11, v0))]) (va_A [(h0, .inr (12, [.int m0, .ref a0, .int (nI c0)])), (a0, .inl (G.2.2.1 6, c0, .inr (.inr (.inr (.inr (f0)))))), (e0, .inr (11, v0))] sz)) (va_A [(h0, .inr (12, [.int m0, .ref a0, .int (nI c0)])), (a0, .inl (G.2.2.1 6, c0, .inr (.inr (.inr (.inr (f0)))))), (e0, .inr (11, v0))] sz)) 1 (c0 + c0 / 2) (va_A [(h0, .inr (12, [.int m0, .ref a0, .int (nI c0)])), (a0, .inl (G.2.2.1 6, c0, .inr (.inr (.inr (.inr (f0)))))), (e0, .inr (11, v0))] sz) := by
  refine zMetF (cc := cJ2_add) (maxL := 2) (ret := (some .boolean)) (by decide +kernel) rfl ?_
  intro p e s m args below meth c s₁ B hml hv
  obtain ⟨rfl, hsz, hP, hK, hST, hD0, hE⟩ := hv
  have hx := B.exec
  have hb := B.bytes
  have hr := B.returns
  have hts := atoms_spec (ws := ws_ yJ2_add cJ2_add 2 (some .boolean)) B.pre
  have hts : ∀ w ∈ lw_all, w.before _ s = true := fun w h => hts w (List.mem_cons_of_mem _ h)
  have hown : s.vm.findClass RJ2 = some m.cls := findClass_of_methodNamed B.named
  have hlocks := B.notSynchronized
  subst hsz
  have hD := hD0.self (sz := s.heap.size)
  generalize hAe : va_A [(h0, .inr (12, [.int m0, .ref a0, .int (nI c0)])), (a0, .inl (G.2.2.1 6, c0, .inr (.inr (.inr (.inr (f0)))))), (e0, .inr (11, v0))] s.heap.size = A at hD hST hE ⊢
  have hA : ∀ q : Nat, s.heap.size ≤ q → A q := fun q h => by rw [← hAe]; exact Or.inr h
  have hS : va_S A s.heap s.heap [] := va_S.rf
  have hP : va_P G.1 zcl [(h0, .inr (12, [.int m0, .ref a0, .int (nI c0)])), (a0, .inl (G.2.2.1 6, c0, .inr (.inr (.inr (.inr (f0)))))), (e0, .inr (11, v0))] s.heap := hP
  have hl := lv_entry ([.ref h0, .ref e0]) (n := 2) (Nat.le_of_ble_eq_true rfl)
  rw [lg_entry_eq]
  generalize (lg_sl ([.ref h0, .ref e0]) ++ List.replicate (2 - (lg_sl ([.ref h0, .ref e0])).length) Slot.unset).toArray = ls at hl ⊢
  have hl : lv_has ls 2 [(0, .ref h0), (1, .ref e0)] := hl
  refine lv_aload_n hx hb (show decode cJ2_add 0 = .ok (.aload_n 0, 1) by decide +kernel) rfl (lv_at hl 0 rfl) ?_
  refine lv_dup hx hb (show decode cJ2_add 1 = .ok (.dup, 1) by decide +kernel) rfl ?_
  refine va_get (D := G.1) (ci := 12) (v := .int m0) (C := RJ2) (T := TJ2) (N := 3) hx hb hts in_J2 hown hK.1 hP 0 rfl rfl 0 (by decide) (hts _ q422) (u_same (hts _ q421)) rfl (show decode cJ2_add 2 = .ok (.getfield 63, 3) by decide +kernel) ?_
  refine lv_iconst (v := 1) hx hb (show decode cJ2_add 5 = .ok (.iconst 1, 1) by decide +kernel) (by decide) ?_
  refine lv_iadd hx hb (show decode cJ2_add 6 = .ok (.iadd, 1) by decide +kernel) ?_
  refine va_put (D := G.1) (ci := 12) (v := .int (m0 + 1)) (ty := .int) (C := RJ2) (T := TJ2) (N := 3) hx hb hts in_J2 tyJ2 tyJ2_ok nmJ2 hown hK.1 hP hD hS 0 rfl rfl 0 (by decide) (hts _ q422) (u_same (hts _ q421)) rfl (by decide +kernel) rfl rfl (Nat.le_of_ble_eq_true rfl) (show decode cJ2_add 7 = .ok (.putfield 63, 3) by decide +kernel) (fun H locs hP hD hS => ?_)
  have hP : va_P G.1 zcl [(h0, .inr (12, [.int (m0 + 1), .ref a0, .int (nI c0)])), (a0, .inl (G.2.2.1 6, c0, .inr (.inr (.inr (.inr (f0)))))), (e0, .inr (11, v0))] H := hP
  have hD : va_D A [(h0, .inr (12, [.int (m0 + 1), .ref a0, .int (nI c0)])), (a0, .inl (G.2.2.1 6, c0, .inr (.inr (.inr (.inr (f0)))))), (e0, .inr (11, v0))] := hD
  refine lv_aload_n hx hb (show decode cJ2_add 10 = .ok (.aload_n 0, 1) by decide +kernel) rfl (lv_at hl 0 rfl) ?_
  refine lv_aload_n hx hb (show decode cJ2_add 11 = .ok (.aload_n 1, 1) by decide +kernel) rfl (lv_at hl 1 rfl) ?_
  refine lv_aload_n hx hb (show decode cJ2_add 12 = .ok (.aload_n 0, 1) by decide +kernel) rfl (lv_at hl 0 rfl) ?_
  refine va_get (D := G.1) (ci := 12) (v := .ref a0) (C := RJ2) (T := TJ2) (N := 3) hx hb hts in_J2 hown hK.1 hP 0 rfl rfl 1 (by decide) (hts _ q415) (fun _ h9 => h9) rfl (show decode cJ2_add 13 = .ok (.getfield 9, 3) by decide +kernel) ?_
  refine lv_aload_n hx hb (show decode cJ2_add 16 = .ok (.aload_n 0, 1) by decide +kernel) rfl (lv_at hl 0 rfl) ?_
  refine va_get (D := G.1) (ci := 12) (v := .int (nI c0)) (C := RJ2) (T := TJ2) (N := 3) hx hb hts in_J2 hown hK.1 hP 0 rfl rfl 2 (by decide) (hts _ q418) (fun _ h9 => h9) rfl (show decode cJ2_add 17 = .ok (.getfield 48, 3) by decide +kernel) ?_
  have hPc := hP.sub (ws' := [(h0, .inr (12, [.int (m0 + 1), .ref a0, .int (nI c0)])), (a0, .inl (G.2.2.1 6, c0, .inr (.inr (.inr (.inr (f0)))))), (e0, .inr (11, v0))]) [0, 1, 2] rfl
  have hDc := hD.sub (ws' := [(h0, .inr (12, [.int (m0 + 1), .ref a0, .int (nI c0)])), (a0, .inl (G.2.2.1 6, c0, .inr (.inr (.inr (.inr (f0)))))), (e0, .inr (11, v0))]) [0, 1, 2] (by decide) rfl
  have hFc := va_free (wc := [(h0, .inr (12, [.int (m0 + 1), .ref a0, .int (nI c0)])), (a0, .inl (G.2.2.1 6, c0, .inr (.inr (.inr (.inr (f0)))))), (e0, .inr (11, v0))]) hD hS hA [0, 1, 2] rfl
  refine va_callv (va_runV (As := [.ref e0, .ref a0, .int (nI c0)]) (rest := []) ⟨hx, hb, hml, hown, hts⟩ (rJ2_add_2_g l G (d + 0) H.size (h0) (a0) (e0) (m0 + 1) (c0) (f0) (v0) (mi) hc hc2) (cwV 3 hts (lw_V q861 q863 qs15 q146 q864) rfl rfl rfl (by decide +kernel) ⟨(rroom (d := d + 5) (mc := 1) (ms := (c0 + c0 / 2)) (mc' := 1) (ms' := (c0 + c0 / 2)) (mL := 4) (by decide)).1, by first | exact (rroom (d := d + 5) (mc := 1) (ms := (c0 + c0 / 2)) (mc' := 1) (ms' := (c0 + c0 / 2)) (mL := 4) (by decide)).2⟩) ⟨rxblind rEl_st, va_recv hK.1 hPc (ci := 12) (q0 := 0) rfl rfl, rpx rEl_st hE hK hST hS hPc hDc hFc [.ref h0, .ref e0, .ref a0, .int (nI c0)]⟩ rfl rfl hl.1 rfl (lv_room (Nat.le_of_ble_eq_true rfl)) (show decode cJ2_add 20 = .ok (.invokevirtual 131, 3) by decide +kernel) ⟨by show _ ≤ 1; first | decide | omega, by show _ ≤ c0 + c0 / 2; first | decide | omega⟩) hS (fun q _ h => hFc q h) hFc (fun u t H1 locs ht hvm hw hB hz1 hk1 hS => ?_)
  obtain ⟨q1, rfl⟩ : ∃ z, z = u := ⟨_, rfl⟩
  obtain ⟨hP1, hD1⟩ := hB
  rw [ht] at hP1
  obtain ⟨hP, hD⟩ := va_join (wr := []) (w1 := [(h0, .inr (12, [.int (m0 + 1), .ref q1, .int (nI (c0 + 1))])), (q1, .inl (G.2.2.1 6, (c0 + c0 / 2), .inr (.inr (.inr (.inr (va_up (va_cpy f0 (fun _ => none) 0 0 (min c0 (c0 + c0 / 2))) (c0) (some e0))))))), (e0, .inr (11, v0))]) hP hD [0, 1, 2] [] rfl rfl (by decide) (by decide) hk1 hFc hP1 hD1
  generalize H1 = H at hP hS ⊢
  have hP : va_P G.1 zcl [(h0, .inr (12, [.int (m0 + 1), .ref q1, .int (nI (c0 + 1))])), (q1, .inl (G.2.2.1 6, (c0 + c0 / 2), .inr (.inr (.inr (.inr (va_up (va_cpy f0 (fun _ => none) 0 0 (min c0 (c0 + c0 / 2))) (c0) (some e0))))))), (e0, .inr (11, v0))] H := hP
  have hD : va_D A [(h0, .inr (12, [.int (m0 + 1), .ref q1, .int (nI (c0 + 1))])), (q1, .inl (G.2.2.1 6, (c0 + c0 / 2), .inr (.inr (.inr (.inr (va_up (va_cpy f0 (fun _ => none) 0 0 (min c0 (c0 + c0 / 2))) (c0) (some e0))))))), (e0, .inr (11, v0))] := hD
  refine lv_iconst (v := 1) hx hb (show decode cJ2_add 23 = .ok (.iconst 1, 1) by decide +kernel) (by decide) ?_
  have hP9 := hP.sub (ws' := [(h0, .inr (12, [.int (m0 + 1), .ref q1, .int (nI (c0 + 1))])), (q1, .inl (G.2.2.1 6, (c0 + c0 / 2), .inr (.inr (.inr (.inr (va_up (va_cpy f0 (fun _ => none) 0 0 (min c0 (c0 + c0 / 2))) (c0) (some e0))))))), (e0, .inr (11, v0))]) [0, 1, 2] rfl
  have hD9 := hD.sub (ws' := [(h0, .inr (12, [.int (m0 + 1), .ref q1, .int (nI (c0 + 1))])), (q1, .inl (G.2.2.1 6, (c0 + c0 / 2), .inr (.inr (.inr (.inr (va_up (va_cpy f0 (fun _ => none) 0 0 (min c0 (c0 + c0 / 2))) (c0) (some e0))))))), (e0, .inr (11, v0))]) [0, 1, 2] (by decide) rfl
  refine W.widen (k := 1) (n := c0 + c0 / 2) (by first | decide | omega) (by first | decide | omega) ?_
  exact W.zret (v := 1) hx hb hr rfl (fun t ht hW => ⟨⟨1, q1, rfl, rfl, by rw [ht]; exact hP9, hD9⟩, hS.F ht⟩) hS.2.2 (show decode cJ2_add 24 = .ok (.ireturn, 1) by decide +kernel)

set_option maxHeartbeats 4000000 in
set_option maxRecDepth 100000 in
theorem rJ2_grow_2_f (l : Launch) (G : zG) (d sz : Nat) (h0 : Nat) (m0 : Int32) : Met l yJ2_grow_2 (ws_ yJ2_grow_2 cJ2_grow_2 4 (some (.array (.object "java/lang/Object")))) (eRoom d 1 10) (rPx G [.ref h0, .int 1] [(h0, .inr (12, [.int m0, .ref (G.2.1 95 0), .int 0]))] sz (rEe G (G.2.1 95 0))) (va_Qr (fun _ => True) (fun (q1 : Nat) (ra : Nat) (t : State) => ra = q1 ∧ rB G (fun _ : Unit => [(h0, .inr (12, [.int m0, .ref q1, .int 0])), (q1, .inl (G.2.2.1 6, 10, .inr (.inr (.inr (.inr (fun _ => none))))))]) (va_A [(h0, .inr (12, [.int m0, .ref (G.2.1 95 0), .int 0]))] sz) () t) (va_A [(h0, .inr (12, [.int m0, .ref (G.2.1 95 0), .int 0]))] sz)) 1 10 (va_A [(h0, .inr (12, [.int m0, .ref (G.2.1 95 0), .int 0]))] sz) := by
  refine zMetF (cc := cJ2_grow_2) (maxL := 4) (ret := (some (.array (.object "java/lang/Object")))) (by decide +kernel) rfl ?_
  intro p e s m args below meth c s₁ B hml hv
  obtain ⟨rfl, hsz, hP, hK, hST, hD0, hE⟩ := hv
  have hx := B.exec
  have hb := B.bytes
  have hr := B.returns
  have hts := atoms_spec (ws := ws_ yJ2_grow_2 cJ2_grow_2 4 (some (.array (.object "java/lang/Object")))) B.pre
  have hts : ∀ w ∈ lw_all, w.before _ s = true := fun w h => hts w (List.mem_cons_of_mem _ h)
  have hown : s.vm.findClass RJ2 = some m.cls := findClass_of_methodNamed B.named
  have hlocks := B.notSynchronized
  subst hsz
  have hD := hD0.self (sz := s.heap.size)
  generalize hAe : va_A [(h0, .inr (12, [.int m0, .ref (G.2.1 95 0), .int 0]))] s.heap.size = A at hD hST hE ⊢
  have hA : ∀ q : Nat, s.heap.size ≤ q → A q := fun q h => by rw [← hAe]; exact Or.inr h
  have hS : va_S A s.heap s.heap [] := va_S.rf
  have hP : va_P G.1 zcl [(h0, .inr (12, [.int m0, .ref (G.2.1 95 0), .int 0]))] s.heap := hP
  have hl := lv_entry ([.ref h0, .int 1]) (n := 4) (Nat.le_of_ble_eq_true rfl)
  rw [lg_entry_eq]
  generalize (lg_sl ([.ref h0, .int 1]) ++ List.replicate (4 - (lg_sl ([.ref h0, .int 1])).length) Slot.unset).toArray = ls at hl ⊢
  have hl : lv_has ls 4 [(0, .ref h0), (1, .int 1)] := hl
  refine lv_aload_n hx hb (show decode cJ2_grow_2 0 = .ok (.aload_n 0, 1) by decide +kernel) rfl (lv_at hl 0 rfl) ?_
  refine va_get (D := G.1) (ci := 12) (v := .ref (G.2.1 95 0)) (C := RJ2) (T := TJ2) (N := 3) hx hb hts in_J2 hown hK.1 hP 0 rfl rfl 1 (by decide) (hts _ q415) (fun _ h9 => h9) rfl (show decode cJ2_grow_2 1 = .ok (.getfield 9, 3) by decide +kernel) ?_
  refine va_tlen (v := 0) hx hb (rEe_T hK hE) hS rfl (show decode cJ2_grow_2 4 = .ok (.arraylength, 1) by decide +kernel) ?_
  refine lv_istore_n hx hb (show decode cJ2_grow_2 5 = .ok (.istore_n 2, 1) by decide +kernel) rfl hl (by decide) rfl (fun ls hl => ?_)
  have hl : lv_has ls 4 [(2, .int 0), (0, .ref h0), (1, .int 1)] := hl
  refine lv_iload_n hx hb (show decode cJ2_grow_2 6 = .ok (.iload_n 2, 1) by decide +kernel) rfl (lv_at hl 0 rfl) ?_
  refine lv_if_gt (tgt := 20) hx hb (show decode cJ2_grow_2 7 = .ok (.ifCond .gt 13, 3) by decide +kernel) (by decide) (fun cnd_ => absurd cnd_ (by decide)) (fun cnd_ => ?_)
  refine lv_aload_n hx hb (show decode cJ2_grow_2 10 = .ok (.aload_n 0, 1) by decide +kernel) rfl (lv_at hl 1 rfl) ?_
  refine va_get (D := G.1) (ci := 12) (v := .ref (G.2.1 95 0)) (C := RJ2) (T := TJ2) (N := 3) hx hb hts in_J2 hown hK.1 hP 0 rfl rfl 1 (by decide) (hts _ q415) (fun _ h9 => h9) rfl (show decode cJ2_grow_2 11 = .ok (.getfield 9, 3) by decide +kernel) ?_
  obtain ⟨v_, ev_, hZ_⟩ := hST.1 _ (List.mem_of_getElem? (i := 2) rfl)
  obtain rfl : v_ = .ref (G.2.1 95 0) := ev_
  refine va_gets hx hb hZ_ hS hown (hts _ q433) (fun _ h9 => h9) (show decode cJ2_grow_2 14 = .ok (.getstatic 39, 3) by decide +kernel) ?_
  refine lv_acmp_eq (rx := some ((G.2.1 95 0))) (ry := some ((G.2.1 95 0))) (tgt := 45) hx hb (show decode cJ2_grow_2 17 = .ok (.if_acmp .eq 28, 3) by decide +kernel) (by decide) (fun cnd_ => ?_) (fun cnd_ => absurd (rfl) cnd_)
  refine lv_aload_n hx hb (show decode cJ2_grow_2 45 = .ok (.aload_n 0, 1) by decide +kernel) rfl (lv_at hl 1 rfl) ?_
  refine lv_bipush (v := 10) hx hb (show decode cJ2_grow_2 46 = .ok (.bipush 10, 2) by decide +kernel) (by decide) ?_
  refine lv_iload_n hx hb (show decode cJ2_grow_2 48 = .ok (.iload_n 1, 1) by decide +kernel) rfl (lv_at hl 2 rfl) ?_
  refine va_mmax hx hb (by rw [hml]; exact hl.1.symm) hown (hts _ q915) (hts _ q877) (hts _ q152) (hts _ q878) (Nat.succ_le_succ (Nat.zero_le _)) (by show _ ≤ 48 * (_ + 1); exact Nat.le_trans (Nat.le_of_ble_eq_true rfl) (Nat.le_mul_of_pos_right 48 (Nat.succ_pos _))) (by show _ ≤ 1; decide) (by show _ ≤ 10; decide) (show decode cJ2_grow_2 49 = .ok (.invokestatic 79, 3) by decide +kernel) ?_
  rw [show (if (10 : Int32) < 1 then (1 : Int32) else 10) = 10 by decide]
  refine r_newq hx hb hown (hts _ q411) hST.2.2.1 6 rfl hK hP hD hS hA (by decide) (show ((10 : Int32)).toNatClampNeg = 10 by decide) (by decide) (by show _ ≤ 1; first | decide | omega) (by show _ ≤ 10; first | decide | omega) (show decode cJ2_grow_2 52 = .ok (.anewarray 7, 3) by decide +kernel) (fun q1 H locs hP hD hS => ?_)
  have hP : va_P G.1 zcl [(h0, .inr (12, [.int m0, .ref (G.2.1 95 0), .int 0])), (q1, .inl (G.2.2.1 6, 10, .inr (.inr (.inr (.inr (fun _ => none))))))] H := hP
  have hD : va_D A [(h0, .inr (12, [.int m0, .ref (G.2.1 95 0), .int 0])), (q1, .inl (G.2.2.1 6, 10, .inr (.inr (.inr (.inr (fun _ => none))))))] := hD
  refine lv_dup_x1 hx hb (show decode cJ2_grow_2 55 = .ok (.dup_x1, 1) by decide +kernel) rfl rfl ?_
  refine va_put (D := G.1) (ci := 12) (v := .ref q1) (ty := .array (.object "java/lang/Object")) (C := RJ2) (T := TJ2) (N := 3) hx hb hts in_J2 tyJ2 tyJ2_ok nmJ2 hown hK.1 hP hD hS 0 rfl rfl 1 (by decide) (hts _ q415) (fun _ h9 => h9) rfl (by decide +kernel) rfl rfl (Nat.le_of_ble_eq_true rfl) (show decode cJ2_grow_2 56 = .ok (.putfield 9, 3) by decide +kernel) (fun H locs hP hD hS => ?_)
  have hP : va_P G.1 zcl [(h0, .inr (12, [.int m0, .ref q1, .int 0])), (q1, .inl (G.2.2.1 6, 10, .inr (.inr (.inr (.inr (fun _ => none))))))] H := hP
  have hD : va_D A [(h0, .inr (12, [.int m0, .ref q1, .int 0])), (q1, .inl (G.2.2.1 6, 10, .inr (.inr (.inr (.inr (fun _ => none))))))] := hD
  have hP9 := hP.sub (ws' := [(h0, .inr (12, [.int m0, .ref q1, .int 0])), (q1, .inl (G.2.2.1 6, 10, .inr (.inr (.inr (.inr (fun _ => none))))))]) [0, 1] rfl
  have hD9 := hD.sub (ws' := [(h0, .inr (12, [.int m0, .ref q1, .int 0])), (q1, .inl (G.2.2.1 6, 10, .inr (.inr (.inr (.inr (fun _ => none))))))]) [0, 1] (by decide) rfl
  refine W.widen (k := 1) (n := 10) (by first | decide | omega) (by first | decide | omega) ?_
  exact W.aret (v := .ref q1) hx hb hr (Or.inr ⟨_, rfl⟩) (Or.inr ⟨_, rfl⟩) (fun t ht hW => ⟨⟨q1, q1, rfl, trivial, rfl, by rw [ht]; exact hP9, hD9⟩, hS.F ht⟩) hS.2.2 (show decode cJ2_grow_2 59 = .ok (.areturn, 1) by decide +kernel)

set_option maxHeartbeats 4000000 in
set_option maxRecDepth 100000 in
theorem rJ2_grow_f (l : Launch) (G : zG) (d sz : Nat) (h0 : Nat) (m0 : Int32) : Met l yJ2_grow (ws_ yJ2_grow cJ2_grow 1 (some (.array (.object "java/lang/Object")))) (eRoom (d + 1) 1 10) (rPx G [.ref h0] [(h0, .inr (12, [.int m0, .ref (G.2.1 95 0), .int 0]))] sz (rEe G (G.2.1 95 0))) (va_Qr (fun _ => True) (fun (q1 : Nat) (ra : Nat) (t : State) => ra = q1 ∧ rB G (fun _ : Unit => [(h0, .inr (12, [.int m0, .ref q1, .int 0])), (q1, .inl (G.2.2.1 6, 10, .inr (.inr (.inr (.inr (fun _ => none))))))]) (va_A [(h0, .inr (12, [.int m0, .ref (G.2.1 95 0), .int 0]))] sz) () t) (va_A [(h0, .inr (12, [.int m0, .ref (G.2.1 95 0), .int 0]))] sz)) 1 10 (va_A [(h0, .inr (12, [.int m0, .ref (G.2.1 95 0), .int 0]))] sz) := by
  refine zMetF (cc := cJ2_grow) (maxL := 1) (ret := (some (.array (.object "java/lang/Object")))) (by decide +kernel) rfl ?_
  intro p e s m args below meth c s₁ B hml hv
  obtain ⟨rfl, hsz, hP, hK, hST, hD0, hE⟩ := hv
  have hx := B.exec
  have hb := B.bytes
  have hr := B.returns
  have hts := atoms_spec (ws := ws_ yJ2_grow cJ2_grow 1 (some (.array (.object "java/lang/Object")))) B.pre
  have hts : ∀ w ∈ lw_all, w.before _ s = true := fun w h => hts w (List.mem_cons_of_mem _ h)
  have hown : s.vm.findClass RJ2 = some m.cls := findClass_of_methodNamed B.named
  have hlocks := B.notSynchronized
  subst hsz
  have hD := hD0.self (sz := s.heap.size)
  generalize hAe : va_A [(h0, .inr (12, [.int m0, .ref (G.2.1 95 0), .int 0]))] s.heap.size = A at hD hST hE ⊢
  have hA : ∀ q : Nat, s.heap.size ≤ q → A q := fun q h => by rw [← hAe]; exact Or.inr h
  have hS : va_S A s.heap s.heap [] := va_S.rf
  have hP : va_P G.1 zcl [(h0, .inr (12, [.int m0, .ref (G.2.1 95 0), .int 0]))] s.heap := hP
  have hl := lv_entry ([.ref h0]) (n := 1) (Nat.le_of_ble_eq_true rfl)
  rw [lg_entry_eq]
  generalize (lg_sl ([.ref h0]) ++ List.replicate (1 - (lg_sl ([.ref h0])).length) Slot.unset).toArray = ls at hl ⊢
  have hl : lv_has ls 1 [(0, .ref h0)] := hl
  refine lv_aload_n hx hb (show decode cJ2_grow 0 = .ok (.aload_n 0, 1) by decide +kernel) rfl (lv_at hl 0 rfl) ?_
  refine lv_aload_n hx hb (show decode cJ2_grow 1 = .ok (.aload_n 0, 1) by decide +kernel) rfl (lv_at hl 0 rfl) ?_
  refine va_get (D := G.1) (ci := 12) (v := .int 0) (C := RJ2) (T := TJ2) (N := 3) hx hb hts in_J2 hown hK.1 hP 0 rfl rfl 2 (by decide) (hts _ q418) (fun _ h9 => h9) rfl (show decode cJ2_grow 2 = .ok (.getfield 48, 3) by decide +kernel) ?_
  refine lv_iconst (v := 1) hx hb (show decode cJ2_grow 5 = .ok (.iconst 1, 1) by decide +kernel) (by decide) ?_
  refine lv_iadd hx hb (show decode cJ2_grow 6 = .ok (.iadd, 1) by decide +kernel) ?_
  refine lv_topi (fun yy_ ey_ => ?_)
  obtain rfl : yy_ = 1 := ey_.trans (by decide)
  have hPc := hP.sub (ws' := [(h0, .inr (12, [.int m0, .ref (G.2.1 95 0), .int 0]))]) [0] rfl
  have hDc := hD.sub (ws' := [(h0, .inr (12, [.int m0, .ref (G.2.1 95 0), .int 0]))]) [0] (by decide) rfl
  have hFc := va_free (wc := [(h0, .inr (12, [.int m0, .ref (G.2.1 95 0), .int 0]))]) hD hS hA [0] rfl
  refine va_callr (va_runV (As := [.int 1]) (rest := []) ⟨hx, hb, hml, hown, hts⟩ (rJ2_grow_2_f l G (d + 0) s.heap.size (h0) (m0) ) (cwV 1 hts (lw_V q869 q871 qs17 q146 q872) rfl rfl rfl (by decide +kernel) ⟨(rroom (d := d + 0) (mc := 1) (ms := 10) (mc' := 1) (ms' := 10) (mL := 4) (by decide)).1, by first | exact (rroom (d := d + 0) (mc := 1) (ms := 10) (mc' := 1) (ms' := 10) (mL := 4) (by decide)).2⟩) ⟨rxblind rEe_st, va_recv hK.1 hPc (ci := 12) (q0 := 0) rfl rfl, rpx rEe_st hE hK hST hS hPc hDc hFc [.ref h0, .int 1]⟩ rfl rfl hl.1 rfl (lv_room (Nat.le_of_ble_eq_true rfl)) (show decode cJ2_grow 7 = .ok (.invokevirtual 69, 3) by decide +kernel) ⟨by show _ ≤ 1; first | decide | omega, by show _ ≤ 10; first | decide | omega⟩) hS (fun q _ h => hFc q h) hFc (fun u ra_ t H1 locs ht hvm hw hB hz1 hk1 hS => ?_)
  obtain ⟨q1, rfl⟩ : ∃ z, z = u := ⟨_, rfl⟩
  obtain ⟨hra_, hP1, hD1⟩ := hB
  rw [ht] at hP1
  obtain ⟨hP, hD⟩ := va_join (wr := []) (w1 := [(h0, .inr (12, [.int m0, .ref q1, .int 0])), (q1, .inl (G.2.2.1 6, 10, .inr (.inr (.inr (.inr (fun _ => none))))))]) hP hD [0] [] rfl rfl (by decide) (by decide) hk1 hFc hP1 hD1
  generalize H1 = H at hP hS ⊢
  have hP : va_P G.1 zcl [(h0, .inr (12, [.int m0, .ref q1, .int 0])), (q1, .inl (G.2.2.1 6, 10, .inr (.inr (.inr (.inr (fun _ => none))))))] H := hP
  have hD : va_D A [(h0, .inr (12, [.int m0, .ref q1, .int 0])), (q1, .inl (G.2.2.1 6, 10, .inr (.inr (.inr (.inr (fun _ => none))))))] := hD
  have hra_ : ra_ = q1 := hra_
  rw [hra_]
  have hP9 := hP.sub (ws' := [(h0, .inr (12, [.int m0, .ref q1, .int 0])), (q1, .inl (G.2.2.1 6, 10, .inr (.inr (.inr (.inr (fun _ => none))))))]) [0, 1] rfl
  have hD9 := hD.sub (ws' := [(h0, .inr (12, [.int m0, .ref q1, .int 0])), (q1, .inl (G.2.2.1 6, 10, .inr (.inr (.inr (.inr (fun _ => none))))))]) [0, 1] (by decide) rfl
  refine W.widen (k := 1) (n := 10) (by first | decide | omega) (by first | decide | omega) ?_
  exact W.aret (v := .ref q1) hx hb hr (Or.inr ⟨_, rfl⟩) (Or.inr ⟨_, rfl⟩) (fun t ht hW => ⟨⟨q1, q1, rfl, trivial, rfl, by rw [ht]; exact hP9, hD9⟩, hS.F ht⟩) hS.2.2 (show decode cJ2_grow 10 = .ok (.areturn, 1) by decide +kernel)

set_option maxHeartbeats 4000000 in
set_option maxRecDepth 100000 in
theorem rJ2_add_2_f (l : Launch) (G : zG) (d sz : Nat) (h0 : Nat) (e0 : Nat) (m0 : Int32) (v0 : List Value) : Met l yJ2_add_2 (ws_ yJ2_add_2 cJ2_add_2 4 none) (eRoom (d + 2) 1 10) (rPx G [.ref h0, .ref e0, .ref (G.2.1 95 0), .int 0] [(h0, .inr (12, [.int m0, .ref (G.2.1 95 0), .int 0])), (e0, .inr (11, v0))] sz (rEe G (G.2.1 95 0))) (va_Qv (fun _ => True) (rB G (fun q1 : Nat => [(h0, .inr (12, [.int m0, .ref q1, .int 1])), (q1, .inl (G.2.2.1 6, 10, .inr (.inr (.inr (.inr (va_up (fun _ => none) (0) (some e0))))))), (e0, .inr (11, v0))]) (va_A [(h0, .inr (12, [.int m0, .ref (G.2.1 95 0), .int 0])), (e0, .inr (11, v0))] sz)) (va_A [(h0, .inr (12, [.int m0, .ref (G.2.1 95 0), .int 0])), (e0, .inr (11, v0))] sz)) 1 10 (va_A [(h0, .inr (12, [.int m0, .ref (G.2.1 95 0), .int 0])), (e0, .inr (11, v0))] sz) := by
  refine zMetF (cc := cJ2_add_2) (maxL := 4) (ret := none) (by decide +kernel) rfl ?_
  intro p e s m args below meth c s₁ B hml hv
  obtain ⟨rfl, hsz, hP, hK, hST, hD0, hE⟩ := hv
  have hx := B.exec
  have hb := B.bytes
  have hr := B.returns
  have hts := atoms_spec (ws := ws_ yJ2_add_2 cJ2_add_2 4 none) B.pre
  have hts : ∀ w ∈ lw_all, w.before _ s = true := fun w h => hts w (List.mem_cons_of_mem _ h)
  have hown : s.vm.findClass RJ2 = some m.cls := findClass_of_methodNamed B.named
  have hlocks := B.notSynchronized
  subst hsz
  have hD := hD0.self (sz := s.heap.size)
  generalize hAe : va_A [(h0, .inr (12, [.int m0, .ref (G.2.1 95 0), .int 0])), (e0, .inr (11, v0))] s.heap.size = A at hD hST hE ⊢
  have hA : ∀ q : Nat, s.heap.size ≤ q → A q := fun q h => by rw [← hAe]; exact Or.inr h
  have hS : va_S A s.heap s.heap [] := va_S.rf
  have hP : va_P G.1 zcl [(h0, .inr (12, [.int m0, .ref (G.2.1 95 0), .int 0])), (e0, .inr (11, v0))] s.heap := hP
  have hl := lv_entry ([.ref h0, .ref e0, .ref (G.2.1 95 0), .int 0]) (n := 4) (Nat.le_of_ble_eq_true rfl)
  rw [lg_entry_eq]
  generalize (lg_sl ([.ref h0, .ref e0, .ref (G.2.1 95 0), .int 0]) ++ List.replicate (4 - (lg_sl ([.ref h0, .ref e0, .ref (G.2.1 95 0), .int 0])).length) Slot.unset).toArray = ls at hl ⊢
  have hl : lv_has ls 4 [(0, .ref h0), (1, .ref e0), (2, .ref (G.2.1 95 0)), (3, .int 0)] := hl
  refine lv_iload_n hx hb (show decode cJ2_add_2 0 = .ok (.iload_n 3, 1) by decide +kernel) rfl (lv_at hl 3 rfl) ?_
  refine lv_aload_n hx hb (show decode cJ2_add_2 1 = .ok (.aload_n 2, 1) by decide +kernel) rfl (lv_at hl 2 rfl) ?_
  refine va_tlen (v := 0) hx hb (rEe_T hK hE) hS rfl (show decode cJ2_add_2 2 = .ok (.arraylength, 1) by decide +kernel) ?_
  refine lv_icmp_ne (tgt := 11) hx hb (show decode cJ2_add_2 3 = .ok (.if_icmp .ne 8, 3) by decide +kernel) (by decide) (fun cnd_ => absurd rfl cnd_) (fun cnd_ => ?_)
  refine lv_aload_n hx hb (show decode cJ2_add_2 6 = .ok (.aload_n 0, 1) by decide +kernel) rfl (lv_at hl 0 rfl) ?_
  have hPc := hP.sub (ws' := [(h0, .inr (12, [.int m0, .ref (G.2.1 95 0), .int 0]))]) [0] rfl
  have hDc := hD.sub (ws' := [(h0, .inr (12, [.int m0, .ref (G.2.1 95 0), .int 0]))]) [0] (by decide) rfl
  have hFc := va_free (wc := [(h0, .inr (12, [.int m0, .ref (G.2.1 95 0), .int 0]))]) hD hS hA [0] rfl
  refine va_callr (va_runV (As := []) (rest := []) ⟨hx, hb, hml, hown, hts⟩ (rJ2_grow_f l G (d + 0) s.heap.size (h0) (m0) ) (cwV 0 hts (lw_V q865 q867 qs16 q146 q868) rfl rfl rfl (by decide +kernel) ⟨(rroom (d := d + 1) (mc := 1) (ms := 10) (mc' := 1) (ms' := 10) (mL := 1) (by decide)).1, by first | exact (rroom (d := d + 1) (mc := 1) (ms := 10) (mc' := 1) (ms' := 10) (mL := 1) (by decide)).2⟩) ⟨rxblind rEe_st, va_recv hK.1 hPc (ci := 12) (q0 := 0) rfl rfl, rpx rEe_st hE hK hST hS hPc hDc hFc [.ref h0]⟩ rfl rfl hl.1 rfl (lv_room (Nat.le_of_ble_eq_true rfl)) (show decode cJ2_add_2 7 = .ok (.invokevirtual 129, 3) by decide +kernel) ⟨by show _ ≤ 1; first | decide | omega, by show _ ≤ 10; first | decide | omega⟩) hS (fun q _ h => hFc q h) hFc (fun u ra_ t H1 locs ht hvm hw hB hz1 hk1 hS => ?_)
  obtain ⟨q1, rfl⟩ : ∃ z, z = u := ⟨_, rfl⟩
  obtain ⟨hra_, hP1, hD1⟩ := hB
  rw [ht] at hP1
  obtain ⟨hP, hD⟩ := va_join (wr := [(e0, .inr (11, v0))]) (w1 := [(h0, .inr (12, [.int m0, .ref q1, .int 0])), (q1, .inl (G.2.2.1 6, 10, .inr (.inr (.inr (.inr (fun _ => none))))))]) hP hD [0] [1] rfl rfl (by decide) (by decide) hk1 hFc hP1 hD1
  generalize H1 = H at hP hS ⊢
  have hP : va_P G.1 zcl [(e0, .inr (11, v0)), (h0, .inr (12, [.int m0, .ref q1, .int 0])), (q1, .inl (G.2.2.1 6, 10, .inr (.inr (.inr (.inr (fun _ => none))))))] H := hP
  have hD : va_D A [(e0, .inr (11, v0)), (h0, .inr (12, [.int m0, .ref q1, .int 0])), (q1, .inl (G.2.2.1 6, 10, .inr (.inr (.inr (.inr (fun _ => none))))))] := hD
  have hra_ : ra_ = q1 := hra_
  rw [hra_]
  refine lv_astore_n hx hb (show decode cJ2_add_2 10 = .ok (.astore_n 2, 1) by decide +kernel) rfl hl (by decide) rfl (fun ls hl => ?_)
  have hl : lv_has ls 4 [(2, .ref q1), (0, .ref h0), (1, .ref e0), (3, .int 0)] := hl
  refine lv_aload_n hx hb (show decode cJ2_add_2 11 = .ok (.aload_n 2, 1) by decide +kernel) rfl (lv_at hl 0 rfl) ?_
  refine lv_iload_n hx hb (show decode cJ2_add_2 12 = .ok (.iload_n 3, 1) by decide +kernel) rfl (lv_at hl 3 rfl) ?_
  refine lv_aload_n hx hb (show decode cJ2_add_2 13 = .ok (.aload_n 1, 1) by decide +kernel) rfl (lv_at hl 2 rfl) ?_
  refine va_astqO (E := "java/lang/Object") hx hb hK.1 hP hD hS 2 6 0 11 rfl rfl (hK.2.1 _ q2509 rfl) rfl rfl (zin_lit rfl) (show decode cJ2_add_2 14 = .ok (.aastore, 1) by decide +kernel) (fun H locs hP hD hS => ?_)
  have hP : va_P G.1 zcl [(e0, .inr (11, v0)), (h0, .inr (12, [.int m0, .ref q1, .int 0])), (q1, .inl (G.2.2.1 6, 10, .inr (.inr (.inr (.inr (va_up (fun _ => none) (0) (some e0)))))))] H := hP
  have hD : va_D A [(e0, .inr (11, v0)), (h0, .inr (12, [.int m0, .ref q1, .int 0])), (q1, .inl (G.2.2.1 6, 10, .inr (.inr (.inr (.inr (va_up (fun _ => none) (0) (some e0)))))))] := hD
  refine lv_aload_n hx hb (show decode cJ2_add_2 15 = .ok (.aload_n 0, 1) by decide +kernel) rfl (lv_at hl 1 rfl) ?_
  refine lv_iload_n hx hb (show decode cJ2_add_2 16 = .ok (.iload_n 3, 1) by decide +kernel) rfl (lv_at hl 3 rfl) ?_
  refine lv_iconst (v := 1) hx hb (show decode cJ2_add_2 17 = .ok (.iconst 1, 1) by decide +kernel) (by decide) ?_
  refine lv_iadd hx hb (show decode cJ2_add_2 18 = .ok (.iadd, 1) by decide +kernel) ?_
  refine lv_topi (fun yy_ ey_ => ?_)
  obtain rfl : yy_ = 1 := ey_.trans (by decide)
  refine va_put (D := G.1) (ci := 12) (v := .int 1) (ty := .int) (C := RJ2) (T := TJ2) (N := 3) hx hb hts in_J2 tyJ2 tyJ2_ok nmJ2 hown hK.1 hP hD hS 1 rfl rfl 2 (by decide) (hts _ q418) (fun _ h9 => h9) rfl (by decide +kernel) rfl rfl (Nat.le_of_ble_eq_true rfl) (show decode cJ2_add_2 19 = .ok (.putfield 48, 3) by decide +kernel) (fun H locs hP hD hS => ?_)
  have hP : va_P G.1 zcl [(e0, .inr (11, v0)), (h0, .inr (12, [.int m0, .ref q1, .int 1])), (q1, .inl (G.2.2.1 6, 10, .inr (.inr (.inr (.inr (va_up (fun _ => none) (0) (some e0)))))))] H := hP
  have hD : va_D A [(e0, .inr (11, v0)), (h0, .inr (12, [.int m0, .ref q1, .int 1])), (q1, .inl (G.2.2.1 6, 10, .inr (.inr (.inr (.inr (va_up (fun _ => none) (0) (some e0)))))))] := hD
  have hP9 := hP.sub (ws' := [(h0, .inr (12, [.int m0, .ref q1, .int 1])), (q1, .inl (G.2.2.1 6, 10, .inr (.inr (.inr (.inr (va_up (fun _ => none) (0) (some e0))))))), (e0, .inr (11, v0))]) [1, 2, 0] rfl
  have hD9 := hD.sub (ws' := [(h0, .inr (12, [.int m0, .ref q1, .int 1])), (q1, .inl (G.2.2.1 6, 10, .inr (.inr (.inr (.inr (va_up (fun _ => none) (0) (some e0))))))), (e0, .inr (11, v0))]) [1, 2, 0] (by decide) rfl
  refine W.widen (k := 1) (n := 10) (by first | decide | omega) (by first | decide | omega) ?_
  exact W.vret hx hb hr (fun t ht hW => ⟨⟨q1, rfl, trivial, by rw [ht]; exact hP9, hD9⟩, hS.F ht⟩) hS.2.2 (show decode cJ2_add_2 22 = .ok (.return_, 1) by decide +kernel)

set_option maxHeartbeats 4000000 in
set_option maxRecDepth 100000 in
/-- add, the first one -/
theorem rJ2_add_f (l : Launch) (G : zG) (d sz : Nat) (h0 : Nat) (e0 : Nat) (m0 : Int32) (v0 : List Value) : Met l yJ2_add (ws_ yJ2_add cJ2_add 2 (some .boolean)) (eRoom (d + 3) 1 10) (rPx G [.ref h0, .ref e0] [(h0, .inr (12, [.int m0, .ref (G.2.1 95 0), .int 0])), (e0, .inr (11, v0))] sz (rEe G (G.2.1 95 0))) (va_Qi (fun (r : Int32) _ => r = 1) (rB G (fun q1 : Nat => [(h0, .inr (12, [.int (m0 + 1), .ref q1, .int 1])), (q1, .inl (G.2.2.1 6, 10, .inr (.inr (.inr (.inr (va_up (fun _ => none) (0) (some e0))))))), (e0, .inr (11, v0))]) (va_A [(h0, .inr (12, [.int m0, .ref (G.2.1 95 0), .int 0])), (e0, .inr (11, v0))] sz)) (va_A [(h0, .inr (12, [.int m0, .ref (G.2.1 95 0), .int 0])), (e0, .inr (11, v0))] sz)) 1 10 (va_A [(h0, .inr (12, [.int m0, .ref (G.2.1 95 0), .int 0])), (e0, .inr (11, v0))] sz) := by
  refine zMetF (cc := cJ2_add) (maxL := 2) (ret := (some .boolean)) (by decide +kernel) rfl ?_
  intro p e s m args below meth c s₁ B hml hv
  obtain ⟨rfl, hsz, hP, hK, hST, hD0, hE⟩ := hv
  have hx := B.exec
  have hb := B.bytes
  have hr := B.returns
  have hts := atoms_spec (ws := ws_ yJ2_add cJ2_add 2 (some .boolean)) B.pre
  have hts : ∀ w ∈ lw_all, w.before _ s = true := fun w h => hts w (List.mem_cons_of_mem _ h)
  have hown : s.vm.findClass RJ2 = some m.cls := findClass_of_methodNamed B.named
  have hlocks := B.notSynchronized
  subst hsz
  have hD := hD0.self (sz := s.heap.size)
  generalize hAe : va_A [(h0, .inr (12, [.int m0, .ref (G.2.1 95 0), .int 0])), (e0, .inr (11, v0))] s.heap.size = A at hD hST hE ⊢
  have hA : ∀ q : Nat, s.heap.size ≤ q → A q := fun q h => by rw [← hAe]; exact Or.inr h
  have hS : va_S A s.heap s.heap [] := va_S.rf
  have hP : va_P G.1 zcl [(h0, .inr (12, [.int m0, .ref (G.2.1 95 0), .int 0])), (e0, .inr (11, v0))] s.heap := hP
  have hl := lv_entry ([.ref h0, .ref e0]) (n := 2) (Nat.le_of_ble_eq_true rfl)
  rw [lg_entry_eq]
  generalize (lg_sl ([.ref h0, .ref e0]) ++ List.replicate (2 - (lg_sl ([.ref h0, .ref e0])).length) Slot.unset).toArray = ls at hl ⊢
  have hl : lv_has ls 2 [(0, .ref h0), (1, .ref e0)] := hl
  refine lv_aload_n hx hb (show decode cJ2_add 0 = .ok (.aload_n 0, 1) by decide +kernel) rfl (lv_at hl 0 rfl) ?_
  refine lv_dup hx hb (show decode cJ2_add 1 = .ok (.dup, 1) by decide +kernel) rfl ?_
  refine va_get (D := G.1) (ci := 12) (v := .int m0) (C := RJ2) (T := TJ2) (N := 3) hx hb hts in_J2 hown hK.1 hP 0 rfl rfl 0 (by decide) (hts _ q422) (u_same (hts _ q421)) rfl (show decode cJ2_add 2 = .ok (.getfield 63, 3) by decide +kernel) ?_
  refine lv_iconst (v := 1) hx hb (show decode cJ2_add 5 = .ok (.iconst 1, 1) by decide +kernel) (by decide) ?_
  refine lv_iadd hx hb (show decode cJ2_add 6 = .ok (.iadd, 1) by decide +kernel) ?_
  refine va_put (D := G.1) (ci := 12) (v := .int (m0 + 1)) (ty := .int) (C := RJ2) (T := TJ2) (N := 3) hx hb hts in_J2 tyJ2 tyJ2_ok nmJ2 hown hK.1 hP hD hS 0 rfl rfl 0 (by decide) (hts _ q422) (u_same (hts _ q421)) rfl (by decide +kernel) rfl rfl (Nat.le_of_ble_eq_true rfl) (show decode cJ2_add 7 = .ok (.putfield 63, 3) by decide +kernel) (fun H locs hP hD hS => ?_)
  have hP : va_P G.1 zcl [(h0, .inr (12, [.int (m0 + 1), .ref (G.2.1 95 0), .int 0])), (e0, .inr (11, v0))] H := hP
  have hD : va_D A [(h0, .inr (12, [.int (m0 + 1), .ref (G.2.1 95 0), .int 0])), (e0, .inr (11, v0))] := hD
  refine lv_aload_n hx hb (show decode cJ2_add 10 = .ok (.aload_n 0, 1) by decide +kernel) rfl (lv_at hl 0 rfl) ?_
  refine lv_aload_n hx hb (show decode cJ2_add 11 = .ok (.aload_n 1, 1) by decide +kernel) rfl (lv_at hl 1 rfl) ?_
  refine lv_aload_n hx hb (show decode cJ2_add 12 = .ok (.aload_n 0, 1) by decide +kernel) rfl (lv_at hl 0 rfl) ?_
  refine va_get (D := G.1) (ci := 12) (v := .ref (G.2.1 95 0)) (C := RJ2) (T := TJ2) (N := 3) hx hb hts in_J2 hown hK.1 hP 0 rfl rfl 1 (by decide) (hts _ q415) (fun _ h9 => h9) rfl (show decode cJ2_add 13 = .ok (.getfield 9, 3) by decide +kernel) ?_
  refine lv_aload_n hx hb (show decode cJ2_add 16 = .ok (.aload_n 0, 1) by decide +kernel) rfl (lv_at hl 0 rfl) ?_
  refine va_get (D := G.1) (ci := 12) (v := .int 0) (C := RJ2) (T := TJ2) (N := 3) hx hb hts in_J2 hown hK.1 hP 0 rfl rfl 2 (by decide) (hts _ q418) (fun _ h9 => h9) rfl (show decode cJ2_add 17 = .ok (.getfield 48, 3) by decide +kernel) ?_
  have hPc := hP.sub (ws' := [(h0, .inr (12, [.int (m0 + 1), .ref (G.2.1 95 0), .int 0])), (e0, .inr (11, v0))]) [0, 1] rfl
  have hDc := hD.sub (ws' := [(h0, .inr (12, [.int (m0 + 1), .ref (G.2.1 95 0), .int 0])), (e0, .inr (11, v0))]) [0, 1] (by decide) rfl
  have hFc := va_free (wc := [(h0, .inr (12, [.int (m0 + 1), .ref (G.2.1 95 0), .int 0])), (e0, .inr (11, v0))]) hD hS hA [0, 1] rfl
  refine va_callv (va_runV (As := [.ref e0, .ref (G.2.1 95 0), .int 0]) (rest := []) ⟨hx, hb, hml, hown, hts⟩ (rJ2_add_2_f l G (d + 0) H.size (h0) (e0) (m0 + 1) (v0) ) (cwV 3 hts (lw_V q861 q863 qs15 q146 q864) rfl rfl rfl (by decide +kernel) ⟨(rroom (d := d + 2) (mc := 1) (ms := 10) (mc' := 1) (ms' := 10) (mL := 4) (by decide)).1, by first | exact (rroom (d := d + 2) (mc := 1) (ms := 10) (mc' := 1) (ms' := 10) (mL := 4) (by decide)).2⟩) ⟨rxblind rEe_st, va_recv hK.1 hPc (ci := 12) (q0 := 0) rfl rfl, rpx rEe_st hE hK hST hS hPc hDc hFc [.ref h0, .ref e0, .ref (G.2.1 95 0), .int 0]⟩ rfl rfl hl.1 rfl (lv_room (Nat.le_of_ble_eq_true rfl)) (show decode cJ2_add 20 = .ok (.invokevirtual 131, 3) by decide +kernel) ⟨by show _ ≤ 1; first | decide | omega, by show _ ≤ 10; first | decide | omega⟩) hS (fun q _ h => hFc q h) hFc (fun u t H1 locs ht hvm hw hB hz1 hk1 hS => ?_)
  obtain ⟨q1, rfl⟩ : ∃ z, z = u := ⟨_, rfl⟩
  obtain ⟨hP1, hD1⟩ := hB
  rw [ht] at hP1
  obtain ⟨hP, hD⟩ := va_join (wr := []) (w1 := [(h0, .inr (12, [.int (m0 + 1), .ref q1, .int 1])), (q1, .inl (G.2.2.1 6, 10, .inr (.inr (.inr (.inr (va_up (fun _ => none) (0) (some e0))))))), (e0, .inr (11, v0))]) hP hD [0, 1] [] rfl rfl (by decide) (by decide) hk1 hFc hP1 hD1
  generalize H1 = H at hP hS ⊢
  have hP : va_P G.1 zcl [(h0, .inr (12, [.int (m0 + 1), .ref q1, .int 1])), (q1, .inl (G.2.2.1 6, 10, .inr (.inr (.inr (.inr (va_up (fun _ => none) (0) (some e0))))))), (e0, .inr (11, v0))] H := hP
  have hD : va_D A [(h0, .inr (12, [.int (m0 + 1), .ref q1, .int 1])), (q1, .inl (G.2.2.1 6, 10, .inr (.inr (.inr (.inr (va_up (fun _ => none) (0) (some e0))))))), (e0, .inr (11, v0))] := hD
  refine lv_iconst (v := 1) hx hb (show decode cJ2_add 23 = .ok (.iconst 1, 1) by decide +kernel) (by decide) ?_
  have hP9 := hP.sub (ws' := [(h0, .inr (12, [.int (m0 + 1), .ref q1, .int 1])), (q1, .inl (G.2.2.1 6, 10, .inr (.inr (.inr (.inr (va_up (fun _ => none) (0) (some e0))))))), (e0, .inr (11, v0))]) [0, 1, 2] rfl
  have hD9 := hD.sub (ws' := [(h0, .inr (12, [.int (m0 + 1), .ref q1, .int 1])), (q1, .inl (G.2.2.1 6, 10, .inr (.inr (.inr (.inr (va_up (fun _ => none) (0) (some e0))))))), (e0, .inr (11, v0))]) [0, 1, 2] (by decide) rfl
  refine W.widen (k := 1) (n := 10) (by first | decide | omega) (by first | decide | omega) ?_
  exact W.zret (v := 1) hx hb hr rfl (fun t ht hW => ⟨⟨1, q1, rfl, rfl, by rw [ht]; exact hP9, hD9⟩, hS.F ht⟩) hS.2.2 (show decode cJ2_add 24 = .ok (.ireturn, 1) by decide +kernel)

