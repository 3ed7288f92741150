/-! RAW: makers, lists -/
set_option maxHeartbeats 4000000 in
set_option maxRecDepth 100000 in
theorem rJ8_init_3 (l : Launch) (G : zG) (d sz : Nat) (h0 : Nat) : Met l yJ8_init_3 (ws_ yJ8_init_3 cJ8_init_3 5 none) (eRoom (d + 1) 0 0) (rPc G [.ref h0, .null, .null, .int 0, .int 0] [(h0, .inr (8, [.null, .null, .null, .null, .null, .int 0, .int 0, .int 0]))] sz) (va_Qv (fun _ => True) (rB G (fun _ : Unit => [(h0, .inr (8, [.null, .null, .null, .null, .null, .int 0, .int 0, .int 0]))]) (va_A [(h0, .inr (8, [.null, .null, .null, .null, .null, .int 0, .int 0, .int 0]))] sz)) (va_A [(h0, .inr (8, [.null, .null, .null, .null, .null, .int 0, .int 0, .int 0]))] sz)) 0 0 (va_A [(h0, .inr (8, [.null, .null, .null, .null, .null, .int 0, .int 0, .int 0]))] sz) := by
  refine zMetF (cc := cJ8_init_3) (maxL := 5) (ret := none) (by decide +kernel) rfl ?_
  intro p e s m args below meth c s₁ B hml hv
  obtain ⟨rfl, hsz, hP, hK, hST, hD0⟩ := hv
  have hx := B.exec
  have hb := B.bytes
  have hr := B.returns
  have hts := atoms_spec (ws := ws_ yJ8_init_3 cJ8_init_3 5 none) B.pre
  have hts : ∀ w ∈ lw_all, w.before _ s = true := fun w h => hts w (List.mem_cons_of_mem _ h)
  have hown : s.vm.findClass RJ8 = some m.cls := findClass_of_methodNamed B.named
  have hlocks := B.notSynchronized
  have hin : meth.name = "<init>" := (name_of_methodNamed B.named B.method).1
  subst hsz
  have hD := hD0.self (sz := s.heap.size)
  generalize hAe : va_A [(h0, .inr (8, [.null, .null, .null, .null, .null, .int 0, .int 0, .int 0]))] s.heap.size = A at hD hST ⊢
  have hA : ∀ q : Nat, s.heap.size ≤ q → A q := fun q h => by rw [← hAe]; exact Or.inr h
  have hS : va_S A s.heap s.heap [] := va_S.rf
  have hP : va_P G.1 zcl [(h0, .inr (8, [.null, .null, .null, .null, .null, .int 0, .int 0, .int 0]))] s.heap := hP
  have hl := lv_entry ([.ref h0, .null, .null, .int 0, .int 0]) (n := 5) (Nat.le_of_ble_eq_true rfl)
  rw [lg_entry_eq]
  generalize (lg_sl ([.ref h0, .null, .null, .int 0, .int 0]) ++ List.replicate (5 - (lg_sl ([.ref h0, .null, .null, .int 0, .int 0])).length) Slot.unset).toArray = ls at hl ⊢
  have hl : lv_has ls 5 [(0, .ref h0), (1, .null), (2, .null), (3, .int 0), (4, .int 0)] := hl
  refine lv_aload_n hx hb (show decode cJ8_init_3 0 = .ok (.aload_n 0, 1) by decide +kernel) rfl (lv_at hl 0 rfl) ?_
  refine W.objInit hx hb hown (hts _ q203) (hts _ q204) (hts _ q205) rfl (by rw [hml]; exact hl.1) rfl (show decode cJ8_init_3 1 = .ok (.invokespecial 1, 3) by decide +kernel) (Nat.succ_le_succ (Nat.zero_le _)) (by show _ ≤ 48 * (_ + 1); exact Nat.le_trans (Nat.le_of_ble_eq_true rfl) (Nat.le_mul_of_pos_right 48 (Nat.succ_pos _))) ?_
  refine W.eq (g2 := F0 m 4 ls []) rfl ?_
  refine lv_aload_n hx hb (show decode cJ8_init_3 4 = .ok (.aload_n 0, 1) by decide +kernel) rfl (lv_at hl 0 rfl) ?_
  refine lv_aload_n hx hb (show decode cJ8_init_3 5 = .ok (.aload_n 0, 1) by decide +kernel) rfl (lv_at hl 0 rfl) ?_
  refine va_put (D := G.1) (ci := 8) (v := .ref h0) (ty := .object "java/lang/Throwable") (C := RX8) (T := TX8) (N := 8) hx hb hts in_X8 tyX8 tyX8_ok nmX8 hown hK.1 hP hD hS 0 rfl rfl 0 (by decide) (hts _ q239) (fun _ h9 => h9) rfl (by decide +kernel) rfl rfl (Nat.le_of_ble_eq_true rfl) (show decode cJ8_init_3 6 = .ok (.putfield 7, 3) by decide +kernel) (fun H locs hP hD hS => ?_)
  have hP : va_P G.1 zcl [(h0, .inr (8, [.ref h0, .null, .null, .null, .null, .int 0, .int 0, .int 0]))] H := hP
  have hD : va_D A [(h0, .inr (8, [.ref h0, .null, .null, .null, .null, .int 0, .int 0, .int 0]))] := hD
  refine lv_aload_n hx hb (show decode cJ8_init_3 9 = .ok (.aload_n 0, 1) by decide +kernel) rfl (lv_at hl 0 rfl) ?_
  obtain ⟨va_, hva_, hza_⟩ : ∃ v, (narrow (.array (.object "java/lang/StackTraceElement")) v = v ∧ fits (.array (.object "java/lang/StackTraceElement")) v = true) ∧ va_Z "java/lang/Throwable" "UNASSIGNED_STACK" "[Ljava/lang/StackTraceElement;" v A s s.heap := by
    rcases hST.2.2.2.1.1 with h | ⟨t, h⟩
    · exact ⟨_, ⟨rfl, rfl⟩, h⟩
    · exact ⟨_, ⟨rfl, rfl⟩, h⟩
  refine va_gets hx hb hza_ hS hown (hts _ q206) (fun _ h9 => h9) (show decode cJ8_init_3 10 = .ok (.getstatic 13, 3) by decide +kernel) ?_
  refine va_put (D := G.1) (ci := 8) (v := va_) (ty := .array (.object "java/lang/StackTraceElement")) (C := RX8) (T := TX8) (N := 8) hx hb hts in_X8 tyX8 tyX8_ok nmX8 hown hK.1 hP hD hS 0 rfl rfl 1 (by decide) (hts _ q240) (fun _ h9 => h9) rfl (by decide +kernel) hva_.1 hva_.2 (Nat.le_of_ble_eq_true rfl) (show decode cJ8_init_3 13 = .ok (.putfield 17, 3) by decide +kernel) (fun H locs hP hD hS => ?_)
  have hP : va_P G.1 zcl [(h0, .inr (8, [.ref h0, va_, .null, .null, .null, .int 0, .int 0, .int 0]))] H := hP
  have hD : va_D A [(h0, .inr (8, [.ref h0, va_, .null, .null, .null, .int 0, .int 0, .int 0]))] := hD
  refine lv_aload_n hx hb (show decode cJ8_init_3 16 = .ok (.aload_n 0, 1) by decide +kernel) rfl (lv_at hl 0 rfl) ?_
  obtain ⟨vb_, hvb_, hzb_⟩ : ∃ v, (narrow (.object "java/util/List") v = v ∧ fits (.object "java/util/List") v = true) ∧ va_Z "java/lang/Throwable" "SUPPRESSED_SENTINEL" "Ljava/util/List;" v A s s.heap := by
    rcases hST.2.2.2.2.1.1 with h | ⟨t, h⟩
    · exact ⟨_, ⟨rfl, rfl⟩, h⟩
    · exact ⟨_, ⟨rfl, rfl⟩, h⟩
  refine va_gets hx hb hzb_ hS hown (hts _ q208) (fun _ h9 => h9) (show decode cJ8_init_3 17 = .ok (.getstatic 20, 3) by decide +kernel) ?_
  refine va_put (D := G.1) (ci := 8) (v := vb_) (ty := .object "java/util/List") (C := RX8) (T := TX8) (N := 8) hx hb hts in_X8 tyX8 tyX8_ok nmX8 hown hK.1 hP hD hS 0 rfl rfl 2 (by decide) (hts _ q241) (fun _ h9 => h9) rfl (by decide +kernel) hvb_.1 hvb_.2 (Nat.le_of_ble_eq_true rfl) (show decode cJ8_init_3 20 = .ok (.putfield 24, 3) by decide +kernel) (fun H locs hP hD hS => ?_)
  have hP : va_P G.1 zcl [(h0, .inr (8, [.ref h0, va_, vb_, .null, .null, .int 0, .int 0, .int 0]))] H := hP
  have hD : va_D A [(h0, .inr (8, [.ref h0, va_, vb_, .null, .null, .int 0, .int 0, .int 0]))] := hD
  refine lv_iload hx hb (show decode cJ8_init_3 23 = .ok (.iload 4, 2) by decide +kernel) (lv_at hl 4 rfl) ?_
  refine lv_if_eq (tgt := 36) hx hb (show decode cJ8_init_3 25 = .ok (.ifCond .eq 11, 3) by decide +kernel) (by decide) (fun cnd_ => ?_) (fun cnd_ => absurd (rfl) cnd_)
  refine lv_aload_n hx hb (show decode cJ8_init_3 36 = .ok (.aload_n 0, 1) by decide +kernel) rfl (lv_at hl 0 rfl) ?_
  refine lv_null hx hb (show decode cJ8_init_3 37 = .ok (.aconst_null, 1) by decide +kernel) ?_
  refine va_put (D := G.1) (ci := 8) (v := .null) (ty := .array (.object "java/lang/StackTraceElement")) (C := RX8) (T := TX8) (N := 8) hx hb hts in_X8 tyX8 tyX8_ok nmX8 hown hK.1 hP hD hS 0 rfl rfl 1 (by decide) (hts _ q240) (fun _ h9 => h9) rfl (by decide +kernel) rfl rfl (Nat.le_of_ble_eq_true rfl) (show decode cJ8_init_3 38 = .ok (.putfield 17, 3) by decide +kernel) (fun H locs hP hD hS => ?_)
  have hP : va_P G.1 zcl [(h0, .inr (8, [.ref h0, .null, vb_, .null, .null, .int 0, .int 0, .int 0]))] H := hP
  have hD : va_D A [(h0, .inr (8, [.ref h0, .null, vb_, .null, .null, .int 0, .int 0, .int 0]))] := hD
  refine lv_aload_n hx hb (show decode cJ8_init_3 41 = .ok (.aload_n 0, 1) by decide +kernel) rfl (lv_at hl 0 rfl) ?_
  refine lv_aload_nN hx hb (show decode cJ8_init_3 42 = .ok (.aload_n 1, 1) by decide +kernel) rfl (lv_at hl 1 rfl) ?_
  refine va_put (D := G.1) (ci := 8) (v := .null) (ty := .object "java/lang/String") (C := RX8) (T := TX8) (N := 8) hx hb hts in_X8 tyX8 tyX8_ok nmX8 hown hK.1 hP hD hS 0 rfl rfl 3 (by decide) (hts _ q238) (fun _ h9 => h9) rfl (by decide +kernel) rfl rfl (Nat.le_of_ble_eq_true rfl) (show decode cJ8_init_3 43 = .ok (.putfield 31, 3) by decide +kernel) (fun H locs hP hD hS => ?_)
  have hP : va_P G.1 zcl [(h0, .inr (8, [.ref h0, .null, vb_, .null, .null, .int 0, .int 0, .int 0]))] H := hP
  have hD : va_D A [(h0, .inr (8, [.ref h0, .null, vb_, .null, .null, .int 0, .int 0, .int 0]))] := hD
  refine lv_aload_n hx hb (show decode cJ8_init_3 46 = .ok (.aload_n 0, 1) by decide +kernel) rfl (lv_at hl 0 rfl) ?_
  refine lv_aload_nN hx hb (show decode cJ8_init_3 47 = .ok (.aload_n 2, 1) by decide +kernel) rfl (lv_at hl 2 rfl) ?_
  refine va_put (D := G.1) (ci := 8) (v := .null) (ty := .object "java/lang/Throwable") (C := RX8) (T := TX8) (N := 8) hx hb hts in_X8 tyX8 tyX8_ok nmX8 hown hK.1 hP hD hS 0 rfl rfl 0 (by decide) (hts _ q239) (fun _ h9 => h9) rfl (by decide +kernel) rfl rfl (Nat.le_of_ble_eq_true rfl) (show decode cJ8_init_3 48 = .ok (.putfield 7, 3) by decide +kernel) (fun H locs hP hD hS => ?_)
  have hP : va_P G.1 zcl [(h0, .inr (8, [.null, .null, vb_, .null, .null, .int 0, .int 0, .int 0]))] H := hP
  have hD : va_D A [(h0, .inr (8, [.null, .null, vb_, .null, .null, .int 0, .int 0, .int 0]))] := hD
  refine lv_iload_n hx hb (show decode cJ8_init_3 51 = .ok (.iload_n 3, 1) by decide +kernel) rfl (lv_at hl 3 rfl) ?_
  refine lv_if_ne (tgt := 60) hx hb (show decode cJ8_init_3 52 = .ok (.ifCond .ne 8, 3) by decide +kernel) (by decide) (fun cnd_ => absurd cnd_ (by decide)) (fun cnd_ => ?_)
  refine lv_aload_n hx hb (show decode cJ8_init_3 55 = .ok (.aload_n 0, 1) by decide +kernel) rfl (lv_at hl 0 rfl) ?_
  refine lv_null hx hb (show decode cJ8_init_3 56 = .ok (.aconst_null, 1) by decide +kernel) ?_
  refine va_put (D := G.1) (ci := 8) (v := .null) (ty := .object "java/util/List") (C := RX8) (T := TX8) (N := 8) hx hb hts in_X8 tyX8 tyX8_ok nmX8 hown hK.1 hP hD hS 0 rfl rfl 2 (by decide) (hts _ q241) (fun _ h9 => h9) rfl (by decide +kernel) rfl rfl (Nat.le_of_ble_eq_true rfl) (show decode cJ8_init_3 57 = .ok (.putfield 24, 3) by decide +kernel) (fun H locs hP hD hS => ?_)
  have hP : va_P G.1 zcl [(h0, .inr (8, [.null, .null, .null, .null, .null, .int 0, .int 0, .int 0]))] H := hP
  have hD : va_D A [(h0, .inr (8, [.null, .null, .null, .null, .null, .int 0, .int 0, .int 0]))] := hD
  have hP9 := hP.sub (ws' := [(h0, .inr (8, [.null, .null, .null, .null, .null, .int 0, .int 0, .int 0]))]) [0] rfl
  have hD9 := hD.sub (ws' := [(h0, .inr (8, [.null, .null, .null, .null, .null, .int 0, .int 0, .int 0]))]) [0] (by decide) rfl
  exact W.vret hx hb hr (fun t ht hW => ⟨⟨(), rfl, trivial, by rw [ht]; exact hP9, hD9⟩, hS.F ht⟩) hS.2.2 (show decode cJ8_init_3 60 = .ok (.return_, 1) by decide +kernel)

set_option maxHeartbeats 4000000 in
set_option maxRecDepth 100000 in
theorem rJ9_init_3 (l : Launch) (G : zG) (d sz : Nat) (h0 : Nat) : Met l yJ9_init_3 (ws_ yJ9_init_3 cJ9_init_3 5 none) (eRoom (d + 2) 0 0) (rPc G [.ref h0, .null, .null, .int 0, .int 0] [(h0, .inr (8, [.null, .null, .null, .null, .null, .int 0, .int 0, .int 0]))] sz) (va_Qv (fun _ => True) (rB G (fun _ : Unit => [(h0, .inr (8, [.null, .null, .null, .null, .null, .int 0, .int 0, .int 0]))]) (va_A [(h0, .inr (8, [.null, .null, .null, .null, .null, .int 0, .int 0, .int 0]))] sz)) (va_A [(h0, .inr (8, [.null, .null, .null, .null, .null, .int 0, .int 0, .int 0]))] sz)) 0 0 (va_A [(h0, .inr (8, [.null, .null, .null, .null, .null, .int 0, .int 0, .int 0]))] sz) := by
  refine zMetF (cc := cJ9_init_3) (maxL := 5) (ret := none) (by decide +kernel) rfl ?_
  intro p e s m args below meth c s₁ B hml hv
  obtain ⟨rfl, hsz, hP, hK, hST, hD0⟩ := hv
  have hx := B.exec
  have hb := B.bytes
  have hr := B.returns
  have hts := atoms_spec (ws := ws_ yJ9_init_3 cJ9_init_3 5 none) B.pre
  have hts : ∀ w ∈ lw_all, w.before _ s = true := fun w h => hts w (List.mem_cons_of_mem _ h)
  have hown : s.vm.findClass RJ9 = some m.cls := findClass_of_methodNamed B.named
  have hlocks := B.notSynchronized
  have hin : meth.name = "<init>" := (name_of_methodNamed B.named B.method).1
  subst hsz
  have hD := hD0.self (sz := s.heap.size)
  generalize hAe : va_A [(h0, .inr (8, [.null, .null, .null, .null, .null, .int 0, .int 0, .int 0]))] s.heap.size = A at hD hST ⊢
  have hA : ∀ q : Nat, s.heap.size ≤ q → A q := fun q h => by rw [← hAe]; exact Or.inr h
  have hS : va_S A s.heap s.heap [] := va_S.rf
  have hP : va_P G.1 zcl [(h0, .inr (8, [.null, .null, .null, .null, .null, .int 0, .int 0, .int 0]))] s.heap := hP
  have hl := lv_entry ([.ref h0, .null, .null, .int 0, .int 0]) (n := 5) (Nat.le_of_ble_eq_true rfl)
  rw [lg_entry_eq]
  generalize (lg_sl ([.ref h0, .null, .null, .int 0, .int 0]) ++ List.replicate (5 - (lg_sl ([.ref h0, .null, .null, .int 0, .int 0])).length) Slot.unset).toArray = ls at hl ⊢
  have hl : lv_has ls 5 [(0, .ref h0), (1, .null), (2, .null), (3, .int 0), (4, .int 0)] := hl
  refine lv_aload_n hx hb (show decode cJ9_init_3 0 = .ok (.aload_n 0, 1) by decide +kernel) rfl (lv_at hl 0 rfl) ?_
  refine lv_aload_nN hx hb (show decode cJ9_init_3 1 = .ok (.aload_n 1, 1) by decide +kernel) rfl (lv_at hl 1 rfl) ?_
  refine lv_aload_nN hx hb (show decode cJ9_init_3 2 = .ok (.aload_n 2, 1) by decide +kernel) rfl (lv_at hl 2 rfl) ?_
  refine lv_iload_n hx hb (show decode cJ9_init_3 3 = .ok (.iload_n 3, 1) by decide +kernel) rfl (lv_at hl 3 rfl) ?_
  refine lv_iload hx hb (show decode cJ9_init_3 4 = .ok (.iload 4, 2) by decide +kernel) (lv_at hl 4 rfl) ?_
  have hPc := hP.sub (ws' := [(h0, .inr (8, [.null, .null, .null, .null, .null, .int 0, .int 0, .int 0]))]) [0] rfl
  have hDc := hD.sub (ws' := [(h0, .inr (8, [.null, .null, .null, .null, .null, .int 0, .int 0, .int 0]))]) [0] (by decide) rfl
  have hFc := va_free (wc := [(h0, .inr (8, [.null, .null, .null, .null, .null, .int 0, .int 0, .int 0]))]) hD hS hA [0] rfl
  refine va_callv (va_runI (As := [.null, .null, .int 0, .int 0]) (rest := []) ⟨hx, hb, hml, hown, hts⟩ (rJ8_init_3 l G (d + 0) s.heap.size (h0) ) (cwI 4 hts (lw_meth q781) rfl rfl rfl (hts _ q157) (hts _ q779) (hts _ q780) rfl (by decide +kernel) ⟨(rroom (d := d + 1) (mc := 0) (ms := 0) (mc' := 0) (ms' := 0) (mL := 5) (by decide)).1, by first | exact (rroom (d := d + 1) (mc := 0) (ms := 0) (mc' := 0) (ms' := 0) (mL := 5) (by decide)).2⟩) ⟨rblind, rpc hK hST hS hPc hDc hFc [.ref h0, .null, .null, .int 0, .int 0]⟩ rfl rfl hl.1 rfl (lv_room (Nat.le_of_ble_eq_true rfl)) (show decode cJ9_init_3 6 = .ok (.invokespecial 16, 3) by decide +kernel) ⟨by show _ ≤ 0; first | decide | omega, by show _ ≤ 0; first | decide | omega⟩) hS (fun q _ h => hFc q h) hFc (fun u t H1 locs ht hvm hw hB hz1 hk1 hS => ?_)
  obtain ⟨hP1, hD1⟩ := hB
  rw [ht] at hP1
  obtain ⟨hP, hD⟩ := va_join (wr := []) (w1 := [(h0, .inr (8, [.null, .null, .null, .null, .null, .int 0, .int 0, .int 0]))]) hP hD [0] [] rfl rfl (by decide) (by decide) hk1 hFc hP1 hD1
  generalize H1 = H at hP hS ⊢
  have hP : va_P G.1 zcl [(h0, .inr (8, [.null, .null, .null, .null, .null, .int 0, .int 0, .int 0]))] H := hP
  have hD : va_D A [(h0, .inr (8, [.null, .null, .null, .null, .null, .int 0, .int 0, .int 0]))] := hD
  have hP9 := hP.sub (ws' := [(h0, .inr (8, [.null, .null, .null, .null, .null, .int 0, .int 0, .int 0]))]) [0] rfl
  have hD9 := hD.sub (ws' := [(h0, .inr (8, [.null, .null, .null, .null, .null, .int 0, .int 0, .int 0]))]) [0] (by decide) rfl
  exact W.vret hx hb hr (fun t ht hW => ⟨⟨(), rfl, trivial, by rw [ht]; exact hP9, hD9⟩, hS.F ht⟩) hS.2.2 (show decode cJ9_init_3 9 = .ok (.return_, 1) by decide +kernel)

set_option maxHeartbeats 4000000 in
set_option maxRecDepth 100000 in
theorem rJ10_init_3 (l : Launch) (G : zG) (d sz : Nat) (h0 : Nat) : Met l yJ10_init_3 (ws_ yJ10_init_3 cJ10_init_3 5 none) (eRoom (d + 3) 0 0) (rPc G [.ref h0, .null, .null, .int 0, .int 0] [(h0, .inr (8, [.null, .null, .null, .null, .null, .int 0, .int 0, .int 0]))] sz) (va_Qv (fun _ => True) (rB G (fun _ : Unit => [(h0, .inr (8, [.null, .null, .null, .null, .null, .int 0, .int 0, .int 0]))]) (va_A [(h0, .inr (8, [.null, .null, .null, .null, .null, .int 0, .int 0, .int 0]))] sz)) (va_A [(h0, .inr (8, [.null, .null, .null, .null, .null, .int 0, .int 0, .int 0]))] sz)) 0 0 (va_A [(h0, .inr (8, [.null, .null, .null, .null, .null, .int 0, .int 0, .int 0]))] sz) := by
  refine zMetF (cc := cJ10_init_3) (maxL := 5) (ret := none) (by decide +kernel) rfl ?_
  intro p e s m args below meth c s₁ B hml hv
  obtain ⟨rfl, hsz, hP, hK, hST, hD0⟩ := hv
  have hx := B.exec
  have hb := B.bytes
  have hr := B.returns
  have hts := atoms_spec (ws := ws_ yJ10_init_3 cJ10_init_3 5 none) B.pre
  have hts : ∀ w ∈ lw_all, w.before _ s = true := fun w h => hts w (List.mem_cons_of_mem _ h)
  have hown : s.vm.findClass RJ10 = some m.cls := findClass_of_methodNamed B.named
  have hlocks := B.notSynchronized
  have hin : meth.name = "<init>" := (name_of_methodNamed B.named B.method).1
  subst hsz
  have hD := hD0.self (sz := s.heap.size)
  generalize hAe : va_A [(h0, .inr (8, [.null, .null, .null, .null, .null, .int 0, .int 0, .int 0]))] s.heap.size = A at hD hST ⊢
  have hA : ∀ q : Nat, s.heap.size ≤ q → A q := fun q h => by rw [← hAe]; exact Or.inr h
  have hS : va_S A s.heap s.heap [] := va_S.rf
  have hP : va_P G.1 zcl [(h0, .inr (8, [.null, .null, .null, .null, .null, .int 0, .int 0, .int 0]))] s.heap := hP
  have hl := lv_entry ([.ref h0, .null, .null, .int 0, .int 0]) (n := 5) (Nat.le_of_ble_eq_true rfl)
  rw [lg_entry_eq]
  generalize (lg_sl ([.ref h0, .null, .null, .int 0, .int 0]) ++ List.replicate (5 - (lg_sl ([.ref h0, .null, .null, .int 0, .int 0])).length) Slot.unset).toArray = ls at hl ⊢
  have hl : lv_has ls 5 [(0, .ref h0), (1, .null), (2, .null), (3, .int 0), (4, .int 0)] := hl
  refine lv_aload_n hx hb (show decode cJ10_init_3 0 = .ok (.aload_n 0, 1) by decide +kernel) rfl (lv_at hl 0 rfl) ?_
  refine lv_aload_nN hx hb (show decode cJ10_init_3 1 = .ok (.aload_n 1, 1) by decide +kernel) rfl (lv_at hl 1 rfl) ?_
  refine lv_aload_nN hx hb (show decode cJ10_init_3 2 = .ok (.aload_n 2, 1) by decide +kernel) rfl (lv_at hl 2 rfl) ?_
  refine lv_iload_n hx hb (show decode cJ10_init_3 3 = .ok (.iload_n 3, 1) by decide +kernel) rfl (lv_at hl 3 rfl) ?_
  refine lv_iload hx hb (show decode cJ10_init_3 4 = .ok (.iload 4, 2) by decide +kernel) (lv_at hl 4 rfl) ?_
  have hPc := hP.sub (ws' := [(h0, .inr (8, [.null, .null, .null, .null, .null, .int 0, .int 0, .int 0]))]) [0] rfl
  have hDc := hD.sub (ws' := [(h0, .inr (8, [.null, .null, .null, .null, .null, .int 0, .int 0, .int 0]))]) [0] (by decide) rfl
  have hFc := va_free (wc := [(h0, .inr (8, [.null, .null, .null, .null, .null, .int 0, .int 0, .int 0]))]) hD hS hA [0] rfl
  refine va_callv (va_runI (As := [.null, .null, .int 0, .int 0]) (rest := []) ⟨hx, hb, hml, hown, hts⟩ (rJ9_init_3 l G (d + 0) s.heap.size (h0) ) (cwI 4 hts (lw_meth q778) rfl rfl rfl (hts _ q158) (hts _ q776) (hts _ q777) rfl (by decide +kernel) ⟨(rroom (d := d + 2) (mc := 0) (ms := 0) (mc' := 0) (ms' := 0) (mL := 5) (by decide)).1, by first | exact (rroom (d := d + 2) (mc := 0) (ms := 0) (mc' := 0) (ms' := 0) (mL := 5) (by decide)).2⟩) ⟨rblind, rpc hK hST hS hPc hDc hFc [.ref h0, .null, .null, .int 0, .int 0]⟩ rfl rfl hl.1 rfl (lv_room (Nat.le_of_ble_eq_true rfl)) (show decode cJ10_init_3 6 = .ok (.invokespecial 16, 3) by decide +kernel) ⟨by show _ ≤ 0; first | decide | omega, by show _ ≤ 0; first | decide | omega⟩) hS (fun q _ h => hFc q h) hFc (fun u t H1 locs ht hvm hw hB hz1 hk1 hS => ?_)
  obtain ⟨hP1, hD1⟩ := hB
  rw [ht] at hP1
  obtain ⟨hP, hD⟩ := va_join (wr := []) (w1 := [(h0, .inr (8, [.null, .null, .null, .null, .null, .int 0, .int 0, .int 0]))]) hP hD [0] [] rfl rfl (by decide) (by decide) hk1 hFc hP1 hD1
  generalize H1 = H at hP hS ⊢
  have hP : va_P G.1 zcl [(h0, .inr (8, [.null, .null, .null, .null, .null, .int 0, .int 0, .int 0]))] H := hP
  have hD : va_D A [(h0, .inr (8, [.null, .null, .null, .null, .null, .int 0, .int 0, .int 0]))] := hD
  have hP9 := hP.sub (ws' := [(h0, .inr (8, [.null, .null, .null, .null, .null, .int 0, .int 0, .int 0]))]) [0] rfl
  have hD9 := hD.sub (ws' := [(h0, .inr (8, [.null, .null, .null, .null, .null, .int 0, .int 0, .int 0]))]) [0] (by decide) rfl
  exact W.vret hx hb hr (fun t ht hW => ⟨⟨(), rfl, trivial, by rw [ht]; exact hP9, hD9⟩, hS.F ht⟩) hS.2.2 (show decode cJ10_init_3 9 = .ok (.return_, 1) by decide +kernel)

set_option maxHeartbeats 4000000 in
set_option maxRecDepth 100000 in
/-- a fault -/
theorem rX8_init (l : Launch) (G : zG) (d sz : Nat) (h0 : Nat) (p0 : Int32) (p1 : Int32) : Met l yX8_init (ws_ yX8_init cX8_init 3 none) (eRoom (d + 4) 0 0) (rPc G [.ref h0, .int p0, .int p1] [(h0, .inr (8, [.null, .null, .null, .null, .null, .int 0, .int 0, .int 0]))] sz) (va_Qv (fun _ => True) (rB G (fun _ : Unit => [(h0, .inr (8, [.null, .null, .null, .null, .null, .int 0, .int p0, .int p1]))]) (va_A [(h0, .inr (8, [.null, .null, .null, .null, .null, .int 0, .int 0, .int 0]))] sz)) (va_A [(h0, .inr (8, [.null, .null, .null, .null, .null, .int 0, .int 0, .int 0]))] sz)) 0 0 (va_A [(h0, .inr (8, [.null, .null, .null, .null, .null, .int 0, .int 0, .int 0]))] sz) := by
  refine Met.ofW (cc := cX8_init) (maxL := 3) (ret := none) (by decide) rfl ?_
  intro p e s m args below meth c s₁ B hml hv
  obtain ⟨rfl, hsz, hP, hK, hST, hD0⟩ := hv
  have hx := B.exec
  have hb := B.bytes
  have hr := B.returns
  have hts := atoms_spec (ws := ws_ yX8_init cX8_init 3 none) B.pre
  have hts : ∀ w ∈ lw_all, w.before _ s = true := fun w h => hts w (List.mem_cons_of_mem _ h)
  have hown : s.vm.findClass RX8 = some m.cls := findClass_of_methodNamed B.named
  have hlocks := B.notSynchronized
  have hin : meth.name = "<init>" := (name_of_methodNamed B.named B.method).1
  subst hsz
  have hD := hD0.self (sz := s.heap.size)
  generalize hAe : va_A [(h0, .inr (8, [.null, .null, .null, .null, .null, .int 0, .int 0, .int 0]))] s.heap.size = A at hD hST ⊢
  have hA : ∀ q : Nat, s.heap.size ≤ q → A q := fun q h => by rw [← hAe]; exact Or.inr h
  have hS : va_S A s.heap s.heap [] := va_S.rf
  have hP : va_P G.1 zcl [(h0, .inr (8, [.null, .null, .null, .null, .null, .int 0, .int 0, .int 0]))] s.heap := hP
  have hl := lv_entry ([.ref h0, .int p0, .int p1]) (n := 3) (Nat.le_of_ble_eq_true rfl)
  rw [lg_entry_eq]
  generalize (lg_sl ([.ref h0, .int p0, .int p1]) ++ List.replicate (3 - (lg_sl ([.ref h0, .int p0, .int p1])).length) Slot.unset).toArray = ls at hl ⊢
  have hl : lv_has ls 3 [(0, .ref h0), (1, .int p0), (2, .int p1)] := hl
  refine lv_aload_n hx hb (show decode cX8_init 0 = .ok (.aload_n 0, 1) by decide +kernel) rfl (lv_at hl 0 rfl) ?_
  refine lv_null hx hb (show decode cX8_init 1 = .ok (.aconst_null, 1) by decide +kernel) ?_
  refine lv_null hx hb (show decode cX8_init 2 = .ok (.aconst_null, 1) by decide +kernel) ?_
  refine lv_iconst (v := 0) hx hb (show decode cX8_init 3 = .ok (.iconst 0, 1) by decide +kernel) (by decide) ?_
  refine lv_iconst (v := 0) hx hb (show decode cX8_init 4 = .ok (.iconst 0, 1) by decide +kernel) (by decide) ?_
  have hPc := hP.sub (ws' := [(h0, .inr (8, [.null, .null, .null, .null, .null, .int 0, .int 0, .int 0]))]) [0] rfl
  have hDc := hD.sub (ws' := [(h0, .inr (8, [.null, .null, .null, .null, .null, .int 0, .int 0, .int 0]))]) [0] (by decide) rfl
  have hFc := va_free (wc := [(h0, .inr (8, [.null, .null, .null, .null, .null, .int 0, .int 0, .int 0]))]) hD hS hA [0] rfl
  refine va_callv (va_runI (As := [.null, .null, .int 0, .int 0]) (rest := []) ⟨hx, hb, hml, hown, hts⟩ (rJ10_init_3 l G (d + 0) s.heap.size (h0) ) (cwI 4 hts (lw_meth q775) rfl rfl rfl (hts _ q159) (hts _ q773) (hts _ q774) rfl (by decide +kernel) ⟨(rroom (d := d + 3) (mc := 0) (ms := 0) (mc' := 0) (ms' := 0) (mL := 5) (by decide)).1, by first | exact (rroom (d := d + 3) (mc := 0) (ms := 0) (mc' := 0) (ms' := 0) (mL := 5) (by decide)).2⟩) ⟨rblind, rpc hK hST hS hPc hDc hFc [.ref h0, .null, .null, .int 0, .int 0]⟩ rfl rfl hl.1 rfl (lv_room (Nat.le_of_ble_eq_true rfl)) (show decode cX8_init 5 = .ok (.invokespecial 1, 3) by decide +kernel) ⟨by show _ ≤ 0; first | decide | omega, by show _ ≤ 0; first | decide | omega⟩) hS (fun q _ h => hFc q h) hFc (fun u t H1 locs ht hvm hw hB hz1 hk1 hS => ?_)
  obtain ⟨hP1, hD1⟩ := hB
  rw [ht] at hP1
  obtain ⟨hP, hD⟩ := va_join (wr := []) (w1 := [(h0, .inr (8, [.null, .null, .null, .null, .null, .int 0, .int 0, .int 0]))]) hP hD [0] [] rfl rfl (by decide) (by decide) hk1 hFc hP1 hD1
  generalize H1 = H at hP hS ⊢
  have hP : va_P G.1 zcl [(h0, .inr (8, [.null, .null, .null, .null, .null, .int 0, .int 0, .int 0]))] H := hP
  have hD : va_D A [(h0, .inr (8, [.null, .null, .null, .null, .null, .int 0, .int 0, .int 0]))] := hD
  refine lv_aload_n hx hb (show decode cX8_init 8 = .ok (.aload_n 0, 1) by decide +kernel) rfl (lv_at hl 0 rfl) ?_
  refine lv_iload_n hx hb (show decode cX8_init 9 = .ok (.iload_n 1, 1) by decide +kernel) rfl (lv_at hl 1 rfl) ?_
  refine va_putF (D := G.1) (ci := 8) (v := .int p0) (ty := .int) (C := RX8) (T := TX8) (N := 8) hx hb hts in_X8 tyX8 tyX8_ok nmX8 hown hK.1 hP hD hS 0 rfl rfl 6 (by decide) (hts _ q782) (fun _ h9 => h9) rfl hin rfl (by decide +kernel) rfl rfl (Nat.le_of_ble_eq_true rfl) (show decode cX8_init 10 = .ok (.putfield 7, 3) by decide +kernel) (fun H locs hP hD hS => ?_)
  have hP : va_P G.1 zcl [(h0, .inr (8, [.null, .null, .null, .null, .null, .int 0, .int p0, .int 0]))] H := hP
  have hD : va_D A [(h0, .inr (8, [.null, .null, .null, .null, .null, .int 0, .int p0, .int 0]))] := hD
  refine lv_aload_n hx hb (show decode cX8_init 13 = .ok (.aload_n 0, 1) by decide +kernel) rfl (lv_at hl 0 rfl) ?_
  refine lv_iload_n hx hb (show decode cX8_init 14 = .ok (.iload_n 2, 1) by decide +kernel) rfl (lv_at hl 2 rfl) ?_
  refine va_putF (D := G.1) (ci := 8) (v := .int p1) (ty := .int) (C := RX8) (T := TX8) (N := 8) hx hb hts in_X8 tyX8 tyX8_ok nmX8 hown hK.1 hP hD hS 0 rfl rfl 7 (by decide) (hts _ q784) (fun _ h9 => h9) rfl hin rfl (by decide +kernel) rfl rfl (Nat.le_of_ble_eq_true rfl) (show decode cX8_init 15 = .ok (.putfield 13, 3) by decide +kernel) (fun H locs hP hD hS => ?_)
  have hP : va_P G.1 zcl [(h0, .inr (8, [.null, .null, .null, .null, .null, .int 0, .int p0, .int p1]))] H := hP
  have hD : va_D A [(h0, .inr (8, [.null, .null, .null, .null, .null, .int 0, .int p0, .int p1]))] := hD
  have hP9 := hP.sub (ws' := [(h0, .inr (8, [.null, .null, .null, .null, .null, .int 0, .int p0, .int p1]))]) [0] rfl
  have hD9 := hD.sub (ws' := [(h0, .inr (8, [.null, .null, .null, .null, .null, .int 0, .int p0, .int p1]))]) [0] (by decide) rfl
  exact W.vret hx hb hr (fun t ht hW => ⟨⟨(), rfl, trivial, by rw [ht]; exact hP9, hD9⟩, hS.F ht⟩) hS.2.2 (show decode cX8_init 18 = .ok (.return_, 1) by decide +kernel)

set_option maxHeartbeats 4000000 in
set_option maxRecDepth 100000 in
/-- what is added where there is room -/
theorem rJ2_add_2_X9 (l : Launch) (G : zG) (d sz : Nat) (h0 : Nat) (a0 : Nat) (e0 : Nat) (m0 : Int32) (n0 : Nat) (c0 : Nat) (f0 : Nat → Option Nat) (v0 : List Value) (hn : n0 < c0) (hc : c0 < 2 ^ 31) : Met l yJ2_add_2 (ws_ yJ2_add_2 cJ2_add_2 4 none) (eRoom d 0 0) (rPc G [.ref h0, .ref e0, .ref a0, .int (nI n0)] [(h0, .inr (12, [.int m0, .ref a0, .int (nI n0)])), (a0, .inl (G.2.2.1 6, c0, .inr (.inr (.inr (.inr (f0)))))), (e0, .inr (9, v0))] sz) (va_Qv (fun _ => True) (rB G (fun _ : Unit => [(h0, .inr (12, [.int m0, .ref a0, .int (nI (n0 + 1))])), (a0, .inl (G.2.2.1 6, c0, .inr (.inr (.inr (.inr (va_up (f0) (n0) (some e0))))))), (e0, .inr (9, v0))]) (va_A [(h0, .inr (12, [.int m0, .ref a0, .int (nI n0)])), (a0, .inl (G.2.2.1 6, c0, .inr (.inr (.inr (.inr (f0)))))), (e0, .inr (9, v0))] sz)) (va_A [(h0, .inr (12, [.int m0, .ref a0, .int (nI n0)])), (a0, .inl (G.2.2.1 6, c0, .inr (.inr (.inr (.inr (f0)))))), (e0, .inr (9, v0))] sz)) 0 0 (va_A [(h0, .inr (12, [.int m0, .ref a0, .int (nI n0)])), (a0, .inl (G.2.2.1 6, c0, .inr (.inr (.inr (.inr (f0)))))), (e0, .inr (9, v0))] sz) := by
  refine zMetF (cc := cJ2_add_2) (maxL := 4) (ret := none) (by decide +kernel) rfl ?_
  intro p e s m args below meth c s₁ B hml hv
  obtain ⟨rfl, hsz, hP, hK, hST, hD0⟩ := hv
  have hx := B.exec
  have hb := B.bytes
  have hr := B.returns
  have hts := atoms_spec (ws := ws_ yJ2_add_2 cJ2_add_2 4 none) B.pre
  have hts : ∀ w ∈ lw_all, w.before _ s = true := fun w h => hts w (List.mem_cons_of_mem _ h)
  have hown : s.vm.findClass RJ2 = some m.cls := findClass_of_methodNamed B.named
  have hlocks := B.notSynchronized
  subst hsz
  have hD := hD0.self (sz := s.heap.size)
  generalize hAe : va_A [(h0, .inr (12, [.int m0, .ref a0, .int (nI n0)])), (a0, .inl (G.2.2.1 6, c0, .inr (.inr (.inr (.inr (f0)))))), (e0, .inr (9, v0))] s.heap.size = A at hD hST ⊢
  have hA : ∀ q : Nat, s.heap.size ≤ q → A q := fun q h => by rw [← hAe]; exact Or.inr h
  have hS : va_S A s.heap s.heap [] := va_S.rf
  have hP : va_P G.1 zcl [(h0, .inr (12, [.int m0, .ref a0, .int (nI n0)])), (a0, .inl (G.2.2.1 6, c0, .inr (.inr (.inr (.inr (f0)))))), (e0, .inr (9, v0))] s.heap := hP
  have hl := lv_entry ([.ref h0, .ref e0, .ref a0, .int (nI n0)]) (n := 4) (Nat.le_of_ble_eq_true rfl)
  rw [lg_entry_eq]
  generalize (lg_sl ([.ref h0, .ref e0, .ref a0, .int (nI n0)]) ++ List.replicate (4 - (lg_sl ([.ref h0, .ref e0, .ref a0, .int (nI n0)])).length) Slot.unset).toArray = ls at hl ⊢
  have hl : lv_has ls 4 [(0, .ref h0), (1, .ref e0), (2, .ref a0), (3, .int (nI n0))] := hl
  refine lv_iload_n hx hb (show decode cJ2_add_2 0 = .ok (.iload_n 3, 1) by decide +kernel) rfl (lv_at hl 3 rfl) ?_
  refine lv_aload_n hx hb (show decode cJ2_add_2 1 = .ok (.aload_n 2, 1) by decide +kernel) rfl (lv_at hl 2 rfl) ?_
  refine va_alen (v := nI c0) hx hb hK.1 hP 1 6 rfl rfl rfl (show decode cJ2_add_2 2 = .ok (.arraylength, 1) by decide +kernel) ?_
  refine lv_icmp_ne (tgt := 11) hx hb (show decode cJ2_add_2 3 = .ok (.if_icmp .ne 8, 3) by decide +kernel) (by decide) (fun cnd_ => ?_) (fun cnd_ => absurd ((nI_eq (a := n0) (b := c0) (by omega) (by omega)).mp cnd_) (by omega))
  refine lv_aload_n hx hb (show decode cJ2_add_2 11 = .ok (.aload_n 2, 1) by decide +kernel) rfl (lv_at hl 2 rfl) ?_
  refine lv_iload_n hx hb (show decode cJ2_add_2 12 = .ok (.iload_n 3, 1) by decide +kernel) rfl (lv_at hl 3 rfl) ?_
  refine lv_aload_n hx hb (show decode cJ2_add_2 13 = .ok (.aload_n 1, 1) by decide +kernel) rfl (lv_at hl 1 rfl) ?_
  refine va_astqO (E := "java/lang/Object") hx hb hK.1 hP hD hS 1 6 2 9 rfl rfl (hK.2.1 _ q2507 rfl) rfl rfl (vp_in_nI hn (by omega)) (show decode cJ2_add_2 14 = .ok (.aastore, 1) by decide +kernel) (fun H locs hP hD hS => ?_)
  rw [nI_clamp (by omega)] at hP hD
  have hP : va_P G.1 zcl [(h0, .inr (12, [.int m0, .ref a0, .int (nI n0)])), (a0, .inl (G.2.2.1 6, c0, .inr (.inr (.inr (.inr (va_up (f0) (n0) (some e0))))))), (e0, .inr (9, v0))] H := hP
  have hD : va_D A [(h0, .inr (12, [.int m0, .ref a0, .int (nI n0)])), (a0, .inl (G.2.2.1 6, c0, .inr (.inr (.inr (.inr (va_up (f0) (n0) (some e0))))))), (e0, .inr (9, v0))] := hD
  refine lv_aload_n hx hb (show decode cJ2_add_2 15 = .ok (.aload_n 0, 1) by decide +kernel) rfl (lv_at hl 0 rfl) ?_
  refine lv_iload_n hx hb (show decode cJ2_add_2 16 = .ok (.iload_n 3, 1) by decide +kernel) rfl (lv_at hl 3 rfl) ?_
  refine lv_iconst (v := 1) hx hb (show decode cJ2_add_2 17 = .ok (.iconst 1, 1) by decide +kernel) (by decide) ?_
  refine lv_iadd hx hb (show decode cJ2_add_2 18 = .ok (.iadd, 1) by decide +kernel) ?_
  refine lv_topi (fun yy_ ey_ => ?_)
  obtain rfl : yy_ = nI (n0 + 1) := ey_.trans (by rw [c1, nI_add])
  refine va_put (D := G.1) (ci := 12) (v := .int (nI (n0 + 1))) (ty := .int) (C := RJ2) (T := TJ2) (N := 3) hx hb hts in_J2 tyJ2 tyJ2_ok nmJ2 hown hK.1 hP hD hS 0 rfl rfl 2 (by decide) (hts _ q418) (fun _ h9 => h9) rfl (by decide +kernel) rfl rfl (Nat.le_of_ble_eq_true rfl) (show decode cJ2_add_2 19 = .ok (.putfield 48, 3) by decide +kernel) (fun H locs hP hD hS => ?_)
  have hP : va_P G.1 zcl [(h0, .inr (12, [.int m0, .ref a0, .int (nI (n0 + 1))])), (a0, .inl (G.2.2.1 6, c0, .inr (.inr (.inr (.inr (va_up (f0) (n0) (some e0))))))), (e0, .inr (9, v0))] H := hP
  have hD : va_D A [(h0, .inr (12, [.int m0, .ref a0, .int (nI (n0 + 1))])), (a0, .inl (G.2.2.1 6, c0, .inr (.inr (.inr (.inr (va_up (f0) (n0) (some e0))))))), (e0, .inr (9, v0))] := hD
  have hP9 := hP.sub (ws' := [(h0, .inr (12, [.int m0, .ref a0, .int (nI (n0 + 1))])), (a0, .inl (G.2.2.1 6, c0, .inr (.inr (.inr (.inr (va_up (f0) (n0) (some e0))))))), (e0, .inr (9, v0))]) [0, 1, 2] rfl
  have hD9 := hD.sub (ws' := [(h0, .inr (12, [.int m0, .ref a0, .int (nI (n0 + 1))])), (a0, .inl (G.2.2.1 6, c0, .inr (.inr (.inr (.inr (va_up (f0) (n0) (some e0))))))), (e0, .inr (9, v0))]) [0, 1, 2] (by decide) rfl
  exact W.vret hx hb hr (fun t ht hW => ⟨⟨(), rfl, trivial, by rw [ht]; exact hP9, hD9⟩, hS.F ht⟩) hS.2.2 (show decode cJ2_add_2 22 = .ok (.return_, 1) by decide +kernel)

set_option maxHeartbeats 4000000 in
set_option maxRecDepth 100000 in
/-- add, where there is room -/
theorem rJ2_add_X9 (l : Launch) (G : zG) (d sz : Nat) (h0 : Nat) (a0 : Nat) (e0 : Nat) (m0 : Int32) (n0 : Nat) (c0 : Nat) (f0 : Nat → Option Nat) (v0 : List Value) (hn : n0 < c0) (hc : c0 < 2 ^ 31) : Met l yJ2_add (ws_ yJ2_add cJ2_add 2 (some .boolean)) (eRoom (d + 1) 0 0) (rPc G [.ref h0, .ref e0] [(h0, .inr (12, [.int m0, .ref a0, .int (nI n0)])), (a0, .inl (G.2.2.1 6, c0, .inr (.inr (.inr (.inr (f0)))))), (e0, .inr (9, v0))] sz) (va_Qi (fun (r : Int32) _ => r = 1) (rB G (fun _ : Unit => [(h0, .inr (12, [.int (m0 + 1), .ref a0, .int (nI (n0 + 1))])), (a0, .inl (G.2.2.1 6, c0, .inr (.inr (.inr (.inr (va_up (f0) (n0) (some e0))))))), (e0, .inr (9, v0))]) (va_A [(h0, .inr (12, [.int m0, .ref a0, .int (nI n0)])), (a0, .inl (G.2.2.1 6, c0, .inr (.inr (.inr (.inr (f0)))))), (e0, .inr (9, v0))] sz)) (va_A [(h0, .inr (12, [.int m0, .ref a0, .int (nI n0)])), (a0, .inl (G.2.2.1 6, c0, .inr (.inr (.inr (.inr (f0)))))), (e0, .inr (9, v0))] sz)) 0 0 (va_A [(h0, .inr (12, [.int m0, .ref a0, .int (nI n0)])), (a0, .inl (G.2.2.1 6, c0, .inr (.inr (.inr (.inr (f0)))))), (e0, .inr (9, v0))] sz) := by
  refine zMetF (cc := cJ2_add) (maxL := 2) (ret := (some .boolean)) (by decide +kernel) rfl ?_
  intro p e s m args below meth c s₁ B hml hv
  obtain ⟨rfl, hsz, hP, hK, hST, hD0⟩ := hv
  have hx := B.exec
  have hb := B.bytes
  have hr := B.returns
  have hts := atoms_spec (ws := ws_ yJ2_add cJ2_add 2 (some .boolean)) B.pre
  have hts : ∀ w ∈ lw_all, w.before _ s = true := fun w h => hts w (List.mem_cons_of_mem _ h)
  have hown : s.vm.findClass RJ2 = some m.cls := findClass_of_methodNamed B.named
  have hlocks := B.notSynchronized
  subst hsz
  have hD := hD0.self (sz := s.heap.size)
  generalize hAe : va_A [(h0, .inr (12, [.int m0, .ref a0, .int (nI n0)])), (a0, .inl (G.2.2.1 6, c0, .inr (.inr (.inr (.inr (f0)))))), (e0, .inr (9, v0))] s.heap.size = A at hD hST ⊢
  have hA : ∀ q : Nat, s.heap.size ≤ q → A q := fun q h => by rw [← hAe]; exact Or.inr h
  have hS : va_S A s.heap s.heap [] := va_S.rf
  have hP : va_P G.1 zcl [(h0, .inr (12, [.int m0, .ref a0, .int (nI n0)])), (a0, .inl (G.2.2.1 6, c0, .inr (.inr (.inr (.inr (f0)))))), (e0, .inr (9, v0))] s.heap := hP
  have hl := lv_entry ([.ref h0, .ref e0]) (n := 2) (Nat.le_of_ble_eq_true rfl)
  rw [lg_entry_eq]
  generalize (lg_sl ([.ref h0, .ref e0]) ++ List.replicate (2 - (lg_sl ([.ref h0, .ref e0])).length) Slot.unset).toArray = ls at hl ⊢
  have hl : lv_has ls 2 [(0, .ref h0), (1, .ref e0)] := hl
  refine lv_aload_n hx hb (show decode cJ2_add 0 = .ok (.aload_n 0, 1) by decide +kernel) rfl (lv_at hl 0 rfl) ?_
  refine lv_dup hx hb (show decode cJ2_add 1 = .ok (.dup, 1) by decide +kernel) rfl ?_
  refine va_get (D := G.1) (ci := 12) (v := .int m0) (C := RJ2) (T := TJ2) (N := 3) hx hb hts in_J2 hown hK.1 hP 0 rfl rfl 0 (by decide) (hts _ q422) (u_same (hts _ q421)) rfl (show decode cJ2_add 2 = .ok (.getfield 63, 3) by decide +kernel) ?_
  refine lv_iconst (v := 1) hx hb (show decode cJ2_add 5 = .ok (.iconst 1, 1) by decide +kernel) (by decide) ?_
  refine lv_iadd hx hb (show decode cJ2_add 6 = .ok (.iadd, 1) by decide +kernel) ?_
  refine va_put (D := G.1) (ci := 12) (v := .int (m0 + 1)) (ty := .int) (C := RJ2) (T := TJ2) (N := 3) hx hb hts in_J2 tyJ2 tyJ2_ok nmJ2 hown hK.1 hP hD hS 0 rfl rfl 0 (by decide) (hts _ q422) (u_same (hts _ q421)) rfl (by decide +kernel) rfl rfl (Nat.le_of_ble_eq_true rfl) (show decode cJ2_add 7 = .ok (.putfield 63, 3) by decide +kernel) (fun H locs hP hD hS => ?_)
  have hP : va_P G.1 zcl [(h0, .inr (12, [.int (m0 + 1), .ref a0, .int (nI n0)])), (a0, .inl (G.2.2.1 6, c0, .inr (.inr (.inr (.inr (f0)))))), (e0, .inr (9, v0))] H := hP
  have hD : va_D A [(h0, .inr (12, [.int (m0 + 1), .ref a0, .int (nI n0)])), (a0, .inl (G.2.2.1 6, c0, .inr (.inr (.inr (.inr (f0)))))), (e0, .inr (9, v0))] := hD
  refine lv_aload_n hx hb (show decode cJ2_add 10 = .ok (.aload_n 0, 1) by decide +kernel) rfl (lv_at hl 0 rfl) ?_
  refine lv_aload_n hx hb (show decode cJ2_add 11 = .ok (.aload_n 1, 1) by decide +kernel) rfl (lv_at hl 1 rfl) ?_
  refine lv_aload_n hx hb (show decode cJ2_add 12 = .ok (.aload_n 0, 1) by decide +kernel) rfl (lv_at hl 0 rfl) ?_
  refine va_get (D := G.1) (ci := 12) (v := .ref a0) (C := RJ2) (T := TJ2) (N := 3) hx hb hts in_J2 hown hK.1 hP 0 rfl rfl 1 (by decide) (hts _ q415) (fun _ h9 => h9) rfl (show decode cJ2_add 13 = .ok (.getfield 9, 3) by decide +kernel) ?_
  refine lv_aload_n hx hb (show decode cJ2_add 16 = .ok (.aload_n 0, 1) by decide +kernel) rfl (lv_at hl 0 rfl) ?_
  refine va_get (D := G.1) (ci := 12) (v := .int (nI n0)) (C := RJ2) (T := TJ2) (N := 3) hx hb hts in_J2 hown hK.1 hP 0 rfl rfl 2 (by decide) (hts _ q418) (fun _ h9 => h9) rfl (show decode cJ2_add 17 = .ok (.getfield 48, 3) by decide +kernel) ?_
  have hPc := hP.sub (ws' := [(h0, .inr (12, [.int (m0 + 1), .ref a0, .int (nI n0)])), (a0, .inl (G.2.2.1 6, c0, .inr (.inr (.inr (.inr (f0)))))), (e0, .inr (9, v0))]) [0, 1, 2] rfl
  have hDc := hD.sub (ws' := [(h0, .inr (12, [.int (m0 + 1), .ref a0, .int (nI n0)])), (a0, .inl (G.2.2.1 6, c0, .inr (.inr (.inr (.inr (f0)))))), (e0, .inr (9, v0))]) [0, 1, 2] (by decide) rfl
  have hFc := va_free (wc := [(h0, .inr (12, [.int (m0 + 1), .ref a0, .int (nI n0)])), (a0, .inl (G.2.2.1 6, c0, .inr (.inr (.inr (.inr (f0)))))), (e0, .inr (9, v0))]) hD hS hA [0, 1, 2] rfl
  refine va_callv (va_runV (As := [.ref e0, .ref a0, .int (nI n0)]) (rest := []) ⟨hx, hb, hml, hown, hts⟩ (rJ2_add_2_X9 l G (d + 0) H.size (h0) (a0) (e0) (m0 + 1) (n0) (c0) (f0) (v0) hn hc) (cwV 3 hts (lw_V q861 q863 qs15 q146 q864) rfl rfl rfl (by decide +kernel) ⟨(rroom (d := d + 0) (mc := 0) (ms := 0) (mc' := 0) (ms' := 0) (mL := 4) (by decide)).1, by first | exact (rroom (d := d + 0) (mc := 0) (ms := 0) (mc' := 0) (ms' := 0) (mL := 4) (by decide)).2⟩) ⟨rblind, va_recv hK.1 hPc (ci := 12) (q0 := 0) rfl rfl, rpc hK hST hS hPc hDc hFc [.ref h0, .ref e0, .ref a0, .int (nI n0)]⟩ rfl rfl hl.1 rfl (lv_room (Nat.le_of_ble_eq_true rfl)) (show decode cJ2_add 20 = .ok (.invokevirtual 131, 3) by decide +kernel) ⟨by show _ ≤ 0; first | decide | omega, by show _ ≤ 0; first | decide | omega⟩) hS (fun q _ h => hFc q h) hFc (fun u t H1 locs ht hvm hw hB hz1 hk1 hS => ?_)
  obtain ⟨hP1, hD1⟩ := hB
  rw [ht] at hP1
  obtain ⟨hP, hD⟩ := va_join (wr := []) (w1 := [(h0, .inr (12, [.int (m0 + 1), .ref a0, .int (nI (n0 + 1))])), (a0, .inl (G.2.2.1 6, c0, .inr (.inr (.inr (.inr (va_up (f0) (n0) (some e0))))))), (e0, .inr (9, v0))]) hP hD [0, 1, 2] [] rfl rfl (by decide) (by decide) hk1 hFc hP1 hD1
  generalize H1 = H at hP hS ⊢
  have hP : va_P G.1 zcl [(h0, .inr (12, [.int (m0 + 1), .ref a0, .int (nI (n0 + 1))])), (a0, .inl (G.2.2.1 6, c0, .inr (.inr (.inr (.inr (va_up (f0) (n0) (some e0))))))), (e0, .inr (9, v0))] H := hP
  have hD : va_D A [(h0, .inr (12, [.int (m0 + 1), .ref a0, .int (nI (n0 + 1))])), (a0, .inl (G.2.2.1 6, c0, .inr (.inr (.inr (.inr (va_up (f0) (n0) (some e0))))))), (e0, .inr (9, v0))] := hD
  refine lv_iconst (v := 1) hx hb (show decode cJ2_add 23 = .ok (.iconst 1, 1) by decide +kernel) (by decide) ?_
  have hP9 := hP.sub (ws' := [(h0, .inr (12, [.int (m0 + 1), .ref a0, .int (nI (n0 + 1))])), (a0, .inl (G.2.2.1 6, c0, .inr (.inr (.inr (.inr (va_up (f0) (n0) (some e0))))))), (e0, .inr (9, v0))]) [0, 1, 2] rfl
  have hD9 := hD.sub (ws' := [(h0, .inr (12, [.int (m0 + 1), .ref a0, .int (nI (n0 + 1))])), (a0, .inl (G.2.2.1 6, c0, .inr (.inr (.inr (.inr (va_up (f0) (n0) (some e0))))))), (e0, .inr (9, v0))]) [0, 1, 2] (by decide) rfl
  exact W.zret (v := 1) hx hb hr rfl (fun t ht hW => ⟨⟨1, (), rfl, rfl, by rw [ht]; exact hP9, hD9⟩, hS.F ht⟩) hS.2.2 (show decode cJ2_add 24 = .ok (.ireturn, 1) by decide +kernel)

set_option maxHeartbeats 4000000 in
set_option maxRecDepth 100000 in
/-- what is added where there is room -/
theorem rJ2_add_2_X10 (l : Launch) (G : zG) (d sz : Nat) (h0 : Nat) (a0 : Nat) (e0 : Nat) (m0 : Int32) (n0 : Nat) (c0 : Nat) (f0 : Nat → Option Nat) (v0 : List Value) (hn : n0 < c0) (hc : c0 < 2 ^ 31) : Met l yJ2_add_2 (ws_ yJ2_add_2 cJ2_add_2 4 none) (eRoom d 0 0) (rPc G [.ref h0, .ref e0, .ref a0, .int (nI n0)] [(h0, .inr (12, [.int m0, .ref a0, .int (nI n0)])), (a0, .inl (G.2.2.1 6, c0, .inr (.inr (.inr (.inr (f0)))))), (e0, .inr (10, v0))] sz) (va_Qv (fun _ => True) (rB G (fun _ : Unit => [(h0, .inr (12, [.int m0, .ref a0, .int (nI (n0 + 1))])), (a0, .inl (G.2.2.1 6, c0, .inr (.inr (.inr (.inr (va_up (f0) (n0) (some e0))))))), (e0, .inr (10, v0))]) (va_A [(h0, .inr (12, [.int m0, .ref a0, .int (nI n0)])), (a0, .inl (G.2.2.1 6, c0, .inr (.inr (.inr (.inr (f0)))))), (e0, .inr (10, v0))] sz)) (va_A [(h0, .inr (12, [.int m0, .ref a0, .int (nI n0)])), (a0, .inl (G.2.2.1 6, c0, .inr (.inr (.inr (.inr (f0)))))), (e0, .inr (10, v0))] sz)) 0 0 (va_A [(h0, .inr (12, [.int m0, .ref a0, .int (nI n0)])), (a0, .inl (G.2.2.1 6, c0, .inr (.inr (.inr (.inr (f0)))))), (e0, .inr (10, v0))] sz) := by
  refine zMetF (cc := cJ2_add_2) (maxL := 4) (ret := none) (by decide +kernel) rfl ?_
  intro p e s m args below meth c s₁ B hml hv
  obtain ⟨rfl, hsz, hP, hK, hST, hD0⟩ := hv
  have hx := B.exec
  have hb := B.bytes
  have hr := B.returns
  have hts := atoms_spec (ws := ws_ yJ2_add_2 cJ2_add_2 4 none) B.pre
  have hts : ∀ w ∈ lw_all, w.before _ s = true := fun w h => hts w (List.mem_cons_of_mem _ h)
  have hown : s.vm.findClass RJ2 = some m.cls := findClass_of_methodNamed B.named
  have hlocks := B.notSynchronized
  subst hsz
  have hD := hD0.self (sz := s.heap.size)
  generalize hAe : va_A [(h0, .inr (12, [.int m0, .ref a0, .int (nI n0)])), (a0, .inl (G.2.2.1 6, c0, .inr (.inr (.inr (.inr (f0)))))), (e0, .inr (10, v0))] s.heap.size = A at hD hST ⊢
  have hA : ∀ q : Nat, s.heap.size ≤ q → A q := fun q h => by rw [← hAe]; exact Or.inr h
  have hS : va_S A s.heap s.heap [] := va_S.rf
  have hP : va_P G.1 zcl [(h0, .inr (12, [.int m0, .ref a0, .int (nI n0)])), (a0, .inl (G.2.2.1 6, c0, .inr (.inr (.inr (.inr (f0)))))), (e0, .inr (10, v0))] s.heap := hP
  have hl := lv_entry ([.ref h0, .ref e0, .ref a0, .int (nI n0)]) (n := 4) (Nat.le_of_ble_eq_true rfl)
  rw [lg_entry_eq]
  generalize (lg_sl ([.ref h0, .ref e0, .ref a0, .int (nI n0)]) ++ List.replicate (4 - (lg_sl ([.ref h0, .ref e0, .ref a0, .int (nI n0)])).length) Slot.unset).toArray = ls at hl ⊢
  have hl : lv_has ls 4 [(0, .ref h0), (1, .ref e0), (2, .ref a0), (3, .int (nI n0))] := hl
  refine lv_iload_n hx hb (show decode cJ2_add_2 0 = .ok (.iload_n 3, 1) by decide +kernel) rfl (lv_at hl 3 rfl) ?_
  refine lv_aload_n hx hb (show decode cJ2_add_2 1 = .ok (.aload_n 2, 1) by decide +kernel) rfl (lv_at hl 2 rfl) ?_
  refine va_alen (v := nI c0) hx hb hK.1 hP 1 6 rfl rfl rfl (show decode cJ2_add_2 2 = .ok (.arraylength, 1) by decide +kernel) ?_
  refine lv_icmp_ne (tgt := 11) hx hb (show decode cJ2_add_2 3 = .ok (.if_icmp .ne 8, 3) by decide +kernel) (by decide) (fun cnd_ => ?_) (fun cnd_ => absurd ((nI_eq (a := n0) (b := c0) (by omega) (by omega)).mp cnd_) (by omega))
  refine lv_aload_n hx hb (show decode cJ2_add_2 11 = .ok (.aload_n 2, 1) by decide +kernel) rfl (lv_at hl 2 rfl) ?_
  refine lv_iload_n hx hb (show decode cJ2_add_2 12 = .ok (.iload_n 3, 1) by decide +kernel) rfl (lv_at hl 3 rfl) ?_
  refine lv_aload_n hx hb (show decode cJ2_add_2 13 = .ok (.aload_n 1, 1) by decide +kernel) rfl (lv_at hl 1 rfl) ?_
  refine va_astqO (E := "java/lang/Object") hx hb hK.1 hP hD hS 1 6 2 10 rfl rfl (hK.2.1 _ q2508 rfl) rfl rfl (vp_in_nI hn (by omega)) (show decode cJ2_add_2 14 = .ok (.aastore, 1) by decide +kernel) (fun H locs hP hD hS => ?_)
  rw [nI_clamp (by omega)] at hP hD
  have hP : va_P G.1 zcl [(h0, .inr (12, [.int m0, .ref a0, .int (nI n0)])), (a0, .inl (G.2.2.1 6, c0, .inr (.inr (.inr (.inr (va_up (f0) (n0) (some e0))))))), (e0, .inr (10, v0))] H := hP
  have hD : va_D A [(h0, .inr (12, [.int m0, .ref a0, .int (nI n0)])), (a0, .inl (G.2.2.1 6, c0, .inr (.inr (.inr (.inr (va_up (f0) (n0) (some e0))))))), (e0, .inr (10, v0))] := hD
  refine lv_aload_n hx hb (show decode cJ2_add_2 15 = .ok (.aload_n 0, 1) by decide +kernel) rfl (lv_at hl 0 rfl) ?_
  refine lv_iload_n hx hb (show decode cJ2_add_2 16 = .ok (.iload_n 3, 1) by decide +kernel) rfl (lv_at hl 3 rfl) ?_
  refine lv_iconst (v := 1) hx hb (show decode cJ2_add_2 17 = .ok (.iconst 1, 1) by decide +kernel) (by decide) ?_
  refine lv_iadd hx hb (show decode cJ2_add_2 18 = .ok (.iadd, 1) by decide +kernel) ?_
  refine lv_topi (fun yy_ ey_ => ?_)
  obtain rfl : yy_ = nI (n0 + 1) := ey_.trans (by rw [c1, nI_add])
  refine va_put (D := G.1) (ci := 12) (v := .int (nI (n0 + 1))) (ty := .int) (C := RJ2) (T := TJ2) (N := 3) hx hb hts in_J2 tyJ2 tyJ2_ok nmJ2 hown hK.1 hP hD hS 0 rfl rfl 2 (by decide) (hts _ q418) (fun _ h9 => h9) rfl (by decide +kernel) rfl rfl (Nat.le_of_ble_eq_true rfl) (show decode cJ2_add_2 19 = .ok (.putfield 48, 3) by decide +kernel) (fun H locs hP hD hS => ?_)
  have hP : va_P G.1 zcl [(h0, .inr (12, [.int m0, .ref a0, .int (nI (n0 + 1))])), (a0, .inl (G.2.2.1 6, c0, .inr (.inr (.inr (.inr (va_up (f0) (n0) (some e0))))))), (e0, .inr (10, v0))] H := hP
  have hD : va_D A [(h0, .inr (12, [.int m0, .ref a0, .int (nI (n0 + 1))])), (a0, .inl (G.2.2.1 6, c0, .inr (.inr (.inr (.inr (va_up (f0) (n0) (some e0))))))), (e0, .inr (10, v0))] := hD
  have hP9 := hP.sub (ws' := [(h0, .inr (12, [.int m0, .ref a0, .int (nI (n0 + 1))])), (a0, .inl (G.2.2.1 6, c0, .inr (.inr (.inr (.inr (va_up (f0) (n0) (some e0))))))), (e0, .inr (10, v0))]) [0, 1, 2] rfl
  have hD9 := hD.sub (ws' := [(h0, .inr (12, [.int m0, .ref a0, .int (nI (n0 + 1))])), (a0, .inl (G.2.2.1 6, c0, .inr (.inr (.inr (.inr (va_up (f0) (n0) (some e0))))))), (e0, .inr (10, v0))]) [0, 1, 2] (by decide) rfl
  exact W.vret hx hb hr (fun t ht hW => ⟨⟨(), rfl, trivial, by rw [ht]; exact hP9, hD9⟩, hS.F ht⟩) hS.2.2 (show decode cJ2_add_2 22 = .ok (.return_, 1) by decide +kernel)

set_option maxHeartbeats 4000000 in
set_option maxRecDepth 100000 in
/-- add, where there is room -/
theorem rJ2_add_X10 (l : Launch) (G : zG) (d sz : Nat) (h0 : Nat) (a0 : Nat) (e0 : Nat) (m0 : Int32) (n0 : Nat) (c0 : Nat) (f0 : Nat → Option Nat) (v0 : List Value) (hn : n0 < c0) (hc : c0 < 2 ^ 31) : Met l yJ2_add (ws_ yJ2_add cJ2_add 2 (some .boolean)) (eRoom (d + 1) 0 0) (rPc G [.ref h0, .ref e0] [(h0, .inr (12, [.int m0, .ref a0, .int (nI n0)])), (a0, .inl (G.2.2.1 6, c0, .inr (.inr (.inr (.inr (f0)))))), (e0, .inr (10, v0))] sz) (va_Qi (fun (r : Int32) _ => r = 1) (rB G (fun _ : Unit => [(h0, .inr (12, [.int (m0 + 1), .ref a0, .int (nI (n0 + 1))])), (a0, .inl (G.2.2.1 6, c0, .inr (.inr (.inr (.inr (va_up (f0) (n0) (some e0))))))), (e0, .inr (10, v0))]) (va_A [(h0, .inr (12, [.int m0, .ref a0, .int (nI n0)])), (a0, .inl (G.2.2.1 6, c0, .inr (.inr (.inr (.inr (f0)))))), (e0, .inr (10, v0))] sz)) (va_A [(h0, .inr (12, [.int m0, .ref a0, .int (nI n0)])), (a0, .inl (G.2.2.1 6, c0, .inr (.inr (.inr (.inr (f0)))))), (e0, .inr (10, v0))] sz)) 0 0 (va_A [(h0, .inr (12, [.int m0, .ref a0, .int (nI n0)])), (a0, .inl (G.2.2.1 6, c0, .inr (.inr (.inr (.inr (f0)))))), (e0, .inr (10, v0))] sz) := by
  refine zMetF (cc := cJ2_add) (maxL := 2) (ret := (some .boolean)) (by decide +kernel) rfl ?_
  intro p e s m args below meth c s₁ B hml hv
  obtain ⟨rfl, hsz, hP, hK, hST, hD0⟩ := hv
  have hx := B.exec
  have hb := B.bytes
  have hr := B.returns
  have hts := atoms_spec (ws := ws_ yJ2_add cJ2_add 2 (some .boolean)) B.pre
  have hts : ∀ w ∈ lw_all, w.before _ s = true := fun w h => hts w (List.mem_cons_of_mem _ h)
  have hown : s.vm.findClass RJ2 = some m.cls := findClass_of_methodNamed B.named
  have hlocks := B.notSynchronized
  subst hsz
  have hD := hD0.self (sz := s.heap.size)
  generalize hAe : va_A [(h0, .inr (12, [.int m0, .ref a0, .int (nI n0)])), (a0, .inl (G.2.2.1 6, c0, .inr (.inr (.inr (.inr (f0)))))), (e0, .inr (10, v0))] s.heap.size = A at hD hST ⊢
  have hA : ∀ q : Nat, s.heap.size ≤ q → A q := fun q h => by rw [← hAe]; exact Or.inr h
  have hS : va_S A s.heap s.heap [] := va_S.rf
  have hP : va_P G.1 zcl [(h0, .inr (12, [.int m0, .ref a0, .int (nI n0)])), (a0, .inl (G.2.2.1 6, c0, .inr (.inr (.inr (.inr (f0)))))), (e0, .inr (10, v0))] s.heap := hP
  have hl := lv_entry ([.ref h0, .ref e0]) (n := 2) (Nat.le_of_ble_eq_true rfl)
  rw [lg_entry_eq]
  generalize (lg_sl ([.ref h0, .ref e0]) ++ List.replicate (2 - (lg_sl ([.ref h0, .ref e0])).length) Slot.unset).toArray = ls at hl ⊢
  have hl : lv_has ls 2 [(0, .ref h0), (1, .ref e0)] := hl
  refine lv_aload_n hx hb (show decode cJ2_add 0 = .ok (.aload_n 0, 1) by decide +kernel) rfl (lv_at hl 0 rfl) ?_
  refine lv_dup hx hb (show decode cJ2_add 1 = .ok (.dup, 1) by decide +kernel) rfl ?_
  refine va_get (D := G.1) (ci := 12) (v := .int m0) (C := RJ2) (T := TJ2) (N := 3) hx hb hts in_J2 hown hK.1 hP 0 rfl rfl 0 (by decide) (hts _ q422) (u_same (hts _ q421)) rfl (show decode cJ2_add 2 = .ok (.getfield 63, 3) by decide +kernel) ?_
  refine lv_iconst (v := 1) hx hb (show decode cJ2_add 5 = .ok (.iconst 1, 1) by decide +kernel) (by decide) ?_
  refine lv_iadd hx hb (show decode cJ2_add 6 = .ok (.iadd, 1) by decide +kernel) ?_
  refine va_put (D := G.1) (ci := 12) (v := .int (m0 + 1)) (ty := .int) (C := RJ2) (T := TJ2) (N := 3) hx hb hts in_J2 tyJ2 tyJ2_ok nmJ2 hown hK.1 hP hD hS 0 rfl rfl 0 (by decide) (hts _ q422) (u_same (hts _ q421)) rfl (by decide +kernel) rfl rfl (Nat.le_of_ble_eq_true rfl) (show decode cJ2_add 7 = .ok (.putfield 63, 3) by decide +kernel) (fun H locs hP hD hS => ?_)
  have hP : va_P G.1 zcl [(h0, .inr (12, [.int (m0 + 1), .ref a0, .int (nI n0)])), (a0, .inl (G.2.2.1 6, c0, .inr (.inr (.inr (.inr (f0)))))), (e0, .inr (10, v0))] H := hP
  have hD : va_D A [(h0, .inr (12, [.int (m0 + 1), .ref a0, .int (nI n0)])), (a0, .inl (G.2.2.1 6, c0, .inr (.inr (.inr (.inr (f0)))))), (e0, .inr (10, v0))] := hD
  refine lv_aload_n hx hb (show decode cJ2_add 10 = .ok (.aload_n 0, 1) by decide +kernel) rfl (lv_at hl 0 rfl) ?_
  refine lv_aload_n hx hb (show decode cJ2_add 11 = .ok (.aload_n 1, 1) by decide +kernel) rfl (lv_at hl 1 rfl) ?_
  refine lv_aload_n hx hb (show decode cJ2_add 12 = .ok (.aload_n 0, 1) by decide +kernel) rfl (lv_at hl 0 rfl) ?_
  refine va_get (D := G.1) (ci := 12) (v := .ref a0) (C := RJ2) (T := TJ2) (N := 3) hx hb hts in_J2 hown hK.1 hP 0 rfl rfl 1 (by decide) (hts _ q415) (fun _ h9 => h9) rfl (show decode cJ2_add 13 = .ok (.getfield 9, 3) by decide +kernel) ?_
  refine lv_aload_n hx hb (show decode cJ2_add 16 = .ok (.aload_n 0, 1) by decide +kernel) rfl (lv_at hl 0 rfl) ?_
  refine va_get (D := G.1) (ci := 12) (v := .int (nI n0)) (C := RJ2) (T := TJ2) (N := 3) hx hb hts in_J2 hown hK.1 hP 0 rfl rfl 2 (by decide) (hts _ q418) (fun _ h9 => h9) rfl (show decode cJ2_add 17 = .ok (.getfield 48, 3) by decide +kernel) ?_
  have hPc := hP.sub (ws' := [(h0, .inr (12, [.int (m0 + 1), .ref a0, .int (nI n0)])), (a0, .inl (G.2.2.1 6, c0, .inr (.inr (.inr (.inr (f0)))))), (e0, .inr (10, v0))]) [0, 1, 2] rfl
  have hDc := hD.sub (ws' := [(h0, .inr (12, [.int (m0 + 1), .ref a0, .int (nI n0)])), (a0, .inl (G.2.2.1 6, c0, .inr (.inr (.inr (.inr (f0)))))), (e0, .inr (10, v0))]) [0, 1, 2] (by decide) rfl
  have hFc := va_free (wc := [(h0, .inr (12, [.int (m0 + 1), .ref a0, .int (nI n0)])), (a0, .inl (G.2.2.1 6, c0, .inr (.inr (.inr (.inr (f0)))))), (e0, .inr (10, v0))]) hD hS hA [0, 1, 2] rfl
  refine va_callv (va_runV (As := [.ref e0, .ref a0, .int (nI n0)]) (rest := []) ⟨hx, hb, hml, hown, hts⟩ (rJ2_add_2_X10 l G (d + 0) H.size (h0) (a0) (e0) (m0 + 1) (n0) (c0) (f0) (v0) hn hc) (cwV 3 hts (lw_V q861 q863 qs15 q146 q864) rfl rfl rfl (by decide +kernel) ⟨(rroom (d := d + 0) (mc := 0) (ms := 0) (mc' := 0) (ms' := 0) (mL := 4) (by decide)).1, by first | exact (rroom (d := d + 0) (mc := 0) (ms := 0) (mc' := 0) (ms' := 0) (mL := 4) (by decide)).2⟩) ⟨rblind, va_recv hK.1 hPc (ci := 12) (q0 := 0) rfl rfl, rpc hK hST hS hPc hDc hFc [.ref h0, .ref e0, .ref a0, .int (nI n0)]⟩ rfl rfl hl.1 rfl (lv_room (Nat.le_of_ble_eq_true rfl)) (show decode cJ2_add 20 = .ok (.invokevirtual 131, 3) by decide +kernel) ⟨by show _ ≤ 0; first | decide | omega, by show _ ≤ 0; first | decide | omega⟩) hS (fun q _ h => hFc q h) hFc (fun u t H1 locs ht hvm hw hB hz1 hk1 hS => ?_)
  obtain ⟨hP1, hD1⟩ := hB
  rw [ht] at hP1
  obtain ⟨hP, hD⟩ := va_join (wr := []) (w1 := [(h0, .inr (12, [.int (m0 + 1), .ref a0, .int (nI (n0 + 1))])), (a0, .inl (G.2.2.1 6, c0, .inr (.inr (.inr (.inr (va_up (f0) (n0) (some e0))))))), (e0, .inr (10, v0))]) hP hD [0, 1, 2] [] rfl rfl (by decide) (by decide) hk1 hFc hP1 hD1
  generalize H1 = H at hP hS ⊢
  have hP : va_P G.1 zcl [(h0, .inr (12, [.int (m0 + 1), .ref a0, .int (nI (n0 + 1))])), (a0, .inl (G.2.2.1 6, c0, .inr (.inr (.inr (.inr (va_up (f0) (n0) (some e0))))))), (e0, .inr (10, v0))] H := hP
  have hD : va_D A [(h0, .inr (12, [.int (m0 + 1), .ref a0, .int (nI (n0 + 1))])), (a0, .inl (G.2.2.1 6, c0, .inr (.inr (.inr (.inr (va_up (f0) (n0) (some e0))))))), (e0, .inr (10, v0))] := hD
  refine lv_iconst (v := 1) hx hb (show decode cJ2_add 23 = .ok (.iconst 1, 1) by decide +kernel) (by decide) ?_
  have hP9 := hP.sub (ws' := [(h0, .inr (12, [.int (m0 + 1), .ref a0, .int (nI (n0 + 1))])), (a0, .inl (G.2.2.1 6, c0, .inr (.inr (.inr (.inr (va_up (f0) (n0) (some e0))))))), (e0, .inr (10, v0))]) [0, 1, 2] rfl
  have hD9 := hD.sub (ws' := [(h0, .inr (12, [.int (m0 + 1), .ref a0, .int (nI (n0 + 1))])), (a0, .inl (G.2.2.1 6, c0, .inr (.inr (.inr (.inr (va_up (f0) (n0) (some e0))))))), (e0, .inr (10, v0))]) [0, 1, 2] (by decide) rfl
  exact W.zret (v := 1) hx hb hr rfl (fun t ht hW => ⟨⟨1, (), rfl, rfl, by rw [ht]; exact hP9, hD9⟩, hS.F ht⟩) hS.2.2 (show decode cJ2_add 24 = .ok (.ireturn, 1) by decide +kernel)

set_option maxHeartbeats 4000000 in
set_option maxRecDepth 100000 in
/-- what is added where there is room -/
theorem rJ2_add_2_X11 (l : Launch) (G : zG) (d sz : Nat) (h0 : Nat) (a0 : Nat) (e0 : Nat) (m0 : Int32) (n0 : Nat) (c0 : Nat) (f0 : Nat → Option Nat) (v0 : List Value) (hn : n0 < c0) (hc : c0 < 2 ^ 31) : Met l yJ2_add_2 (ws_ yJ2_add_2 cJ2_add_2 4 none) (eRoom d 0 0) (rPc G [.ref h0, .ref e0, .ref a0, .int (nI n0)] [(h0, .inr (12, [.int m0, .ref a0, .int (nI n0)])), (a0, .inl (G.2.2.1 6, c0, .inr (.inr (.inr (.inr (f0)))))), (e0, .inr (11, v0))] sz) (va_Qv (fun _ => True) (rB G (fun _ : Unit => [(h0, .inr (12, [.int m0, .ref a0, .int (nI (n0 + 1))])), (a0, .inl (G.2.2.1 6, c0, .inr (.inr (.inr (.inr (va_up (f0) (n0) (some e0))))))), (e0, .inr (11, v0))]) (va_A [(h0, .inr (12, [.int m0, .ref a0, .int (nI n0)])), (a0, .inl (G.2.2.1 6, c0, .inr (.inr (.inr (.inr (f0)))))), (e0, .inr (11, v0))] sz)) (va_A [(h0, .inr (12, [.int m0, .ref a0, .int (nI n0)])), (a0, .inl (G.2.2.1 6, c0, .inr (.inr (.inr (.inr (f0)))))), (e0, .inr (11, v0))] sz)) 0 0 (va_A [(h0, .inr (12, [.int m0, .ref a0, .int (nI n0)])), (a0, .inl (G.2.2.1 6, c0, .inr (.inr (.inr (.inr (f0)))))), (e0, .inr (11, v0))] sz) := by
  refine zMetF (cc := cJ2_add_2) (maxL := 4) (ret := none) (by decide +kernel) rfl ?_
  intro p e s m args below meth c s₁ B hml hv
  obtain ⟨rfl, hsz, hP, hK, hST, hD0⟩ := hv
  have hx := B.exec
  have hb := B.bytes
  have hr := B.returns
  have hts := atoms_spec (ws := ws_ yJ2_add_2 cJ2_add_2 4 none) B.pre
  have hts : ∀ w ∈ lw_all, w.before _ s = true := fun w h => hts w (List.mem_cons_of_mem _ h)
  have hown : s.vm.findClass RJ2 = some m.cls := findClass_of_methodNamed B.named
  have hlocks := B.notSynchronized
  subst hsz
  have hD := hD0.self (sz := s.heap.size)
  generalize hAe : va_A [(h0, .inr (12, [.int m0, .ref a0, .int (nI n0)])), (a0, .inl (G.2.2.1 6, c0, .inr (.inr (.inr (.inr (f0)))))), (e0, .inr (11, v0))] s.heap.size = A at hD hST ⊢
  have hA : ∀ q : Nat, s.heap.size ≤ q → A q := fun q h => by rw [← hAe]; exact Or.inr h
  have hS : va_S A s.heap s.heap [] := va_S.rf
  have hP : va_P G.1 zcl [(h0, .inr (12, [.int m0, .ref a0, .int (nI n0)])), (a0, .inl (G.2.2.1 6, c0, .inr (.inr (.inr (.inr (f0)))))), (e0, .inr (11, v0))] s.heap := hP
  have hl := lv_entry ([.ref h0, .ref e0, .ref a0, .int (nI n0)]) (n := 4) (Nat.le_of_ble_eq_true rfl)
  rw [lg_entry_eq]
  generalize (lg_sl ([.ref h0, .ref e0, .ref a0, .int (nI n0)]) ++ List.replicate (4 - (lg_sl ([.ref h0, .ref e0, .ref a0, .int (nI n0)])).length) Slot.unset).toArray = ls at hl ⊢
  have hl : lv_has ls 4 [(0, .ref h0), (1, .ref e0), (2, .ref a0), (3, .int (nI n0))] := hl
  refine lv_iload_n hx hb (show decode cJ2_add_2 0 = .ok (.iload_n 3, 1) by decide +kernel) rfl (lv_at hl 3 rfl) ?_
  refine lv_aload_n hx hb (show decode cJ2_add_2 1 = .ok (.aload_n 2, 1) by decide +kernel) rfl (lv_at hl 2 rfl) ?_
  refine va_alen (v := nI c0) hx hb hK.1 hP 1 6 rfl rfl rfl (show decode cJ2_add_2 2 = .ok (.arraylength, 1) by decide +kernel) ?_
  refine lv_icmp_ne (tgt := 11) hx hb (show decode cJ2_add_2 3 = .ok (.if_icmp .ne 8, 3) by decide +kernel) (by decide) (fun cnd_ => ?_) (fun cnd_ => absurd ((nI_eq (a := n0) (b := c0) (by omega) (by omega)).mp cnd_) (by omega))
  refine lv_aload_n hx hb (show decode cJ2_add_2 11 = .ok (.aload_n 2, 1) by decide +kernel) rfl (lv_at hl 2 rfl) ?_
  refine lv_iload_n hx hb (show decode cJ2_add_2 12 = .ok (.iload_n 3, 1) by decide +kernel) rfl (lv_at hl 3 rfl) ?_
  refine lv_aload_n hx hb (show decode cJ2_add_2 13 = .ok (.aload_n 1, 1) by decide +kernel) rfl (lv_at hl 1 rfl) ?_
  refine va_astqO (E := "java/lang/Object") hx hb hK.1 hP hD hS 1 6 2 11 rfl rfl (hK.2.1 _ q2509 rfl) rfl rfl (vp_in_nI hn (by omega)) (show decode cJ2_add_2 14 = .ok (.aastore, 1) by decide +kernel) (fun H locs hP hD hS => ?_)
  rw [nI_clamp (by omega)] at hP hD
  have hP : va_P G.1 zcl [(h0, .inr (12, [.int m0, .ref a0, .int (nI n0)])), (a0, .inl (G.2.2.1 6, c0, .inr (.inr (.inr (.inr (va_up (f0) (n0) (some e0))))))), (e0, .inr (11, v0))] H := hP
  have hD : va_D A [(h0, .inr (12, [.int m0, .ref a0, .int (nI n0)])), (a0, .inl (G.2.2.1 6, c0, .inr (.inr (.inr (.inr (va_up (f0) (n0) (some e0))))))), (e0, .inr (11, v0))] := hD
  refine lv_aload_n hx hb (show decode cJ2_add_2 15 = .ok (.aload_n 0, 1) by decide +kernel) rfl (lv_at hl 0 rfl) ?_
  refine lv_iload_n hx hb (show decode cJ2_add_2 16 = .ok (.iload_n 3, 1) by decide +kernel) rfl (lv_at hl 3 rfl) ?_
  refine lv_iconst (v := 1) hx hb (show decode cJ2_add_2 17 = .ok (.iconst 1, 1) by decide +kernel) (by decide) ?_
  refine lv_iadd hx hb (show decode cJ2_add_2 18 = .ok (.iadd, 1) by decide +kernel) ?_
  refine lv_topi (fun yy_ ey_ => ?_)
  obtain rfl : yy_ = nI (n0 + 1) := ey_.trans (by rw [c1, nI_add])
  refine va_put (D := G.1) (ci := 12) (v := .int (nI (n0 + 1))) (ty := .int) (C := RJ2) (T := TJ2) (N := 3) hx hb hts in_J2 tyJ2 tyJ2_ok nmJ2 hown hK.1 hP hD hS 0 rfl rfl 2 (by decide) (hts _ q418) (fun _ h9 => h9) rfl (by decide +kernel) rfl rfl (Nat.le_of_ble_eq_true rfl) (show decode cJ2_add_2 19 = .ok (.putfield 48, 3) by decide +kernel) (fun H locs hP hD hS => ?_)
  have hP : va_P G.1 zcl [(h0, .inr (12, [.int m0, .ref a0, .int (nI (n0 + 1))])), (a0, .inl (G.2.2.1 6, c0, .inr (.inr (.inr (.inr (va_up (f0) (n0) (some e0))))))), (e0, .inr (11, v0))] H := hP
  have hD : va_D A [(h0, .inr (12, [.int m0, .ref a0, .int (nI (n0 + 1))])), (a0, .inl (G.2.2.1 6, c0, .inr (.inr (.inr (.inr (va_up (f0) (n0) (some e0))))))), (e0, .inr (11, v0))] := hD
  have hP9 := hP.sub (ws' := [(h0, .inr (12, [.int m0, .ref a0, .int (nI (n0 + 1))])), (a0, .inl (G.2.2.1 6, c0, .inr (.inr (.inr (.inr (va_up (f0) (n0) (some e0))))))), (e0, .inr (11, v0))]) [0, 1, 2] rfl
  have hD9 := hD.sub (ws' := [(h0, .inr (12, [.int m0, .ref a0, .int (nI (n0 + 1))])), (a0, .inl (G.2.2.1 6, c0, .inr (.inr (.inr (.inr (va_up (f0) (n0) (some e0))))))), (e0, .inr (11, v0))]) [0, 1, 2] (by decide) rfl
  exact W.vret hx hb hr (fun t ht hW => ⟨⟨(), rfl, trivial, by rw [ht]; exact hP9, hD9⟩, hS.F ht⟩) hS.2.2 (show decode cJ2_add_2 22 = .ok (.return_, 1) by decide +kernel)

set_option maxHeartbeats 4000000 in
set_option maxRecDepth 100000 in
/-- add, where there is room -/
theorem rJ2_add_X11 (l : Launch) (G : zG) (d sz : Nat) (h0 : Nat) (a0 : Nat) (e0 : Nat) (m0 : Int32) (n0 : Nat) (c0 : Nat) (f0 : Nat → Option Nat) (v0 : List Value) (hn : n0 < c0) (hc : c0 < 2 ^ 31) : Met l yJ2_add (ws_ yJ2_add cJ2_add 2 (some .boolean)) (eRoom (d + 1) 0 0) (rPc G [.ref h0, .ref e0] [(h0, .inr (12, [.int m0, .ref a0, .int (nI n0)])), (a0, .inl (G.2.2.1 6, c0, .inr (.inr (.inr (.inr (f0)))))), (e0, .inr (11, v0))] sz) (va_Qi (fun (r : Int32) _ => r = 1) (rB G (fun _ : Unit => [(h0, .inr (12, [.int (m0 + 1), .ref a0, .int (nI (n0 + 1))])), (a0, .inl (G.2.2.1 6, c0, .inr (.inr (.inr (.inr (va_up (f0) (n0) (some e0))))))), (e0, .inr (11, v0))]) (va_A [(h0, .inr (12, [.int m0, .ref a0, .int (nI n0)])), (a0, .inl (G.2.2.1 6, c0, .inr (.inr (.inr (.inr (f0)))))), (e0, .inr (11, v0))] sz)) (va_A [(h0, .inr (12, [.int m0, .ref a0, .int (nI n0)])), (a0, .inl (G.2.2.1 6, c0, .inr (.inr (.inr (.inr (f0)))))), (e0, .inr (11, v0))] sz)) 0 0 (va_A [(h0, .inr (12, [.int m0, .ref a0, .int (nI n0)])), (a0, .inl (G.2.2.1 6, c0, .inr (.inr (.inr (.inr (f0)))))), (e0, .inr (11, v0))] sz) := by
  refine zMetF (cc := cJ2_add) (maxL := 2) (ret := (some .boolean)) (by decide +kernel) rfl ?_
  intro p e s m args below meth c s₁ B hml hv
  obtain ⟨rfl, hsz, hP, hK, hST, hD0⟩ := hv
  have hx := B.exec
  have hb := B.bytes
  have hr := B.returns
  have hts := atoms_spec (ws := ws_ yJ2_add cJ2_add 2 (some .boolean)) B.pre
  have hts : ∀ w ∈ lw_all, w.before _ s = true := fun w h => hts w (List.mem_cons_of_mem _ h)
  have hown : s.vm.findClass RJ2 = some m.cls := findClass_of_methodNamed B.named
  have hlocks := B.notSynchronized
  subst hsz
  have hD := hD0.self (sz := s.heap.size)
  generalize hAe : va_A [(h0, .inr (12, [.int m0, .ref a0, .int (nI n0)])), (a0, .inl (G.2.2.1 6, c0, .inr (.inr (.inr (.inr (f0)))))), (e0, .inr (11, v0))] s.heap.size = A at hD hST ⊢
  have hA : ∀ q : Nat, s.heap.size ≤ q → A q := fun q h => by rw [← hAe]; exact Or.inr h
  have hS : va_S A s.heap s.heap [] := va_S.rf
  have hP : va_P G.1 zcl [(h0, .inr (12, [.int m0, .ref a0, .int (nI n0)])), (a0, .inl (G.2.2.1 6, c0, .inr (.inr (.inr (.inr (f0)))))), (e0, .inr (11, v0))] s.heap := hP
  have hl := lv_entry ([.ref h0, .ref e0]) (n := 2) (Nat.le_of_ble_eq_true rfl)
  rw [lg_entry_eq]
  generalize (lg_sl ([.ref h0, .ref e0]) ++ List.replicate (2 - (lg_sl ([.ref h0, .ref e0])).length) Slot.unset).toArray = ls at hl ⊢
  have hl : lv_has ls 2 [(0, .ref h0), (1, .ref e0)] := hl
  refine lv_aload_n hx hb (show decode cJ2_add 0 = .ok (.aload_n 0, 1) by decide +kernel) rfl (lv_at hl 0 rfl) ?_
  refine lv_dup hx hb (show decode cJ2_add 1 = .ok (.dup, 1) by decide +kernel) rfl ?_
  refine va_get (D := G.1) (ci := 12) (v := .int m0) (C := RJ2) (T := TJ2) (N := 3) hx hb hts in_J2 hown hK.1 hP 0 rfl rfl 0 (by decide) (hts _ q422) (u_same (hts _ q421)) rfl (show decode cJ2_add 2 = .ok (.getfield 63, 3) by decide +kernel) ?_
  refine lv_iconst (v := 1) hx hb (show decode cJ2_add 5 = .ok (.iconst 1, 1) by decide +kernel) (by decide) ?_
  refine lv_iadd hx hb (show decode cJ2_add 6 = .ok (.iadd, 1) by decide +kernel) ?_
  refine va_put (D := G.1) (ci := 12) (v := .int (m0 + 1)) (ty := .int) (C := RJ2) (T := TJ2) (N := 3) hx hb hts in_J2 tyJ2 tyJ2_ok nmJ2 hown hK.1 hP hD hS 0 rfl rfl 0 (by decide) (hts _ q422) (u_same (hts _ q421)) rfl (by decide +kernel) rfl rfl (Nat.le_of_ble_eq_true rfl) (show decode cJ2_add 7 = .ok (.putfield 63, 3) by decide +kernel) (fun H locs hP hD hS => ?_)
  have hP : va_P G.1 zcl [(h0, .inr (12, [.int (m0 + 1), .ref a0, .int (nI n0)])), (a0, .inl (G.2.2.1 6, c0, .inr (.inr (.inr (.inr (f0)))))), (e0, .inr (11, v0))] H := hP
  have hD : va_D A [(h0, .inr (12, [.int (m0 + 1), .ref a0, .int (nI n0)])), (a0, .inl (G.2.2.1 6, c0, .inr (.inr (.inr (.inr (f0)))))), (e0, .inr (11, v0))] := hD
  refine lv_aload_n hx hb (show decode cJ2_add 10 = .ok (.aload_n 0, 1) by decide +kernel) rfl (lv_at hl 0 rfl) ?_
  refine lv_aload_n hx hb (show decode cJ2_add 11 = .ok (.aload_n 1, 1) by decide +kernel) rfl (lv_at hl 1 rfl) ?_
  refine lv_aload_n hx hb (show decode cJ2_add 12 = .ok (.aload_n 0, 1) by decide +kernel) rfl (lv_at hl 0 rfl) ?_
  refine va_get (D := G.1) (ci := 12) (v := .ref a0) (C := RJ2) (T := TJ2) (N := 3) hx hb hts in_J2 hown hK.1 hP 0 rfl rfl 1 (by decide) (hts _ q415) (fun _ h9 => h9) rfl (show decode cJ2_add 13 = .ok (.getfield 9, 3) by decide +kernel) ?_
  refine lv_aload_n hx hb (show decode cJ2_add 16 = .ok (.aload_n 0, 1) by decide +kernel) rfl (lv_at hl 0 rfl) ?_
  refine va_get (D := G.1) (ci := 12) (v := .int (nI n0)) (C := RJ2) (T := TJ2) (N := 3) hx hb hts in_J2 hown hK.1 hP 0 rfl rfl 2 (by decide) (hts _ q418) (fun _ h9 => h9) rfl (show decode cJ2_add 17 = .ok (.getfield 48, 3) by decide +kernel) ?_
  have hPc := hP.sub (ws' := [(h0, .inr (12, [.int (m0 + 1), .ref a0, .int (nI n0)])), (a0, .inl (G.2.2.1 6, c0, .inr (.inr (.inr (.inr (f0)))))), (e0, .inr (11, v0))]) [0, 1, 2] rfl
  have hDc := hD.sub (ws' := [(h0, .inr (12, [.int (m0 + 1), .ref a0, .int (nI n0)])), (a0, .inl (G.2.2.1 6, c0, .inr (.inr (.inr (.inr (f0)))))), (e0, .inr (11, v0))]) [0, 1, 2] (by decide) rfl
  have hFc := va_free (wc := [(h0, .inr (12, [.int (m0 + 1), .ref a0, .int (nI n0)])), (a0, .inl (G.2.2.1 6, c0, .inr (.inr (.inr (.inr (f0)))))), (e0, .inr (11, v0))]) hD hS hA [0, 1, 2] rfl
  refine va_callv (va_runV (As := [.ref e0, .ref a0, .int (nI n0)]) (rest := []) ⟨hx, hb, hml, hown, hts⟩ (rJ2_add_2_X11 l G (d + 0) H.size (h0) (a0) (e0) (m0 + 1) (n0) (c0) (f0) (v0) hn hc) (cwV 3 hts (lw_V q861 q863 qs15 q146 q864) rfl rfl rfl (by decide +kernel) ⟨(rroom (d := d + 0) (mc := 0) (ms := 0) (mc' := 0) (ms' := 0) (mL := 4) (by decide)).1, by first | exact (rroom (d := d + 0) (mc := 0) (ms := 0) (mc' := 0) (ms' := 0) (mL := 4) (by decide)).2⟩) ⟨rblind, va_recv hK.1 hPc (ci := 12) (q0 := 0) rfl rfl, rpc hK hST hS hPc hDc hFc [.ref h0, .ref e0, .ref a0, .int (nI n0)]⟩ rfl rfl hl.1 rfl (lv_room (Nat.le_of_ble_eq_true rfl)) (show decode cJ2_add 20 = .ok (.invokevirtual 131, 3) by decide +kernel) ⟨by show _ ≤ 0; first | decide | omega, by show _ ≤ 0; first | decide | omega⟩) hS (fun q _ h => hFc q h) hFc (fun u t H1 locs ht hvm hw hB hz1 hk1 hS => ?_)
  obtain ⟨hP1, hD1⟩ := hB
  rw [ht] at hP1
  obtain ⟨hP, hD⟩ := va_join (wr := []) (w1 := [(h0, .inr (12, [.int (m0 + 1), .ref a0, .int (nI (n0 + 1))])), (a0, .inl (G.2.2.1 6, c0, .inr (.inr (.inr (.inr (va_up (f0) (n0) (some e0))))))), (e0, .inr (11, v0))]) hP hD [0, 1, 2] [] rfl rfl (by decide) (by decide) hk1 hFc hP1 hD1
  generalize H1 = H at hP hS ⊢
  have hP : va_P G.1 zcl [(h0, .inr (12, [.int (m0 + 1), .ref a0, .int (nI (n0 + 1))])), (a0, .inl (G.2.2.1 6, c0, .inr (.inr (.inr (.inr (va_up (f0) (n0) (some e0))))))), (e0, .inr (11, v0))] H := hP
  have hD : va_D A [(h0, .inr (12, [.int (m0 + 1), .ref a0, .int (nI (n0 + 1))])), (a0, .inl (G.2.2.1 6, c0, .inr (.inr (.inr (.inr (va_up (f0) (n0) (some e0))))))), (e0, .inr (11, v0))] := hD
  refine lv_iconst (v := 1) hx hb (show decode cJ2_add 23 = .ok (.iconst 1, 1) by decide +kernel) (by decide) ?_
  have hP9 := hP.sub (ws' := [(h0, .inr (12, [.int (m0 + 1), .ref a0, .int (nI (n0 + 1))])), (a0, .inl (G.2.2.1 6, c0, .inr (.inr (.inr (.inr (va_up (f0) (n0) (some e0))))))), (e0, .inr (11, v0))]) [0, 1, 2] rfl
  have hD9 := hD.sub (ws' := [(h0, .inr (12, [.int (m0 + 1), .ref a0, .int (nI (n0 + 1))])), (a0, .inl (G.2.2.1 6, c0, .inr (.inr (.inr (.inr (va_up (f0) (n0) (some e0))))))), (e0, .inr (11, v0))]) [0, 1, 2] (by decide) rfl
  exact W.zret (v := 1) hx hb hr rfl (fun t ht hW => ⟨⟨1, (), rfl, rfl, by rw [ht]; exact hP9, hD9⟩, hS.F ht⟩) hS.2.2 (show decode cJ2_add 24 = .ok (.ireturn, 1) by decide +kernel)

