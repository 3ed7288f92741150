/-! RAW: makers, lists -/
set_option maxHeartbeats 4000000 in
set_option maxRecDepth 100000 in
/-- a deed -/
theorem rX11_init (l : Launch) (G : zG) (d sz : Nat) (h0 : Nat) (p0 : Int32) (p1 : Int32) (p2 : Int32) (hz : narrow .boolean (.int p0) = .int p0) (hf : fits .boolean (.int p0) = true) : Met l yX11_init (ws_ yX11_init cX11_init 4 none) (eRoom (d + 1) 0 0) (rPc G [.ref h0, .int p0, .int p1, .int p2] [(h0, .inr (11, [.int 0, .int 0, .int 0]))] sz) (va_Qv (fun _ => True) (rB G (fun _ : Unit => [(h0, .inr (11, [.int p0, .int p1, .int p2]))]) (va_A [(h0, .inr (11, [.int 0, .int 0, .int 0]))] sz)) (va_A [(h0, .inr (11, [.int 0, .int 0, .int 0]))] sz)) 0 0 (va_A [(h0, .inr (11, [.int 0, .int 0, .int 0]))] sz) := by
  refine Met.ofW (cc := cX11_init) (maxL := 4) (ret := none) (by decide) rfl ?_
  intro p e s m args below meth c s₁ B hml hv
  obtain ⟨rfl, hsz, hP, hK, hST, hD0⟩ := hv
  have hx := B.exec
  have hb := B.bytes
  have hr := B.returns
  have hts := atoms_spec (ws := ws_ yX11_init cX11_init 4 none) B.pre
  have hts : ∀ w ∈ lw_all, w.before _ s = true := fun w h => hts w (List.mem_cons_of_mem _ h)
  have hown : s.vm.findClass RX11 = some m.cls := findClass_of_methodNamed B.named
  have hlocks := B.notSynchronized
  have hin : meth.name = "<init>" := (name_of_methodNamed B.named B.method).1
  subst hsz
  have hD := hD0.self (sz := s.heap.size)
  generalize hAe : va_A [(h0, .inr (11, [.int 0, .int 0, .int 0]))] s.heap.size = A at hD hST ⊢
  have hA : ∀ q : Nat, s.heap.size ≤ q → A q := fun q h => by rw [← hAe]; exact Or.inr h
  have hS : va_S A s.heap s.heap [] := va_S.rf
  have hP : va_P G.1 zcl [(h0, .inr (11, [.int 0, .int 0, .int 0]))] s.heap := hP
  have hl := lv_entry ([.ref h0, .int p0, .int p1, .int p2]) (n := 4) (Nat.le_of_ble_eq_true rfl)
  rw [lg_entry_eq]
  generalize (lg_sl ([.ref h0, .int p0, .int p1, .int p2]) ++ List.replicate (4 - (lg_sl ([.ref h0, .int p0, .int p1, .int p2])).length) Slot.unset).toArray = ls at hl ⊢
  have hl : lv_has ls 4 [(0, .ref h0), (1, .int p0), (2, .int p1), (3, .int p2)] := hl
  refine lv_aload_n hx hb (show decode cX11_init 0 = .ok (.aload_n 0, 1) by decide +kernel) rfl (lv_at hl 0 rfl) ?_
  refine W.objInit hx hb hown (hts _ q1516) (hts _ q204) (hts _ q205) rfl (by rw [hml]; exact hl.1) rfl (show decode cX11_init 1 = .ok (.invokespecial 1, 3) by decide +kernel) (Nat.succ_le_succ (Nat.zero_le _)) (by show _ ≤ 48 * (_ + 1); exact Nat.le_trans (Nat.le_of_ble_eq_true rfl) (Nat.le_mul_of_pos_right 48 (Nat.succ_pos _))) ?_
  refine W.eq (g2 := F0 m 4 ls []) rfl ?_
  refine lv_aload_n hx hb (show decode cX11_init 4 = .ok (.aload_n 0, 1) by decide +kernel) rfl (lv_at hl 0 rfl) ?_
  refine lv_iload_n hx hb (show decode cX11_init 5 = .ok (.iload_n 1, 1) by decide +kernel) rfl (lv_at hl 1 rfl) ?_
  refine va_putF (D := G.1) (ci := 11) (v := .int p0) (ty := .boolean) (C := RX11) (T := TX11) (N := 3) hx hb hts in_X11 tyX11 tyX11_ok nmX11 hown hK.1 hP hD hS 0 rfl rfl 0 (by decide) (hts _ q1517) (fun _ h9 => h9) rfl hin rfl (by decide +kernel) hz hf (Nat.le_of_ble_eq_true rfl) (show decode cX11_init 6 = .ok (.putfield 7, 3) by decide +kernel) (fun H locs hP hD hS => ?_)
  have hP : va_P G.1 zcl [(h0, .inr (11, [.int p0, .int 0, .int 0]))] H := hP
  have hD : va_D A [(h0, .inr (11, [.int p0, .int 0, .int 0]))] := hD
  refine lv_aload_n hx hb (show decode cX11_init 9 = .ok (.aload_n 0, 1) by decide +kernel) rfl (lv_at hl 0 rfl) ?_
  refine lv_iload_n hx hb (show decode cX11_init 10 = .ok (.iload_n 2, 1) by decide +kernel) rfl (lv_at hl 2 rfl) ?_
  refine va_putF (D := G.1) (ci := 11) (v := .int p1) (ty := .int) (C := RX11) (T := TX11) (N := 3) hx hb hts in_X11 tyX11 tyX11_ok nmX11 hown hK.1 hP hD hS 0 rfl rfl 1 (by decide) (hts _ q1519) (fun _ h9 => h9) rfl hin rfl (by decide +kernel) rfl rfl (Nat.le_of_ble_eq_true rfl) (show decode cX11_init 11 = .ok (.putfield 13, 3) by decide +kernel) (fun H locs hP hD hS => ?_)
  have hP : va_P G.1 zcl [(h0, .inr (11, [.int p0, .int p1, .int 0]))] H := hP
  have hD : va_D A [(h0, .inr (11, [.int p0, .int p1, .int 0]))] := hD
  refine lv_aload_n hx hb (show decode cX11_init 14 = .ok (.aload_n 0, 1) by decide +kernel) rfl (lv_at hl 0 rfl) ?_
  refine lv_iload_n hx hb (show decode cX11_init 15 = .ok (.iload_n 3, 1) by decide +kernel) rfl (lv_at hl 3 rfl) ?_
  refine va_putF (D := G.1) (ci := 11) (v := .int p2) (ty := .int) (C := RX11) (T := TX11) (N := 3) hx hb hts in_X11 tyX11 tyX11_ok nmX11 hown hK.1 hP hD hS 0 rfl rfl 2 (by decide) (hts _ q1521) (fun _ h9 => h9) rfl hin rfl (by decide +kernel) rfl rfl (Nat.le_of_ble_eq_true rfl) (show decode cX11_init 16 = .ok (.putfield 17, 3) by decide +kernel) (fun H locs hP hD hS => ?_)
  have hP : va_P G.1 zcl [(h0, .inr (11, [.int p0, .int p1, .int p2]))] H := hP
  have hD : va_D A [(h0, .inr (11, [.int p0, .int p1, .int p2]))] := hD
  have hP9 := hP.sub (ws' := [(h0, .inr (11, [.int p0, .int p1, .int p2]))]) [0] rfl
  have hD9 := hD.sub (ws' := [(h0, .inr (11, [.int p0, .int p1, .int p2]))]) [0] (by decide) rfl
  exact W.vret hx hb hr (fun t ht hW => ⟨⟨(), rfl, trivial, by rw [ht]; exact hP9, hD9⟩, hS.F ht⟩) hS.2.2 (show decode cX11_init 19 = .ok (.return_, 1) by decide +kernel)

set_option maxHeartbeats 4000000 in
set_option maxRecDepth 100000 in
/-- a walker -/
theorem rX10_init (l : Launch) (G : zG) (d sz : Nat) (h0 : Nat) (p0 : Int32) (p1 : Int32) : Met l yX10_init (ws_ yX10_init cX10_init 3 none) (eRoom (d + 1) 0 0) (rPc G [.ref h0, .int p0, .int p1] [(h0, .inr (10, [.int 0, .int 0]))] sz) (va_Qv (fun _ => True) (rB G (fun _ : Unit => [(h0, .inr (10, [.int p0, .int p1]))]) (va_A [(h0, .inr (10, [.int 0, .int 0]))] sz)) (va_A [(h0, .inr (10, [.int 0, .int 0]))] sz)) 0 0 (va_A [(h0, .inr (10, [.int 0, .int 0]))] sz) := by
  refine Met.ofW (cc := cX10_init) (maxL := 3) (ret := none) (by decide) rfl ?_
  intro p e s m args below meth c s₁ B hml hv
  obtain ⟨rfl, hsz, hP, hK, hST, hD0⟩ := hv
  have hx := B.exec
  have hb := B.bytes
  have hr := B.returns
  have hts := atoms_spec (ws := ws_ yX10_init cX10_init 3 none) B.pre
  have hts : ∀ w ∈ lw_all, w.before _ s = true := fun w h => hts w (List.mem_cons_of_mem _ h)
  have hown : s.vm.findClass RX10 = some m.cls := findClass_of_methodNamed B.named
  have hlocks := B.notSynchronized
  have hin : meth.name = "<init>" := (name_of_methodNamed B.named B.method).1
  subst hsz
  have hD := hD0.self (sz := s.heap.size)
  generalize hAe : va_A [(h0, .inr (10, [.int 0, .int 0]))] s.heap.size = A at hD hST ⊢
  have hA : ∀ q : Nat, s.heap.size ≤ q → A q := fun q h => by rw [← hAe]; exact Or.inr h
  have hS : va_S A s.heap s.heap [] := va_S.rf
  have hP : va_P G.1 zcl [(h0, .inr (10, [.int 0, .int 0]))] s.heap := hP
  have hl := lv_entry ([.ref h0, .int p0, .int p1]) (n := 3) (Nat.le_of_ble_eq_true rfl)
  rw [lg_entry_eq]
  generalize (lg_sl ([.ref h0, .int p0, .int p1]) ++ List.replicate (3 - (lg_sl ([.ref h0, .int p0, .int p1])).length) Slot.unset).toArray = ls at hl ⊢
  have hl : lv_has ls 3 [(0, .ref h0), (1, .int p0), (2, .int p1)] := hl
  refine lv_aload_n hx hb (show decode cX10_init 0 = .ok (.aload_n 0, 1) by decide +kernel) rfl (lv_at hl 0 rfl) ?_
  refine W.objInit hx hb hown (hts _ q952) (hts _ q204) (hts _ q205) rfl (by rw [hml]; exact hl.1) rfl (show decode cX10_init 1 = .ok (.invokespecial 1, 3) by decide +kernel) (Nat.succ_le_succ (Nat.zero_le _)) (by show _ ≤ 48 * (_ + 1); exact Nat.le_trans (Nat.le_of_ble_eq_true rfl) (Nat.le_mul_of_pos_right 48 (Nat.succ_pos _))) ?_
  refine W.eq (g2 := F0 m 4 ls []) rfl ?_
  refine lv_aload_n hx hb (show decode cX10_init 4 = .ok (.aload_n 0, 1) by decide +kernel) rfl (lv_at hl 0 rfl) ?_
  refine lv_iload_n hx hb (show decode cX10_init 5 = .ok (.iload_n 1, 1) by decide +kernel) rfl (lv_at hl 1 rfl) ?_
  refine va_putF (D := G.1) (ci := 10) (v := .int p0) (ty := .int) (C := RX10) (T := TX10) (N := 2) hx hb hts in_X10 tyX10 tyX10_ok nmX10 hown hK.1 hP hD hS 0 rfl rfl 0 (by decide) (hts _ q953) (fun _ h9 => h9) rfl hin rfl (by decide +kernel) rfl rfl (Nat.le_of_ble_eq_true rfl) (show decode cX10_init 6 = .ok (.putfield 7, 3) by decide +kernel) (fun H locs hP hD hS => ?_)
  have hP : va_P G.1 zcl [(h0, .inr (10, [.int p0, .int 0]))] H := hP
  have hD : va_D A [(h0, .inr (10, [.int p0, .int 0]))] := hD
  refine lv_aload_n hx hb (show decode cX10_init 9 = .ok (.aload_n 0, 1) by decide +kernel) rfl (lv_at hl 0 rfl) ?_
  refine lv_iload_n hx hb (show decode cX10_init 10 = .ok (.iload_n 2, 1) by decide +kernel) rfl (lv_at hl 2 rfl) ?_
  refine va_putF (D := G.1) (ci := 10) (v := .int p1) (ty := .int) (C := RX10) (T := TX10) (N := 2) hx hb hts in_X10 tyX10 tyX10_ok nmX10 hown hK.1 hP hD hS 0 rfl rfl 1 (by decide) (hts _ q956) (fun _ h9 => h9) rfl hin rfl (by decide +kernel) rfl rfl (Nat.le_of_ble_eq_true rfl) (show decode cX10_init 11 = .ok (.putfield 13, 3) by decide +kernel) (fun H locs hP hD hS => ?_)
  have hP : va_P G.1 zcl [(h0, .inr (10, [.int p0, .int p1]))] H := hP
  have hD : va_D A [(h0, .inr (10, [.int p0, .int p1]))] := hD
  have hP9 := hP.sub (ws' := [(h0, .inr (10, [.int p0, .int p1]))]) [0] rfl
  have hD9 := hD.sub (ws' := [(h0, .inr (10, [.int p0, .int p1]))]) [0] (by decide) rfl
  exact W.vret hx hb hr (fun t ht hW => ⟨⟨(), rfl, trivial, by rw [ht]; exact hP9, hD9⟩, hS.F ht⟩) hS.2.2 (show decode cX10_init 14 = .ok (.return_, 1) by decide +kernel)

set_option maxHeartbeats 4000000 in
set_option maxRecDepth 100000 in
/-- a slot -/
theorem rX1_init (l : Launch) (G : zG) (d sz : Nat) (h0 : Nat) : Met l yX1_init (ws_ yX1_init cX1_init 1 none) (eRoom (d + 1) 0 0) (rPc G [.ref h0] [(h0, .inr (1, [.null]))] sz) (va_Qv (fun _ => True) (rB G (fun _ : Unit => [(h0, .inr (1, [.null]))]) (va_A [(h0, .inr (1, [.null]))] sz)) (va_A [(h0, .inr (1, [.null]))] sz)) 0 0 (va_A [(h0, .inr (1, [.null]))] sz) := by
  refine Met.ofW (cc := cX1_init) (maxL := 1) (ret := none) (by decide) rfl ?_
  intro p e s m args below meth c s₁ B hml hv
  obtain ⟨rfl, hsz, hP, hK, hST, hD0⟩ := hv
  have hx := B.exec
  have hb := B.bytes
  have hr := B.returns
  have hts := atoms_spec (ws := ws_ yX1_init cX1_init 1 none) B.pre
  have hts : ∀ w ∈ lw_all, w.before _ s = true := fun w h => hts w (List.mem_cons_of_mem _ h)
  have hown : s.vm.findClass RX1 = some m.cls := findClass_of_methodNamed B.named
  have hlocks := B.notSynchronized
  have hin : meth.name = "<init>" := (name_of_methodNamed B.named B.method).1
  subst hsz
  have hD := hD0.self (sz := s.heap.size)
  generalize hAe : va_A [(h0, .inr (1, [.null]))] s.heap.size = A at hD hST ⊢
  have hA : ∀ q : Nat, s.heap.size ≤ q → A q := fun q h => by rw [← hAe]; exact Or.inr h
  have hS : va_S A s.heap s.heap [] := va_S.rf
  have hP : va_P G.1 zcl [(h0, .inr (1, [.null]))] s.heap := hP
  have hl := lv_entry ([.ref h0]) (n := 1) (Nat.le_of_ble_eq_true rfl)
  rw [lg_entry_eq]
  generalize (lg_sl ([.ref h0]) ++ List.replicate (1 - (lg_sl ([.ref h0])).length) Slot.unset).toArray = ls at hl ⊢
  have hl : lv_has ls 1 [(0, .ref h0)] := hl
  refine lv_aload_n hx hb (show decode cX1_init 0 = .ok (.aload_n 0, 1) by decide +kernel) rfl (lv_at hl 0 rfl) ?_
  refine W.objInit hx hb hown (hts _ q387) (hts _ q204) (hts _ q205) rfl (by rw [hml]; exact hl.1) rfl (show decode cX1_init 1 = .ok (.invokespecial 3, 3) by decide +kernel) (Nat.succ_le_succ (Nat.zero_le _)) (by show _ ≤ 48 * (_ + 1); exact Nat.le_trans (Nat.le_of_ble_eq_true rfl) (Nat.le_mul_of_pos_right 48 (Nat.succ_pos _))) ?_
  refine W.eq (g2 := F0 m 4 ls []) rfl ?_
  have hP9 := hP.sub (ws' := [(h0, .inr (1, [.null]))]) [0] rfl
  have hD9 := hD.sub (ws' := [(h0, .inr (1, [.null]))]) [0] (by decide) rfl
  exact W.vret hx hb hr (fun t ht hW => ⟨⟨(), rfl, trivial, by rw [ht]; exact hP9, hD9⟩, hS.F ht⟩) hS.2.2 (show decode cX1_init 4 = .ok (.return_, 1) by decide +kernel)

set_option maxHeartbeats 4000000 in
set_option maxRecDepth 100000 in
/-- a post -/
theorem rX9_init (l : Launch) (G : zG) (d sz : Nat) (h0 : Nat) : Met l yX9_init (ws_ yX9_init cX9_init 1 none) (eRoom (d + 1) 1 4) (rPc G [.ref h0] [(h0, .inr (9, [.null, .int 0, .int 0]))] sz) (va_Qv (fun _ => True) (rB G (fun q1 : Nat => [(h0, .inr (9, [.ref q1, .int 0, .int 0])), (q1, .inl (G.2.2.1 0, 4, .inl (fun _ => 0)))]) (va_A [(h0, .inr (9, [.null, .int 0, .int 0]))] sz)) (va_A [(h0, .inr (9, [.null, .int 0, .int 0]))] sz)) 1 4 (va_A [(h0, .inr (9, [.null, .int 0, .int 0]))] sz) := by
  refine Met.ofW (cc := cX9_init) (maxL := 1) (ret := none) (by decide) rfl ?_
  intro p e s m args below meth c s₁ B hml hv
  obtain ⟨rfl, hsz, hP, hK, hST, hD0⟩ := hv
  have hx := B.exec
  have hb := B.bytes
  have hr := B.returns
  have hts := atoms_spec (ws := ws_ yX9_init cX9_init 1 none) B.pre
  have hts : ∀ w ∈ lw_all, w.before _ s = true := fun w h => hts w (List.mem_cons_of_mem _ h)
  have hown : s.vm.findClass RX9 = some m.cls := findClass_of_methodNamed B.named
  have hlocks := B.notSynchronized
  have hin : meth.name = "<init>" := (name_of_methodNamed B.named B.method).1
  subst hsz
  have hD := hD0.self (sz := s.heap.size)
  generalize hAe : va_A [(h0, .inr (9, [.null, .int 0, .int 0]))] s.heap.size = A at hD hST ⊢
  have hA : ∀ q : Nat, s.heap.size ≤ q → A q := fun q h => by rw [← hAe]; exact Or.inr h
  have hS : va_S A s.heap s.heap [] := va_S.rf
  have hP : va_P G.1 zcl [(h0, .inr (9, [.null, .int 0, .int 0]))] s.heap := hP
  have hl := lv_entry ([.ref h0]) (n := 1) (Nat.le_of_ble_eq_true rfl)
  rw [lg_entry_eq]
  generalize (lg_sl ([.ref h0]) ++ List.replicate (1 - (lg_sl ([.ref h0])).length) Slot.unset).toArray = ls at hl ⊢
  have hl : lv_has ls 1 [(0, .ref h0)] := hl
  refine lv_aload_n hx hb (show decode cX9_init 0 = .ok (.aload_n 0, 1) by decide +kernel) rfl (lv_at hl 0 rfl) ?_
  refine W.objInit hx hb hown (hts _ q829) (hts _ q204) (hts _ q205) rfl (by rw [hml]; exact hl.1) rfl (show decode cX9_init 1 = .ok (.invokespecial 3, 3) by decide +kernel) (Nat.succ_le_succ (Nat.zero_le _)) (by show _ ≤ 48 * (_ + 1); exact Nat.le_trans (Nat.le_of_ble_eq_true rfl) (Nat.le_mul_of_pos_right 48 (Nat.succ_pos _))) ?_
  refine W.eq (g2 := F0 m 4 ls []) rfl ?_
  refine lv_aload_n hx hb (show decode cX9_init 4 = .ok (.aload_n 0, 1) by decide +kernel) rfl (lv_at hl 0 rfl) ?_
  refine lv_iconst (v := 4) hx hb (show decode cX9_init 5 = .ok (.iconst 4, 1) by decide +kernel) (by decide) ?_
  refine r_newa (atype := .int) (a0 := (4, .inl (fun _ => 0))) hx hb (hts _ q279) rfl 0 rfl (fun _ h => by cases h) hK hP hD hS hA (fun _ => rfl) (by decide) (show ((4 : Int32)).toNatClampNeg = 4 by decide) (by decide) (by show _ ≤ 1; first | decide | omega) (by show _ ≤ 4; first | decide | omega) (show decode cX9_init 6 = .ok (.newarray .int, 2) by decide +kernel) (fun q1 H locs hP hD hS => ?_)
  have hP : va_P G.1 zcl [(h0, .inr (9, [.null, .int 0, .int 0])), (q1, .inl (G.2.2.1 0, 4, .inl (fun _ => 0)))] H := hP
  have hD : va_D A [(h0, .inr (9, [.null, .int 0, .int 0])), (q1, .inl (G.2.2.1 0, 4, .inl (fun _ => 0)))] := hD
  refine va_putF (D := G.1) (ci := 9) (v := .ref q1) (ty := .array .int) (C := RX9) (T := TX9) (N := 3) hx hb hts in_X9 tyX9 tyX9_ok nmX9 hown hK.1 hP hD hS 0 rfl rfl 0 (by decide) (hts _ q830) (fun _ h9 => h9) rfl hin rfl (by decide +kernel) rfl rfl (Nat.le_of_ble_eq_true rfl) (show decode cX9_init 8 = .ok (.putfield 9, 3) by decide +kernel) (fun H locs hP hD hS => ?_)
  have hP : va_P G.1 zcl [(h0, .inr (9, [.ref q1, .int 0, .int 0])), (q1, .inl (G.2.2.1 0, 4, .inl (fun _ => 0)))] H := hP
  have hD : va_D A [(h0, .inr (9, [.ref q1, .int 0, .int 0])), (q1, .inl (G.2.2.1 0, 4, .inl (fun _ => 0)))] := hD
  have hP9 := hP.sub (ws' := [(h0, .inr (9, [.ref q1, .int 0, .int 0])), (q1, .inl (G.2.2.1 0, 4, .inl (fun _ => 0)))]) [0, 1] rfl
  have hD9 := hD.sub (ws' := [(h0, .inr (9, [.ref q1, .int 0, .int 0])), (q1, .inl (G.2.2.1 0, 4, .inl (fun _ => 0)))]) [0, 1] (by decide) rfl
  refine W.widen (k := 1) (n := 4) (by first | decide | omega) (by first | decide | omega) ?_
  exact W.vret hx hb hr (fun t ht hW => ⟨⟨q1, rfl, trivial, by rw [ht]; exact hP9, hD9⟩, hS.F ht⟩) hS.2.2 (show decode cX9_init 11 = .ok (.return_, 1) by decide +kernel)

set_option maxHeartbeats 4000000 in
set_option maxRecDepth 100000 in
theorem rJ0_init (l : Launch) (G : zG) (d sz : Nat) (h0 : Nat) : Met l yJ0_init (ws_ yJ0_init cJ0_init 1 none) (eRoom (d + 1) 0 0) (rPc G [.ref h0] [(h0, .inr (12, [.int 0, .null, .int 0]))] sz) (va_Qv (fun _ => True) (rB G (fun _ : Unit => [(h0, .inr (12, [.int 0, .null, .int 0]))]) (va_A [(h0, .inr (12, [.int 0, .null, .int 0]))] sz)) (va_A [(h0, .inr (12, [.int 0, .null, .int 0]))] sz)) 0 0 (va_A [(h0, .inr (12, [.int 0, .null, .int 0]))] sz) := by
  refine zMetF (cc := cJ0_init) (maxL := 1) (ret := none) (by decide +kernel) rfl ?_
  intro p e s m args below meth c s₁ B hml hv
  obtain ⟨rfl, hsz, hP, hK, hST, hD0⟩ := hv
  have hx := B.exec
  have hb := B.bytes
  have hr := B.returns
  have hts := atoms_spec (ws := ws_ yJ0_init cJ0_init 1 none) B.pre
  have hts : ∀ w ∈ lw_all, w.before _ s = true := fun w h => hts w (List.mem_cons_of_mem _ h)
  have hown : s.vm.findClass RJ0 = some m.cls := findClass_of_methodNamed B.named
  have hlocks := B.notSynchronized
  have hin : meth.name = "<init>" := (name_of_methodNamed B.named B.method).1
  subst hsz
  have hD := hD0.self (sz := s.heap.size)
  generalize hAe : va_A [(h0, .inr (12, [.int 0, .null, .int 0]))] s.heap.size = A at hD hST ⊢
  have hA : ∀ q : Nat, s.heap.size ≤ q → A q := fun q h => by rw [← hAe]; exact Or.inr h
  have hS : va_S A s.heap s.heap [] := va_S.rf
  have hP : va_P G.1 zcl [(h0, .inr (12, [.int 0, .null, .int 0]))] s.heap := hP
  have hl := lv_entry ([.ref h0]) (n := 1) (Nat.le_of_ble_eq_true rfl)
  rw [lg_entry_eq]
  generalize (lg_sl ([.ref h0]) ++ List.replicate (1 - (lg_sl ([.ref h0])).length) Slot.unset).toArray = ls at hl ⊢
  have hl : lv_has ls 1 [(0, .ref h0)] := hl
  refine lv_aload_n hx hb (show decode cJ0_init 0 = .ok (.aload_n 0, 1) by decide +kernel) rfl (lv_at hl 0 rfl) ?_
  refine W.objInit hx hb hown (hts _ q410) (hts _ q204) (hts _ q205) rfl (by rw [hml]; exact hl.1) rfl (show decode cJ0_init 1 = .ok (.invokespecial 1, 3) by decide +kernel) (Nat.succ_le_succ (Nat.zero_le _)) (by show _ ≤ 48 * (_ + 1); exact Nat.le_trans (Nat.le_of_ble_eq_true rfl) (Nat.le_mul_of_pos_right 48 (Nat.succ_pos _))) ?_
  refine W.eq (g2 := F0 m 4 ls []) rfl ?_
  have hP9 := hP.sub (ws' := [(h0, .inr (12, [.int 0, .null, .int 0]))]) [0] rfl
  have hD9 := hD.sub (ws' := [(h0, .inr (12, [.int 0, .null, .int 0]))]) [0] (by decide) rfl
  exact W.vret hx hb hr (fun t ht hW => ⟨⟨(), rfl, trivial, by rw [ht]; exact hP9, hD9⟩, hS.F ht⟩) hS.2.2 (show decode cJ0_init 4 = .ok (.return_, 1) by decide +kernel)

set_option maxHeartbeats 4000000 in
set_option maxRecDepth 100000 in
theorem rJ1_init (l : Launch) (G : zG) (d sz : Nat) (h0 : Nat) : Met l yJ1_init (ws_ yJ1_init cJ1_init 1 none) (eRoom (d + 2) 0 0) (rPc G [.ref h0] [(h0, .inr (12, [.int 0, .null, .int 0]))] sz) (va_Qv (fun _ => True) (rB G (fun _ : Unit => [(h0, .inr (12, [.int 0, .null, .int 0]))]) (va_A [(h0, .inr (12, [.int 0, .null, .int 0]))] sz)) (va_A [(h0, .inr (12, [.int 0, .null, .int 0]))] sz)) 0 0 (va_A [(h0, .inr (12, [.int 0, .null, .int 0]))] sz) := by
  refine zMetF (cc := cJ1_init) (maxL := 1) (ret := none) (by decide +kernel) rfl ?_
  intro p e s m args below meth c s₁ B hml hv
  obtain ⟨rfl, hsz, hP, hK, hST, hD0⟩ := hv
  have hx := B.exec
  have hb := B.bytes
  have hr := B.returns
  have hts := atoms_spec (ws := ws_ yJ1_init cJ1_init 1 none) B.pre
  have hts : ∀ w ∈ lw_all, w.before _ s = true := fun w h => hts w (List.mem_cons_of_mem _ h)
  have hown : s.vm.findClass RJ1 = some m.cls := findClass_of_methodNamed B.named
  have hlocks := B.notSynchronized
  have hin : meth.name = "<init>" := (name_of_methodNamed B.named B.method).1
  subst hsz
  have hD := hD0.self (sz := s.heap.size)
  generalize hAe : va_A [(h0, .inr (12, [.int 0, .null, .int 0]))] s.heap.size = A at hD hST ⊢
  have hA : ∀ q : Nat, s.heap.size ≤ q → A q := fun q h => by rw [← hAe]; exact Or.inr h
  have hS : va_S A s.heap s.heap [] := va_S.rf
  have hP : va_P G.1 zcl [(h0, .inr (12, [.int 0, .null, .int 0]))] s.heap := hP
  have hl := lv_entry ([.ref h0]) (n := 1) (Nat.le_of_ble_eq_true rfl)
  rw [lg_entry_eq]
  generalize (lg_sl ([.ref h0]) ++ List.replicate (1 - (lg_sl ([.ref h0])).length) Slot.unset).toArray = ls at hl ⊢
  have hl : lv_has ls 1 [(0, .ref h0)] := hl
  refine lv_aload_n hx hb (show decode cJ1_init 0 = .ok (.aload_n 0, 1) by decide +kernel) rfl (lv_at hl 0 rfl) ?_
  have hPc := hP.sub (ws' := [(h0, .inr (12, [.int 0, .null, .int 0]))]) [0] rfl
  have hDc := hD.sub (ws' := [(h0, .inr (12, [.int 0, .null, .int 0]))]) [0] (by decide) rfl
  have hFc := va_free (wc := [(h0, .inr (12, [.int 0, .null, .int 0]))]) hD hS hA [0] rfl
  refine va_callv (va_runI (As := []) (rest := []) ⟨hx, hb, hml, hown, hts⟩ (rJ0_init l G (d + 0) s.heap.size (h0) ) (cwI 0 hts (lw_meth q409) rfl rfl rfl (hts _ q144) (hts _ q407) (hts _ q408) rfl (by decide +kernel) ⟨(rroom (d := d + 1) (mc := 0) (ms := 0) (mc' := 0) (ms' := 0) (mL := 1) (by decide)).1, by first | exact (rroom (d := d + 1) (mc := 0) (ms := 0) (mc' := 0) (ms' := 0) (mL := 1) (by decide)).2⟩) ⟨rblind, rpc hK hST hS hPc hDc hFc [.ref h0]⟩ rfl rfl hl.1 rfl (lv_room (Nat.le_of_ble_eq_true rfl)) (show decode cJ1_init 1 = .ok (.invokespecial 1, 3) by decide +kernel) ⟨by show _ ≤ 0; first | decide | omega, by show _ ≤ 0; first | decide | omega⟩) hS (fun q _ h => hFc q h) hFc (fun u t H1 locs ht hvm hw hB hz1 hk1 hS => ?_)
  obtain ⟨hP1, hD1⟩ := hB
  rw [ht] at hP1
  obtain ⟨hP, hD⟩ := va_join (wr := []) (w1 := [(h0, .inr (12, [.int 0, .null, .int 0]))]) hP hD [0] [] rfl rfl (by decide) (by decide) hk1 hFc hP1 hD1
  generalize H1 = H at hP hS ⊢
  have hP : va_P G.1 zcl [(h0, .inr (12, [.int 0, .null, .int 0]))] H := hP
  have hD : va_D A [(h0, .inr (12, [.int 0, .null, .int 0]))] := hD
  refine lv_aload_n hx hb (show decode cJ1_init 4 = .ok (.aload_n 0, 1) by decide +kernel) rfl (lv_at hl 0 rfl) ?_
  refine lv_iconst (v := 0) hx hb (show decode cJ1_init 5 = .ok (.iconst 0, 1) by decide +kernel) (by decide) ?_
  refine va_put (D := G.1) (ci := 12) (v := .int 0) (ty := .int) (C := RJ2) (T := TJ2) (N := 3) hx hb hts in_J2 tyJ2 tyJ2_ok nmJ2 hown hK.1 hP hD hS 0 rfl rfl 0 (by decide) (hts _ q419) (fun _ h9 => h9) rfl (by decide +kernel) rfl rfl (Nat.le_of_ble_eq_true rfl) (show decode cJ1_init 6 = .ok (.putfield 7, 3) by decide +kernel) (fun H locs hP hD hS => ?_)
  have hP : va_P G.1 zcl [(h0, .inr (12, [.int 0, .null, .int 0]))] H := hP
  have hD : va_D A [(h0, .inr (12, [.int 0, .null, .int 0]))] := hD
  have hP9 := hP.sub (ws' := [(h0, .inr (12, [.int 0, .null, .int 0]))]) [0] rfl
  have hD9 := hD.sub (ws' := [(h0, .inr (12, [.int 0, .null, .int 0]))]) [0] (by decide) rfl
  exact W.vret hx hb hr (fun t ht hW => ⟨⟨(), rfl, trivial, by rw [ht]; exact hP9, hD9⟩, hS.F ht⟩) hS.2.2 (show decode cJ1_init 9 = .ok (.return_, 1) by decide +kernel)

set_option maxHeartbeats 4000000 in
set_option maxRecDepth 100000 in
/-- a list with room for 7 -/
theorem rJ2_init_7 (l : Launch) (G : zG) (d sz : Nat) (h0 : Nat) : Met l yJ2_init (ws_ yJ2_init cJ2_init 2 none) (eRoom (d + 3) 1 7) (rPc G [.ref h0, .int 7] [(h0, .inr (12, [.int 0, .null, .int 0]))] sz) (va_Qv (fun _ => True) (rB G (fun q1 : Nat => [(h0, .inr (12, [.int 0, .ref q1, .int 0])), (q1, .inl (G.2.2.1 6, 7, .inr (.inr (.inr (.inr (fun _ => none))))))]) (va_A [(h0, .inr (12, [.int 0, .null, .int 0]))] sz)) (va_A [(h0, .inr (12, [.int 0, .null, .int 0]))] sz)) 1 7 (va_A [(h0, .inr (12, [.int 0, .null, .int 0]))] sz) := by
  refine zMetF (cc := cJ2_init) (maxL := 2) (ret := none) (by decide +kernel) rfl ?_
  intro p e s m args below meth c s₁ B hml hv
  obtain ⟨rfl, hsz, hP, hK, hST, hD0⟩ := hv
  have hx := B.exec
  have hb := B.bytes
  have hr := B.returns
  have hts := atoms_spec (ws := ws_ yJ2_init cJ2_init 2 none) B.pre
  have hts : ∀ w ∈ lw_all, w.before _ s = true := fun w h => hts w (List.mem_cons_of_mem _ h)
  have hown : s.vm.findClass RJ2 = some m.cls := findClass_of_methodNamed B.named
  have hlocks := B.notSynchronized
  have hin : meth.name = "<init>" := (name_of_methodNamed B.named B.method).1
  subst hsz
  have hD := hD0.self (sz := s.heap.size)
  generalize hAe : va_A [(h0, .inr (12, [.int 0, .null, .int 0]))] s.heap.size = A at hD hST ⊢
  have hA : ∀ q : Nat, s.heap.size ≤ q → A q := fun q h => by rw [← hAe]; exact Or.inr h
  have hS : va_S A s.heap s.heap [] := va_S.rf
  have hP : va_P G.1 zcl [(h0, .inr (12, [.int 0, .null, .int 0]))] s.heap := hP
  have hl := lv_entry ([.ref h0, .int 7]) (n := 2) (Nat.le_of_ble_eq_true rfl)
  rw [lg_entry_eq]
  generalize (lg_sl ([.ref h0, .int 7]) ++ List.replicate (2 - (lg_sl ([.ref h0, .int 7])).length) Slot.unset).toArray = ls at hl ⊢
  have hl : lv_has ls 2 [(0, .ref h0), (1, .int 7)] := hl
  refine lv_aload_n hx hb (show decode cJ2_init 0 = .ok (.aload_n 0, 1) by decide +kernel) rfl (lv_at hl 0 rfl) ?_
  have hPc := hP.sub (ws' := [(h0, .inr (12, [.int 0, .null, .int 0]))]) [0] rfl
  have hDc := hD.sub (ws' := [(h0, .inr (12, [.int 0, .null, .int 0]))]) [0] (by decide) rfl
  have hFc := va_free (wc := [(h0, .inr (12, [.int 0, .null, .int 0]))]) hD hS hA [0] rfl
  refine va_callv (va_runI (As := []) (rest := []) ⟨hx, hb, hml, hown, hts⟩ (rJ1_init l G (d + 0) s.heap.size (h0) ) (cwI 0 hts (lw_meth q406) rfl rfl rfl (hts _ q145) (hts _ q404) (hts _ q405) rfl (by decide +kernel) ⟨(rroom (d := d + 2) (mc := 1) (ms := 7) (mc' := 0) (ms' := 0) (mL := 1) (by decide)).1, by first | exact (rroom (d := d + 2) (mc := 1) (ms := 7) (mc' := 0) (ms' := 0) (mL := 1) (by decide)).2⟩) ⟨rblind, rpc hK hST hS hPc hDc hFc [.ref h0]⟩ rfl rfl hl.1 rfl (lv_room (Nat.le_of_ble_eq_true rfl)) (show decode cJ2_init 1 = .ok (.invokespecial 1, 3) by decide +kernel) ⟨by show _ ≤ 1; first | decide | omega, by show _ ≤ 7; first | decide | omega⟩) hS (fun q _ h => hFc q h) hFc (fun u t H1 locs ht hvm hw hB hz1 hk1 hS => ?_)
  obtain ⟨hP1, hD1⟩ := hB
  rw [ht] at hP1
  obtain ⟨hP, hD⟩ := va_join (wr := []) (w1 := [(h0, .inr (12, [.int 0, .null, .int 0]))]) hP hD [0] [] rfl rfl (by decide) (by decide) hk1 hFc hP1 hD1
  generalize H1 = H at hP hS ⊢
  have hP : va_P G.1 zcl [(h0, .inr (12, [.int 0, .null, .int 0]))] H := hP
  have hD : va_D A [(h0, .inr (12, [.int 0, .null, .int 0]))] := hD
  refine lv_iload_n hx hb (show decode cJ2_init 4 = .ok (.iload_n 1, 1) by decide +kernel) rfl (lv_at hl 1 rfl) ?_
  refine lv_if_le (tgt := 19) hx hb (show decode cJ2_init 5 = .ok (.ifCond .le 14, 3) by decide +kernel) (by decide) (fun cnd_ => absurd cnd_ (by decide)) (fun cnd_ => ?_)
  refine lv_aload_n hx hb (show decode cJ2_init 8 = .ok (.aload_n 0, 1) by decide +kernel) rfl (lv_at hl 0 rfl) ?_
  refine lv_iload_n hx hb (show decode cJ2_init 9 = .ok (.iload_n 1, 1) by decide +kernel) rfl (lv_at hl 1 rfl) ?_
  refine r_newq hx hb hown (hts _ q411) hST.2.2.1 6 rfl hK hP hD hS hA (by decide) (show ((7 : Int32)).toNatClampNeg = 7 by decide) (by decide) (by show _ ≤ 1; first | decide | omega) (by show _ ≤ 7; first | decide | omega) (show decode cJ2_init 10 = .ok (.anewarray 7, 3) by decide +kernel) (fun q1 H locs hP hD hS => ?_)
  have hP : va_P G.1 zcl [(h0, .inr (12, [.int 0, .null, .int 0])), (q1, .inl (G.2.2.1 6, 7, .inr (.inr (.inr (.inr (fun _ => none))))))] H := hP
  have hD : va_D A [(h0, .inr (12, [.int 0, .null, .int 0])), (q1, .inl (G.2.2.1 6, 7, .inr (.inr (.inr (.inr (fun _ => none))))))] := hD
  refine va_put (D := G.1) (ci := 12) (v := .ref q1) (ty := .array (.object "java/lang/Object")) (C := RJ2) (T := TJ2) (N := 3) hx hb hts in_J2 tyJ2 tyJ2_ok nmJ2 hown hK.1 hP hD hS 0 rfl rfl 1 (by decide) (hts _ q415) (fun _ h9 => h9) rfl (by decide +kernel) rfl rfl (Nat.le_of_ble_eq_true rfl) (show decode cJ2_init 13 = .ok (.putfield 9, 3) by decide +kernel) (fun H locs hP hD hS => ?_)
  have hP : va_P G.1 zcl [(h0, .inr (12, [.int 0, .ref q1, .int 0])), (q1, .inl (G.2.2.1 6, 7, .inr (.inr (.inr (.inr (fun _ => none))))))] H := hP
  have hD : va_D A [(h0, .inr (12, [.int 0, .ref q1, .int 0])), (q1, .inl (G.2.2.1 6, 7, .inr (.inr (.inr (.inr (fun _ => none))))))] := hD
  refine lv_goto (tgt := 60) hx hb (show decode cJ2_init 16 = .ok (.goto 44, 3) by decide +kernel) (by decide) ?_
  have hP9 := hP.sub (ws' := [(h0, .inr (12, [.int 0, .ref q1, .int 0])), (q1, .inl (G.2.2.1 6, 7, .inr (.inr (.inr (.inr (fun _ => none))))))]) [0, 1] rfl
  have hD9 := hD.sub (ws' := [(h0, .inr (12, [.int 0, .ref q1, .int 0])), (q1, .inl (G.2.2.1 6, 7, .inr (.inr (.inr (.inr (fun _ => none))))))]) [0, 1] (by decide) rfl
  refine W.widen (k := 1) (n := 7) (by first | decide | omega) (by first | decide | omega) ?_
  exact W.vret hx hb hr (fun t ht hW => ⟨⟨q1, rfl, trivial, by rw [ht]; exact hP9, hD9⟩, hS.F ht⟩) hS.2.2 (show decode cJ2_init 60 = .ok (.return_, 1) by decide +kernel)

set_option maxHeartbeats 4000000 in
set_option maxRecDepth 100000 in
/-- a list with room for 8 -/
theorem rJ2_init_8 (l : Launch) (G : zG) (d sz : Nat) (h0 : Nat) : Met l yJ2_init (ws_ yJ2_init cJ2_init 2 none) (eRoom (d + 3) 1 8) (rPc G [.ref h0, .int 8] [(h0, .inr (12, [.int 0, .null, .int 0]))] sz) (va_Qv (fun _ => True) (rB G (fun q1 : Nat => [(h0, .inr (12, [.int 0, .ref q1, .int 0])), (q1, .inl (G.2.2.1 6, 8, .inr (.inr (.inr (.inr (fun _ => none))))))]) (va_A [(h0, .inr (12, [.int 0, .null, .int 0]))] sz)) (va_A [(h0, .inr (12, [.int 0, .null, .int 0]))] sz)) 1 8 (va_A [(h0, .inr (12, [.int 0, .null, .int 0]))] sz) := by
  refine zMetF (cc := cJ2_init) (maxL := 2) (ret := none) (by decide +kernel) rfl ?_
  intro p e s m args below meth c s₁ B hml hv
  obtain ⟨rfl, hsz, hP, hK, hST, hD0⟩ := hv
  have hx := B.exec
  have hb := B.bytes
  have hr := B.returns
  have hts := atoms_spec (ws := ws_ yJ2_init cJ2_init 2 none) B.pre
  have hts : ∀ w ∈ lw_all, w.before _ s = true := fun w h => hts w (List.mem_cons_of_mem _ h)
  have hown : s.vm.findClass RJ2 = some m.cls := findClass_of_methodNamed B.named
  have hlocks := B.notSynchronized
  have hin : meth.name = "<init>" := (name_of_methodNamed B.named B.method).1
  subst hsz
  have hD := hD0.self (sz := s.heap.size)
  generalize hAe : va_A [(h0, .inr (12, [.int 0, .null, .int 0]))] s.heap.size = A at hD hST ⊢
  have hA : ∀ q : Nat, s.heap.size ≤ q → A q := fun q h => by rw [← hAe]; exact Or.inr h
  have hS : va_S A s.heap s.heap [] := va_S.rf
  have hP : va_P G.1 zcl [(h0, .inr (12, [.int 0, .null, .int 0]))] s.heap := hP
  have hl := lv_entry ([.ref h0, .int 8]) (n := 2) (Nat.le_of_ble_eq_true rfl)
  rw [lg_entry_eq]
  generalize (lg_sl ([.ref h0, .int 8]) ++ List.replicate (2 - (lg_sl ([.ref h0, .int 8])).length) Slot.unset).toArray = ls at hl ⊢
  have hl : lv_has ls 2 [(0, .ref h0), (1, .int 8)] := hl
  refine lv_aload_n hx hb (show decode cJ2_init 0 = .ok (.aload_n 0, 1) by decide +kernel) rfl (lv_at hl 0 rfl) ?_
  have hPc := hP.sub (ws' := [(h0, .inr (12, [.int 0, .null, .int 0]))]) [0] rfl
  have hDc := hD.sub (ws' := [(h0, .inr (12, [.int 0, .null, .int 0]))]) [0] (by decide) rfl
  have hFc := va_free (wc := [(h0, .inr (12, [.int 0, .null, .int 0]))]) hD hS hA [0] rfl
  refine va_callv (va_runI (As := []) (rest := []) ⟨hx, hb, hml, hown, hts⟩ (rJ1_init l G (d + 0) s.heap.size (h0) ) (cwI 0 hts (lw_meth q406) rfl rfl rfl (hts _ q145) (hts _ q404) (hts _ q405) rfl (by decide +kernel) ⟨(rroom (d := d + 2) (mc := 1) (ms := 8) (mc' := 0) (ms' := 0) (mL := 1) (by decide)).1, by first | exact (rroom (d := d + 2) (mc := 1) (ms := 8) (mc' := 0) (ms' := 0) (mL := 1) (by decide)).2⟩) ⟨rblind, rpc hK hST hS hPc hDc hFc [.ref h0]⟩ rfl rfl hl.1 rfl (lv_room (Nat.le_of_ble_eq_true rfl)) (show decode cJ2_init 1 = .ok (.invokespecial 1, 3) by decide +kernel) ⟨by show _ ≤ 1; first | decide | omega, by show _ ≤ 8; first | decide | omega⟩) hS (fun q _ h => hFc q h) hFc (fun u t H1 locs ht hvm hw hB hz1 hk1 hS => ?_)
  obtain ⟨hP1, hD1⟩ := hB
  rw [ht] at hP1
  obtain ⟨hP, hD⟩ := va_join (wr := []) (w1 := [(h0, .inr (12, [.int 0, .null, .int 0]))]) hP hD [0] [] rfl rfl (by decide) (by decide) hk1 hFc hP1 hD1
  generalize H1 = H at hP hS ⊢
  have hP : va_P G.1 zcl [(h0, .inr (12, [.int 0, .null, .int 0]))] H := hP
  have hD : va_D A [(h0, .inr (12, [.int 0, .null, .int 0]))] := hD
  refine lv_iload_n hx hb (show decode cJ2_init 4 = .ok (.iload_n 1, 1) by decide +kernel) rfl (lv_at hl 1 rfl) ?_
  refine lv_if_le (tgt := 19) hx hb (show decode cJ2_init 5 = .ok (.ifCond .le 14, 3) by decide +kernel) (by decide) (fun cnd_ => absurd cnd_ (by decide)) (fun cnd_ => ?_)
  refine lv_aload_n hx hb (show decode cJ2_init 8 = .ok (.aload_n 0, 1) by decide +kernel) rfl (lv_at hl 0 rfl) ?_
  refine lv_iload_n hx hb (show decode cJ2_init 9 = .ok (.iload_n 1, 1) by decide +kernel) rfl (lv_at hl 1 rfl) ?_
  refine r_newq hx hb hown (hts _ q411) hST.2.2.1 6 rfl hK hP hD hS hA (by decide) (show ((8 : Int32)).toNatClampNeg = 8 by decide) (by decide) (by show _ ≤ 1; first | decide | omega) (by show _ ≤ 8; first | decide | omega) (show decode cJ2_init 10 = .ok (.anewarray 7, 3) by decide +kernel) (fun q1 H locs hP hD hS => ?_)
  have hP : va_P G.1 zcl [(h0, .inr (12, [.int 0, .null, .int 0])), (q1, .inl (G.2.2.1 6, 8, .inr (.inr (.inr (.inr (fun _ => none))))))] H := hP
  have hD : va_D A [(h0, .inr (12, [.int 0, .null, .int 0])), (q1, .inl (G.2.2.1 6, 8, .inr (.inr (.inr (.inr (fun _ => none))))))] := hD
  refine va_put (D := G.1) (ci := 12) (v := .ref q1) (ty := .array (.object "java/lang/Object")) (C := RJ2) (T := TJ2) (N := 3) hx hb hts in_J2 tyJ2 tyJ2_ok nmJ2 hown hK.1 hP hD hS 0 rfl rfl 1 (by decide) (hts _ q415) (fun _ h9 => h9) rfl (by decide +kernel) rfl rfl (Nat.le_of_ble_eq_true rfl) (show decode cJ2_init 13 = .ok (.putfield 9, 3) by decide +kernel) (fun H locs hP hD hS => ?_)
  have hP : va_P G.1 zcl [(h0, .inr (12, [.int 0, .ref q1, .int 0])), (q1, .inl (G.2.2.1 6, 8, .inr (.inr (.inr (.inr (fun _ => none))))))] H := hP
  have hD : va_D A [(h0, .inr (12, [.int 0, .ref q1, .int 0])), (q1, .inl (G.2.2.1 6, 8, .inr (.inr (.inr (.inr (fun _ => none))))))] := hD
  refine lv_goto (tgt := 60) hx hb (show decode cJ2_init 16 = .ok (.goto 44, 3) by decide +kernel) (by decide) ?_
  have hP9 := hP.sub (ws' := [(h0, .inr (12, [.int 0, .ref q1, .int 0])), (q1, .inl (G.2.2.1 6, 8, .inr (.inr (.inr (.inr (fun _ => none))))))]) [0, 1] rfl
  have hD9 := hD.sub (ws' := [(h0, .inr (12, [.int 0, .ref q1, .int 0])), (q1, .inl (G.2.2.1 6, 8, .inr (.inr (.inr (.inr (fun _ => none))))))]) [0, 1] (by decide) rfl
  refine W.widen (k := 1) (n := 8) (by first | decide | omega) (by first | decide | omega) ?_
  exact W.vret hx hb hr (fun t ht hW => ⟨⟨q1, rfl, trivial, by rw [ht]; exact hP9, hD9⟩, hS.F ht⟩) hS.2.2 (show decode cJ2_init 60 = .ok (.return_, 1) by decide +kernel)

set_option maxHeartbeats 4000000 in
set_option maxRecDepth 100000 in
/-- a list without a room of its own -/
theorem rJ2_init_2 (l : Launch) (G : zG) (d sz : Nat) (h0 : Nat) : Met l yJ2_init_2 (ws_ yJ2_init_2 cJ2_init_2 1 none) (eRoom (d + 3) 0 0) (rPc G [.ref h0] [(h0, .inr (12, [.int 0, .null, .int 0]))] sz) (va_Qv (fun _ => True) (rB G (fun _ : Unit => [(h0, .inr (12, [.int 0, .ref (G.2.1 95 0), .int 0]))]) (va_A [(h0, .inr (12, [.int 0, .null, .int 0]))] sz)) (va_A [(h0, .inr (12, [.int 0, .null, .int 0]))] sz)) 0 0 (va_A [(h0, .inr (12, [.int 0, .null, .int 0]))] sz) := by
  refine zMetF (cc := cJ2_init_2) (maxL := 1) (ret := none) (by decide +kernel) rfl ?_
  intro p e s m args below meth c s₁ B hml hv
  obtain ⟨rfl, hsz, hP, hK, hST, hD0⟩ := hv
  have hx := B.exec
  have hb := B.bytes
  have hr := B.returns
  have hts := atoms_spec (ws := ws_ yJ2_init_2 cJ2_init_2 1 none) B.pre
  have hts : ∀ w ∈ lw_all, w.before _ s = true := fun w h => hts w (List.mem_cons_of_mem _ h)
  have hown : s.vm.findClass RJ2 = some m.cls := findClass_of_methodNamed B.named
  have hlocks := B.notSynchronized
  have hin : meth.name = "<init>" := (name_of_methodNamed B.named B.method).1
  subst hsz
  have hD := hD0.self (sz := s.heap.size)
  generalize hAe : va_A [(h0, .inr (12, [.int 0, .null, .int 0]))] s.heap.size = A at hD hST ⊢
  have hA : ∀ q : Nat, s.heap.size ≤ q → A q := fun q h => by rw [← hAe]; exact Or.inr h
  have hS : va_S A s.heap s.heap [] := va_S.rf
  have hP : va_P G.1 zcl [(h0, .inr (12, [.int 0, .null, .int 0]))] s.heap := hP
  have hl := lv_entry ([.ref h0]) (n := 1) (Nat.le_of_ble_eq_true rfl)
  rw [lg_entry_eq]
  generalize (lg_sl ([.ref h0]) ++ List.replicate (1 - (lg_sl ([.ref h0])).length) Slot.unset).toArray = ls at hl ⊢
  have hl : lv_has ls 1 [(0, .ref h0)] := hl
  refine lv_aload_n hx hb (show decode cJ2_init_2 0 = .ok (.aload_n 0, 1) by decide +kernel) rfl (lv_at hl 0 rfl) ?_
  have hPc := hP.sub (ws' := [(h0, .inr (12, [.int 0, .null, .int 0]))]) [0] rfl
  have hDc := hD.sub (ws' := [(h0, .inr (12, [.int 0, .null, .int 0]))]) [0] (by decide) rfl
  have hFc := va_free (wc := [(h0, .inr (12, [.int 0, .null, .int 0]))]) hD hS hA [0] rfl
  refine va_callv (va_runI (As := []) (rest := []) ⟨hx, hb, hml, hown, hts⟩ (rJ1_init l G (d + 0) s.heap.size (h0) ) (cwI 0 hts (lw_meth q406) rfl rfl rfl (hts _ q145) (hts _ q404) (hts _ q405) rfl (by decide +kernel) ⟨(rroom (d := d + 2) (mc := 0) (ms := 0) (mc' := 0) (ms' := 0) (mL := 1) (by decide)).1, by first | exact (rroom (d := d + 2) (mc := 0) (ms := 0) (mc' := 0) (ms' := 0) (mL := 1) (by decide)).2⟩) ⟨rblind, rpc hK hST hS hPc hDc hFc [.ref h0]⟩ rfl rfl hl.1 rfl (lv_room (Nat.le_of_ble_eq_true rfl)) (show decode cJ2_init_2 1 = .ok (.invokespecial 1, 3) by decide +kernel) ⟨by show _ ≤ 0; first | decide | omega, by show _ ≤ 0; first | decide | omega⟩) hS (fun q _ h => hFc q h) hFc (fun u t H1 locs ht hvm hw hB hz1 hk1 hS => ?_)
  obtain ⟨hP1, hD1⟩ := hB
  rw [ht] at hP1
  obtain ⟨hP, hD⟩ := va_join (wr := []) (w1 := [(h0, .inr (12, [.int 0, .null, .int 0]))]) hP hD [0] [] rfl rfl (by decide) (by decide) hk1 hFc hP1 hD1
  generalize H1 = H at hP hS ⊢
  have hP : va_P G.1 zcl [(h0, .inr (12, [.int 0, .null, .int 0]))] H := hP
  have hD : va_D A [(h0, .inr (12, [.int 0, .null, .int 0]))] := hD
  refine lv_aload_n hx hb (show decode cJ2_init_2 4 = .ok (.aload_n 0, 1) by decide +kernel) rfl (lv_at hl 0 rfl) ?_
  obtain ⟨v_, ev_, hZ_⟩ := hST.1 _ (List.mem_of_getElem? (i := 2) rfl)
  obtain rfl : v_ = .ref (G.2.1 95 0) := ev_
  refine va_gets hx hb hZ_ hS hown (hts _ q433) (fun _ h9 => h9) (show decode cJ2_init_2 5 = .ok (.getstatic 39, 3) by decide +kernel) ?_
  refine va_put (D := G.1) (ci := 12) (v := .ref (G.2.1 95 0)) (ty := .array (.object "java/lang/Object")) (C := RJ2) (T := TJ2) (N := 3) hx hb hts in_J2 tyJ2 tyJ2_ok nmJ2 hown hK.1 hP hD hS 0 rfl rfl 1 (by decide) (hts _ q415) (fun _ h9 => h9) rfl (by decide +kernel) rfl rfl (Nat.le_of_ble_eq_true rfl) (show decode cJ2_init_2 8 = .ok (.putfield 9, 3) by decide +kernel) (fun H locs hP hD hS => ?_)
  have hP : va_P G.1 zcl [(h0, .inr (12, [.int 0, .ref (G.2.1 95 0), .int 0]))] H := hP
  have hD : va_D A [(h0, .inr (12, [.int 0, .ref (G.2.1 95 0), .int 0]))] := hD
  have hP9 := hP.sub (ws' := [(h0, .inr (12, [.int 0, .ref (G.2.1 95 0), .int 0]))]) [0] rfl
  have hD9 := hD.sub (ws' := [(h0, .inr (12, [.int 0, .ref (G.2.1 95 0), .int 0]))]) [0] (by decide) rfl
  exact W.vret hx hb hr (fun t ht hW => ⟨⟨(), rfl, trivial, by rw [ht]; exact hP9, hD9⟩, hS.F ht⟩) hS.2.2 (show decode cJ2_init_2 11 = .ok (.return_, 1) by decide +kernel)

set_option maxHeartbeats 4000000 in
set_option maxRecDepth 100000 in
/-- a heath -/
theorem rX2_init (l : Launch) (G : zG) (d sz : Nat) (h0 : Nat) : Met l yX2_init (ws_ yX2_init cX2_init 1 none) (eRoom (d + 4) 6 28) (rPc G [.ref h0] [(h0, .inr (2, [.null, .null, .null, .null, .int 0, .int 0, .int 0, .int 0, .int 0, .int 0, .int 0]))] sz) (va_Qv (fun _ => True) (rB G (fun u : Nat × Nat × Nat × Nat × Nat × Nat => [(h0, .inr (2, [.ref u.1, .ref u.2.1, .ref u.2.2.2.1, .ref u.2.2.2.2.2, .int 0, .int 0, .int 0, .int 0, .int 0, .int 0, .int 0])), (u.1, .inl (G.2.2.1 0, 4, .inl (fun _ => 0))), (u.2.1, .inr (12, [.int 0, .ref u.2.2.1, .int 0])), (u.2.2.1, .inl (G.2.2.1 6, 7, .inr (.inr (.inr (.inr (fun _ => none)))))), (u.2.2.2.1, .inr (12, [.int 0, .ref u.2.2.2.2.1, .int 0])), (u.2.2.2.2.1, .inl (G.2.2.1 6, 8, .inr (.inr (.inr (.inr (fun _ => none)))))), (u.2.2.2.2.2, .inr (12, [.int 0, .ref (G.2.1 95 0), .int 0]))]) (va_A [(h0, .inr (2, [.null, .null, .null, .null, .int 0, .int 0, .int 0, .int 0, .int 0, .int 0, .int 0]))] sz)) (va_A [(h0, .inr (2, [.null, .null, .null, .null, .int 0, .int 0, .int 0, .int 0, .int 0, .int 0, .int 0]))] sz)) 6 28 (va_A [(h0, .inr (2, [.null, .null, .null, .null, .int 0, .int 0, .int 0, .int 0, .int 0, .int 0, .int 0]))] sz) := by
  refine Met.ofW (cc := cX2_init) (maxL := 1) (ret := none) (by decide) rfl ?_
  intro p e s m args below meth c s₁ B hml hv
  obtain ⟨rfl, hsz, hP, hK, hST, hD0⟩ := hv
  have hx := B.exec
  have hb := B.bytes
  have hr := B.returns
  have hts := atoms_spec (ws := ws_ yX2_init cX2_init 1 none) B.pre
  have hts : ∀ w ∈ lw_all, w.before _ s = true := fun w h => hts w (List.mem_cons_of_mem _ h)
  have hown : s.vm.findClass RX2 = some m.cls := findClass_of_methodNamed B.named
  have hlocks := B.notSynchronized
  have hin : meth.name = "<init>" := (name_of_methodNamed B.named B.method).1
  subst hsz
  have hD := hD0.self (sz := s.heap.size)
  generalize hAe : va_A [(h0, .inr (2, [.null, .null, .null, .null, .int 0, .int 0, .int 0, .int 0, .int 0, .int 0, .int 0]))] s.heap.size = A at hD hST ⊢
  have hA : ∀ q : Nat, s.heap.size ≤ q → A q := fun q h => by rw [← hAe]; exact Or.inr h
  have hS : va_S A s.heap s.heap [] := va_S.rf
  have hP : va_P G.1 zcl [(h0, .inr (2, [.null, .null, .null, .null, .int 0, .int 0, .int 0, .int 0, .int 0, .int 0, .int 0]))] s.heap := hP
  have hl := lv_entry ([.ref h0]) (n := 1) (Nat.le_of_ble_eq_true rfl)
  rw [lg_entry_eq]
  generalize (lg_sl ([.ref h0]) ++ List.replicate (1 - (lg_sl ([.ref h0])).length) Slot.unset).toArray = ls at hl ⊢
  have hl : lv_has ls 1 [(0, .ref h0)] := hl
  refine lv_aload_n hx hb (show decode cX2_init 0 = .ok (.aload_n 0, 1) by decide +kernel) rfl (lv_at hl 0 rfl) ?_
  refine W.objInit hx hb hown (hts _ q398) (hts _ q204) (hts _ q205) rfl (by rw [hml]; exact hl.1) rfl (show decode cX2_init 1 = .ok (.invokespecial 3, 3) by decide +kernel) (Nat.succ_le_succ (Nat.zero_le _)) (by show _ ≤ 48 * (_ + 1); exact Nat.le_trans (Nat.le_of_ble_eq_true rfl) (Nat.le_mul_of_pos_right 48 (Nat.succ_pos _))) ?_
  refine W.eq (g2 := F0 m 4 ls []) rfl ?_
  refine lv_aload_n hx hb (show decode cX2_init 4 = .ok (.aload_n 0, 1) by decide +kernel) rfl (lv_at hl 0 rfl) ?_
  refine lv_iconst (v := 4) hx hb (show decode cX2_init 5 = .ok (.iconst 4, 1) by decide +kernel) (by decide) ?_
  refine r_newa (atype := .int) (a0 := (4, .inl (fun _ => 0))) hx hb (hts _ q279) rfl 0 rfl (fun _ h => by cases h) hK hP hD hS hA (fun _ => rfl) (by decide) (show ((4 : Int32)).toNatClampNeg = 4 by decide) (by decide) (by show _ ≤ 6; first | decide | omega) (by show _ ≤ 28; first | decide | omega) (show decode cX2_init 6 = .ok (.newarray .int, 2) by decide +kernel) (fun q1 H locs hP hD hS => ?_)
  have hP : va_P G.1 zcl [(h0, .inr (2, [.null, .null, .null, .null, .int 0, .int 0, .int 0, .int 0, .int 0, .int 0, .int 0])), (q1, .inl (G.2.2.1 0, 4, .inl (fun _ => 0)))] H := hP
  have hD : va_D A [(h0, .inr (2, [.null, .null, .null, .null, .int 0, .int 0, .int 0, .int 0, .int 0, .int 0, .int 0])), (q1, .inl (G.2.2.1 0, 4, .inl (fun _ => 0)))] := hD
  refine va_putF (D := G.1) (ci := 2) (v := .ref q1) (ty := .array .int) (C := RX2) (T := TX2) (N := 11) hx hb hts in_X2 tyX2 tyX2_ok nmX2 hown hK.1 hP hD hS 0 rfl rfl 0 (by decide) (hts _ q435) (fun _ h9 => h9) rfl hin rfl (by decide +kernel) rfl rfl (Nat.le_of_ble_eq_true rfl) (show decode cX2_init 8 = .ok (.putfield 9, 3) by decide +kernel) (fun H locs hP hD hS => ?_)
  have hP : va_P G.1 zcl [(h0, .inr (2, [.ref q1, .null, .null, .null, .int 0, .int 0, .int 0, .int 0, .int 0, .int 0, .int 0])), (q1, .inl (G.2.2.1 0, 4, .inl (fun _ => 0)))] H := hP
  have hD : va_D A [(h0, .inr (2, [.ref q1, .null, .null, .null, .int 0, .int 0, .int 0, .int 0, .int 0, .int 0, .int 0])), (q1, .inl (G.2.2.1 0, 4, .inl (fun _ => 0)))] := hD
  refine lv_aload_n hx hb (show decode cX2_init 11 = .ok (.aload_n 0, 1) by decide +kernel) rfl (lv_at hl 0 rfl) ?_
  refine va_new (ci := 12) (fs := [.int 0, .null, .int 0]) (C := RJ2) (T := TJ2) (N := 3) hx hb hts in_J2 tyJ2 tyJ2_ok hown (hts _ q399) (hts _ q400) (hts _ q146) hK.1 hP hD hS hA rfl (fun j hj => by rcases (show j = 0 ∨ j = 1 ∨ j = 2 by omega) with rfl | rfl | rfl <;> rfl) (by show _ ≤ 6; first | decide | omega) (by show _ ≤ 28; first | decide | omega) (show decode cX2_init 12 = .ok (.new 15, 3) by decide +kernel) (fun q2 H hP hD hS => ?_)
  have hP : va_P G.1 zcl [(h0, .inr (2, [.ref q1, .null, .null, .null, .int 0, .int 0, .int 0, .int 0, .int 0, .int 0, .int 0])), (q1, .inl (G.2.2.1 0, 4, .inl (fun _ => 0))), (q2, .inr (12, [.int 0, .null, .int 0]))] H := hP
  have hD : va_D A [(h0, .inr (2, [.ref q1, .null, .null, .null, .int 0, .int 0, .int 0, .int 0, .int 0, .int 0, .int 0])), (q1, .inl (G.2.2.1 0, 4, .inl (fun _ => 0))), (q2, .inr (12, [.int 0, .null, .int 0]))] := hD
  refine lv_dup hx hb (show decode cX2_init 15 = .ok (.dup, 1) by decide +kernel) rfl ?_
  refine lv_bipush (v := 7) hx hb (show decode cX2_init 16 = .ok (.bipush 7, 2) by decide +kernel) (by decide) ?_
  have hPc := hP.sub (ws' := [(q2, .inr (12, [.int 0, .null, .int 0]))]) [2] rfl
  have hDc := hD.sub (ws' := [(q2, .inr (12, [.int 0, .null, .int 0]))]) [2] (by decide) rfl
  have hFc := va_free (wc := [(q2, .inr (12, [.int 0, .null, .int 0]))]) hD hS hA [2] rfl
  refine va_callv (va_runI (As := [.int 7]) (rest := [.ref q2, .ref h0]) ⟨hx, hb, hml, hown, hts⟩ (rJ2_init_7 l G (d + 0) H.size (q2) ) (cwI 1 hts (lw_meth q403) rfl rfl rfl (hts _ q146) (hts _ q401) (hts _ q402) rfl (by decide +kernel) ⟨(rroom (d := d + 3) (mc := 6) (ms := 28) (mc' := 1) (ms' := 7) (mL := 2) (by decide)).1, by first | exact (rroom (d := d + 3) (mc := 6) (ms := 28) (mc' := 1) (ms' := 7) (mL := 2) (by decide)).2⟩) ⟨rblind, rpc hK hST hS hPc hDc hFc [.ref q2, .int 7]⟩ rfl rfl hl.1 rfl (lv_room (Nat.le_of_ble_eq_true rfl)) (show decode cX2_init 18 = .ok (.invokespecial 17, 3) by decide +kernel) ⟨by show _ ≤ 6; first | decide | omega, by show _ ≤ 28; first | decide | omega⟩) hS (fun q _ h => hFc q h) hFc (fun u t H1 locs ht hvm hw hB hz1 hk1 hS => ?_)
  obtain ⟨q3, rfl⟩ : ∃ z, z = u := ⟨_, rfl⟩
  obtain ⟨hP1, hD1⟩ := hB
  rw [ht] at hP1
  obtain ⟨hP, hD⟩ := va_join (wr := [(h0, .inr (2, [.ref q1, .null, .null, .null, .int 0, .int 0, .int 0, .int 0, .int 0, .int 0, .int 0])), (q1, .inl (G.2.2.1 0, 4, .inl (fun _ => 0)))]) (w1 := [(q2, .inr (12, [.int 0, .ref q3, .int 0])), (q3, .inl (G.2.2.1 6, 7, .inr (.inr (.inr (.inr (fun _ => none))))))]) hP hD [2] [0, 1] rfl rfl (by decide) (by decide) hk1 hFc hP1 hD1
  generalize H1 = H at hP hS ⊢
  have hP : va_P G.1 zcl [(h0, .inr (2, [.ref q1, .null, .null, .null, .int 0, .int 0, .int 0, .int 0, .int 0, .int 0, .int 0])), (q1, .inl (G.2.2.1 0, 4, .inl (fun _ => 0))), (q2, .inr (12, [.int 0, .ref q3, .int 0])), (q3, .inl (G.2.2.1 6, 7, .inr (.inr (.inr (.inr (fun _ => none))))))] H := hP
  have hD : va_D A [(h0, .inr (2, [.ref q1, .null, .null, .null, .int 0, .int 0, .int 0, .int 0, .int 0, .int 0, .int 0])), (q1, .inl (G.2.2.1 0, 4, .inl (fun _ => 0))), (q2, .inr (12, [.int 0, .ref q3, .int 0])), (q3, .inl (G.2.2.1 6, 7, .inr (.inr (.inr (.inr (fun _ => none))))))] := hD
  refine va_putF (D := G.1) (ci := 2) (v := .ref q2) (ty := .object "java/util/List") (C := RX2) (T := TX2) (N := 11) hx hb hts in_X2 tyX2 tyX2_ok nmX2 hown hK.1 hP hD hS 0 rfl rfl 1 (by decide) (hts _ q439) (fun _ h9 => h9) rfl hin rfl (by decide +kernel) rfl rfl (Nat.le_of_ble_eq_true rfl) (show decode cX2_init 21 = .ok (.putfield 20, 3) by decide +kernel) (fun H locs hP hD hS => ?_)
  have hP : va_P G.1 zcl [(h0, .inr (2, [.ref q1, .ref q2, .null, .null, .int 0, .int 0, .int 0, .int 0, .int 0, .int 0, .int 0])), (q1, .inl (G.2.2.1 0, 4, .inl (fun _ => 0))), (q2, .inr (12, [.int 0, .ref q3, .int 0])), (q3, .inl (G.2.2.1 6, 7, .inr (.inr (.inr (.inr (fun _ => none))))))] H := hP
  have hD : va_D A [(h0, .inr (2, [.ref q1, .ref q2, .null, .null, .int 0, .int 0, .int 0, .int 0, .int 0, .int 0, .int 0])), (q1, .inl (G.2.2.1 0, 4, .inl (fun _ => 0))), (q2, .inr (12, [.int 0, .ref q3, .int 0])), (q3, .inl (G.2.2.1 6, 7, .inr (.inr (.inr (.inr (fun _ => none))))))] := hD
  refine lv_aload_n hx hb (show decode cX2_init 24 = .ok (.aload_n 0, 1) by decide +kernel) rfl (lv_at hl 0 rfl) ?_
  refine va_new (ci := 12) (fs := [.int 0, .null, .int 0]) (C := RJ2) (T := TJ2) (N := 3) hx hb hts in_J2 tyJ2 tyJ2_ok hown (hts _ q399) (hts _ q400) (hts _ q146) hK.1 hP hD hS hA rfl (fun j hj => by rcases (show j = 0 ∨ j = 1 ∨ j = 2 by omega) with rfl | rfl | rfl <;> rfl) (by show _ ≤ 6; first | decide | omega) (by show _ ≤ 28; first | decide | omega) (show decode cX2_init 25 = .ok (.new 15, 3) by decide +kernel) (fun q4 H hP hD hS => ?_)
  have hP : va_P G.1 zcl [(h0, .inr (2, [.ref q1, .ref q2, .null, .null, .int 0, .int 0, .int 0, .int 0, .int 0, .int 0, .int 0])), (q1, .inl (G.2.2.1 0, 4, .inl (fun _ => 0))), (q2, .inr (12, [.int 0, .ref q3, .int 0])), (q3, .inl (G.2.2.1 6, 7, .inr (.inr (.inr (.inr (fun _ => none)))))), (q4, .inr (12, [.int 0, .null, .int 0]))] H := hP
  have hD : va_D A [(h0, .inr (2, [.ref q1, .ref q2, .null, .null, .int 0, .int 0, .int 0, .int 0, .int 0, .int 0, .int 0])), (q1, .inl (G.2.2.1 0, 4, .inl (fun _ => 0))), (q2, .inr (12, [.int 0, .ref q3, .int 0])), (q3, .inl (G.2.2.1 6, 7, .inr (.inr (.inr (.inr (fun _ => none)))))), (q4, .inr (12, [.int 0, .null, .int 0]))] := hD
  refine lv_dup hx hb (show decode cX2_init 28 = .ok (.dup, 1) by decide +kernel) rfl ?_
  refine lv_bipush (v := 8) hx hb (show decode cX2_init 29 = .ok (.bipush 8, 2) by decide +kernel) (by decide) ?_
  have hPc := hP.sub (ws' := [(q4, .inr (12, [.int 0, .null, .int 0]))]) [4] rfl
  have hDc := hD.sub (ws' := [(q4, .inr (12, [.int 0, .null, .int 0]))]) [4] (by decide) rfl
  have hFc := va_free (wc := [(q4, .inr (12, [.int 0, .null, .int 0]))]) hD hS hA [4] rfl
  refine va_callv (va_runI (As := [.int 8]) (rest := [.ref q4, .ref h0]) ⟨hx, hb, hml, hown, hts⟩ (rJ2_init_8 l G (d + 0) H.size (q4) ) (cwI 1 hts (lw_meth q403) rfl rfl rfl (hts _ q146) (hts _ q401) (hts _ q402) rfl (by decide +kernel) ⟨(rroom (d := d + 3) (mc := 6) (ms := 28) (mc' := 1) (ms' := 8) (mL := 2) (by decide)).1, by first | exact (rroom (d := d + 3) (mc := 6) (ms := 28) (mc' := 1) (ms' := 8) (mL := 2) (by decide)).2⟩) ⟨rblind, rpc hK hST hS hPc hDc hFc [.ref q4, .int 8]⟩ rfl rfl hl.1 rfl (lv_room (Nat.le_of_ble_eq_true rfl)) (show decode cX2_init 31 = .ok (.invokespecial 17, 3) by decide +kernel) ⟨by show _ ≤ 6; first | decide | omega, by show _ ≤ 28; first | decide | omega⟩) hS (fun q _ h => hFc q h) hFc (fun u t H1 locs ht hvm hw hB hz1 hk1 hS => ?_)
  obtain ⟨q5, rfl⟩ : ∃ z, z = u := ⟨_, rfl⟩
  obtain ⟨hP1, hD1⟩ := hB
  rw [ht] at hP1
  obtain ⟨hP, hD⟩ := va_join (wr := [(h0, .inr (2, [.ref q1, .ref q2, .null, .null, .int 0, .int 0, .int 0, .int 0, .int 0, .int 0, .int 0])), (q1, .inl (G.2.2.1 0, 4, .inl (fun _ => 0))), (q2, .inr (12, [.int 0, .ref q3, .int 0])), (q3, .inl (G.2.2.1 6, 7, .inr (.inr (.inr (.inr (fun _ => none))))))]) (w1 := [(q4, .inr (12, [.int 0, .ref q5, .int 0])), (q5, .inl (G.2.2.1 6, 8, .inr (.inr (.inr (.inr (fun _ => none))))))]) hP hD [4] [0, 1, 2, 3] rfl rfl (by decide) (by decide) hk1 hFc hP1 hD1
  generalize H1 = H at hP hS ⊢
  have hP : va_P G.1 zcl [(h0, .inr (2, [.ref q1, .ref q2, .null, .null, .int 0, .int 0, .int 0, .int 0, .int 0, .int 0, .int 0])), (q1, .inl (G.2.2.1 0, 4, .inl (fun _ => 0))), (q2, .inr (12, [.int 0, .ref q3, .int 0])), (q3, .inl (G.2.2.1 6, 7, .inr (.inr (.inr (.inr (fun _ => none)))))), (q4, .inr (12, [.int 0, .ref q5, .int 0])), (q5, .inl (G.2.2.1 6, 8, .inr (.inr (.inr (.inr (fun _ => none))))))] H := hP
  have hD : va_D A [(h0, .inr (2, [.ref q1, .ref q2, .null, .null, .int 0, .int 0, .int 0, .int 0, .int 0, .int 0, .int 0])), (q1, .inl (G.2.2.1 0, 4, .inl (fun _ => 0))), (q2, .inr (12, [.int 0, .ref q3, .int 0])), (q3, .inl (G.2.2.1 6, 7, .inr (.inr (.inr (.inr (fun _ => none)))))), (q4, .inr (12, [.int 0, .ref q5, .int 0])), (q5, .inl (G.2.2.1 6, 8, .inr (.inr (.inr (.inr (fun _ => none))))))] := hD
  refine va_putF (D := G.1) (ci := 2) (v := .ref q4) (ty := .object "java/util/List") (C := RX2) (T := TX2) (N := 11) hx hb hts in_X2 tyX2 tyX2_ok nmX2 hown hK.1 hP hD hS 0 rfl rfl 2 (by decide) (hts _ q442) (fun _ h9 => h9) rfl hin rfl (by decide +kernel) rfl rfl (Nat.le_of_ble_eq_true rfl) (show decode cX2_init 34 = .ok (.putfield 24, 3) by decide +kernel) (fun H locs hP hD hS => ?_)
  have hP : va_P G.1 zcl [(h0, .inr (2, [.ref q1, .ref q2, .ref q4, .null, .int 0, .int 0, .int 0, .int 0, .int 0, .int 0, .int 0])), (q1, .inl (G.2.2.1 0, 4, .inl (fun _ => 0))), (q2, .inr (12, [.int 0, .ref q3, .int 0])), (q3, .inl (G.2.2.1 6, 7, .inr (.inr (.inr (.inr (fun _ => none)))))), (q4, .inr (12, [.int 0, .ref q5, .int 0])), (q5, .inl (G.2.2.1 6, 8, .inr (.inr (.inr (.inr (fun _ => none))))))] H := hP
  have hD : va_D A [(h0, .inr (2, [.ref q1, .ref q2, .ref q4, .null, .int 0, .int 0, .int 0, .int 0, .int 0, .int 0, .int 0])), (q1, .inl (G.2.2.1 0, 4, .inl (fun _ => 0))), (q2, .inr (12, [.int 0, .ref q3, .int 0])), (q3, .inl (G.2.2.1 6, 7, .inr (.inr (.inr (.inr (fun _ => none)))))), (q4, .inr (12, [.int 0, .ref q5, .int 0])), (q5, .inl (G.2.2.1 6, 8, .inr (.inr (.inr (.inr (fun _ => none))))))] := hD
  refine lv_aload_n hx hb (show decode cX2_init 37 = .ok (.aload_n 0, 1) by decide +kernel) rfl (lv_at hl 0 rfl) ?_
  refine va_new (ci := 12) (fs := [.int 0, .null, .int 0]) (C := RJ2) (T := TJ2) (N := 3) hx hb hts in_J2 tyJ2 tyJ2_ok hown (hts _ q399) (hts _ q400) (hts _ q146) hK.1 hP hD hS hA rfl (fun j hj => by rcases (show j = 0 ∨ j = 1 ∨ j = 2 by omega) with rfl | rfl | rfl <;> rfl) (by show _ ≤ 6; first | decide | omega) (by show _ ≤ 28; first | decide | omega) (show decode cX2_init 38 = .ok (.new 15, 3) by decide +kernel) (fun q6 H hP hD hS => ?_)
  have hP : va_P G.1 zcl [(h0, .inr (2, [.ref q1, .ref q2, .ref q4, .null, .int 0, .int 0, .int 0, .int 0, .int 0, .int 0, .int 0])), (q1, .inl (G.2.2.1 0, 4, .inl (fun _ => 0))), (q2, .inr (12, [.int 0, .ref q3, .int 0])), (q3, .inl (G.2.2.1 6, 7, .inr (.inr (.inr (.inr (fun _ => none)))))), (q4, .inr (12, [.int 0, .ref q5, .int 0])), (q5, .inl (G.2.2.1 6, 8, .inr (.inr (.inr (.inr (fun _ => none)))))), (q6, .inr (12, [.int 0, .null, .int 0]))] H := hP
  have hD : va_D A [(h0, .inr (2, [.ref q1, .ref q2, .ref q4, .null, .int 0, .int 0, .int 0, .int 0, .int 0, .int 0, .int 0])), (q1, .inl (G.2.2.1 0, 4, .inl (fun _ => 0))), (q2, .inr (12, [.int 0, .ref q3, .int 0])), (q3, .inl (G.2.2.1 6, 7, .inr (.inr (.inr (.inr (fun _ => none)))))), (q4, .inr (12, [.int 0, .ref q5, .int 0])), (q5, .inl (G.2.2.1 6, 8, .inr (.inr (.inr (.inr (fun _ => none)))))), (q6, .inr (12, [.int 0, .null, .int 0]))] := hD
  refine lv_dup hx hb (show decode cX2_init 41 = .ok (.dup, 1) by decide +kernel) rfl ?_
  have hPc := hP.sub (ws' := [(q6, .inr (12, [.int 0, .null, .int 0]))]) [6] rfl
  have hDc := hD.sub (ws' := [(q6, .inr (12, [.int 0, .null, .int 0]))]) [6] (by decide) rfl
  have hFc := va_free (wc := [(q6, .inr (12, [.int 0, .null, .int 0]))]) hD hS hA [6] rfl
  refine va_callv (va_runI (As := []) (rest := [.ref q6, .ref h0]) ⟨hx, hb, hml, hown, hts⟩ (rJ2_init_2 l G (d + 0) H.size (q6) ) (cwI 0 hts (lw_meth q432) rfl rfl rfl (hts _ q146) (hts _ q430) (hts _ q431) rfl (by decide +kernel) ⟨(rroom (d := d + 3) (mc := 6) (ms := 28) (mc' := 0) (ms' := 0) (mL := 1) (by decide)).1, by first | exact (rroom (d := d + 3) (mc := 6) (ms := 28) (mc' := 0) (ms' := 0) (mL := 1) (by decide)).2⟩) ⟨rblind, rpc hK hST hS hPc hDc hFc [.ref q6]⟩ rfl rfl hl.1 rfl (lv_room (Nat.le_of_ble_eq_true rfl)) (show decode cX2_init 42 = .ok (.invokespecial 27, 3) by decide +kernel) ⟨by show _ ≤ 6; first | decide | omega, by show _ ≤ 28; first | decide | omega⟩) hS (fun q _ h => hFc q h) hFc (fun u t H1 locs ht hvm hw hB hz1 hk1 hS => ?_)
  obtain ⟨hP1, hD1⟩ := hB
  rw [ht] at hP1
  obtain ⟨hP, hD⟩ := va_join (wr := [(h0, .inr (2, [.ref q1, .ref q2, .ref q4, .null, .int 0, .int 0, .int 0, .int 0, .int 0, .int 0, .int 0])), (q1, .inl (G.2.2.1 0, 4, .inl (fun _ => 0))), (q2, .inr (12, [.int 0, .ref q3, .int 0])), (q3, .inl (G.2.2.1 6, 7, .inr (.inr (.inr (.inr (fun _ => none)))))), (q4, .inr (12, [.int 0, .ref q5, .int 0])), (q5, .inl (G.2.2.1 6, 8, .inr (.inr (.inr (.inr (fun _ => none))))))]) (w1 := [(q6, .inr (12, [.int 0, .ref (G.2.1 95 0), .int 0]))]) hP hD [6] [0, 1, 2, 3, 4, 5] rfl rfl (by decide) (by decide) hk1 hFc hP1 hD1
  generalize H1 = H at hP hS ⊢
  have hP : va_P G.1 zcl [(h0, .inr (2, [.ref q1, .ref q2, .ref q4, .null, .int 0, .int 0, .int 0, .int 0, .int 0, .int 0, .int 0])), (q1, .inl (G.2.2.1 0, 4, .inl (fun _ => 0))), (q2, .inr (12, [.int 0, .ref q3, .int 0])), (q3, .inl (G.2.2.1 6, 7, .inr (.inr (.inr (.inr (fun _ => none)))))), (q4, .inr (12, [.int 0, .ref q5, .int 0])), (q5, .inl (G.2.2.1 6, 8, .inr (.inr (.inr (.inr (fun _ => none)))))), (q6, .inr (12, [.int 0, .ref (G.2.1 95 0), .int 0]))] H := hP
  have hD : va_D A [(h0, .inr (2, [.ref q1, .ref q2, .ref q4, .null, .int 0, .int 0, .int 0, .int 0, .int 0, .int 0, .int 0])), (q1, .inl (G.2.2.1 0, 4, .inl (fun _ => 0))), (q2, .inr (12, [.int 0, .ref q3, .int 0])), (q3, .inl (G.2.2.1 6, 7, .inr (.inr (.inr (.inr (fun _ => none)))))), (q4, .inr (12, [.int 0, .ref q5, .int 0])), (q5, .inl (G.2.2.1 6, 8, .inr (.inr (.inr (.inr (fun _ => none)))))), (q6, .inr (12, [.int 0, .ref (G.2.1 95 0), .int 0]))] := hD
  refine va_putF (D := G.1) (ci := 2) (v := .ref q6) (ty := .object "java/util/List") (C := RX2) (T := TX2) (N := 11) hx hb hts in_X2 tyX2 tyX2_ok nmX2 hown hK.1 hP hD hS 0 rfl rfl 3 (by decide) (hts _ q445) (fun _ h9 => h9) rfl hin rfl (by decide +kernel) rfl rfl (Nat.le_of_ble_eq_true rfl) (show decode cX2_init 45 = .ok (.putfield 28, 3) by decide +kernel) (fun H locs hP hD hS => ?_)
  have hP : va_P G.1 zcl [(h0, .inr (2, [.ref q1, .ref q2, .ref q4, .ref q6, .int 0, .int 0, .int 0, .int 0, .int 0, .int 0, .int 0])), (q1, .inl (G.2.2.1 0, 4, .inl (fun _ => 0))), (q2, .inr (12, [.int 0, .ref q3, .int 0])), (q3, .inl (G.2.2.1 6, 7, .inr (.inr (.inr (.inr (fun _ => none)))))), (q4, .inr (12, [.int 0, .ref q5, .int 0])), (q5, .inl (G.2.2.1 6, 8, .inr (.inr (.inr (.inr (fun _ => none)))))), (q6, .inr (12, [.int 0, .ref (G.2.1 95 0), .int 0]))] H := hP
  have hD : va_D A [(h0, .inr (2, [.ref q1, .ref q2, .ref q4, .ref q6, .int 0, .int 0, .int 0, .int 0, .int 0, .int 0, .int 0])), (q1, .inl (G.2.2.1 0, 4, .inl (fun _ => 0))), (q2, .inr (12, [.int 0, .ref q3, .int 0])), (q3, .inl (G.2.2.1 6, 7, .inr (.inr (.inr (.inr (fun _ => none)))))), (q4, .inr (12, [.int 0, .ref q5, .int 0])), (q5, .inl (G.2.2.1 6, 8, .inr (.inr (.inr (.inr (fun _ => none)))))), (q6, .inr (12, [.int 0, .ref (G.2.1 95 0), .int 0]))] := hD
  have hP9 := hP.sub (ws' := [(h0, .inr (2, [.ref q1, .ref q2, .ref q4, .ref q6, .int 0, .int 0, .int 0, .int 0, .int 0, .int 0, .int 0])), (q1, .inl (G.2.2.1 0, 4, .inl (fun _ => 0))), (q2, .inr (12, [.int 0, .ref q3, .int 0])), (q3, .inl (G.2.2.1 6, 7, .inr (.inr (.inr (.inr (fun _ => none)))))), (q4, .inr (12, [.int 0, .ref q5, .int 0])), (q5, .inl (G.2.2.1 6, 8, .inr (.inr (.inr (.inr (fun _ => none)))))), (q6, .inr (12, [.int 0, .ref (G.2.1 95 0), .int 0]))]) [0, 1, 2, 3, 4, 5, 6] rfl
  have hD9 := hD.sub (ws' := [(h0, .inr (2, [.ref q1, .ref q2, .ref q4, .ref q6, .int 0, .int 0, .int 0, .int 0, .int 0, .int 0, .int 0])), (q1, .inl (G.2.2.1 0, 4, .inl (fun _ => 0))), (q2, .inr (12, [.int 0, .ref q3, .int 0])), (q3, .inl (G.2.2.1 6, 7, .inr (.inr (.inr (.inr (fun _ => none)))))), (q4, .inr (12, [.int 0, .ref q5, .int 0])), (q5, .inl (G.2.2.1 6, 8, .inr (.inr (.inr (.inr (fun _ => none)))))), (q6, .inr (12, [.int 0, .ref (G.2.1 95 0), .int 0]))]) [0, 1, 2, 3, 4, 5, 6] (by decide) rfl
  refine W.widen (k := 6) (n := 28) (by first | decide | omega) (by first | decide | omega) ?_
  exact W.vret hx hb hr (fun t ht hW => ⟨⟨(q1, q2, q3, q4, q5, q6), rfl, trivial, by rw [ht]; exact hP9, hD9⟩, hS.F ht⟩) hS.2.2 (show decode cX2_init 48 = .ok (.return_, 1) by decide +kernel)

