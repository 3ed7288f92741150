/-! RAW: makers, lists -/
theorem r_clear_loop {p : Program} {l : Launch} {e : Env} {R : Room} {s : State} {m : MethodId} {args : Array Value} {below : List Frame} {meth : Method} {c : Code} {Q : State → Prop} {G : zG} {A : Nat → Prop} {H0 : Heap} {h0 a0 n0 c0 cells slots : Nat} {m0 : Int32} {f0 : Nat → Option Nat} (hx : p.tables.exec = Jvm.exec) (hb : c.code = cJ2_clear) (hK : zK zcl G s) (hn : n0 ≤ c0) (hc : c0 < 2 ^ 31)
    (kk : ∀ (H : Heap) (locs : List Loc) (ls : Array Slot), va_P G.1 zcl [(h0, .inr (12, [.int m0, .ref a0, .int 0])), (a0, .inl (G.2.2.1 6, c0, .inr (.inr (.inr (.inr (fun j => if j < n0 then none else f0 j))))))] H → va_D A [(h0, .inr (12, [.int m0, .ref a0, .int 0])), (a0, .inl (G.2.2.1 6, c0, .inr (.inr (.inr (.inr (fun j => if j < n0 then none else f0 j))))))] → va_S A H0 H locs → lv_has ls 4 [(3, .int (nI n0)), (2, .int (nI n0)), (1, .ref a0), (0, .ref h0)] → W p l e R s m args below meth c H locs cells slots Q (F0 m 42 ls [])) :
    ∀ (k i : Nat), i + k = n0 → ∀ (H : Heap) (locs : List Loc) (ls : Array Slot), va_P G.1 zcl [(h0, .inr (12, [.int m0, .ref a0, .int 0])), (a0, .inl (G.2.2.1 6, c0, .inr (.inr (.inr (.inr (fun j => if j < i then none else f0 j))))))] H → va_D A [(h0, .inr (12, [.int m0, .ref a0, .int 0])), (a0, .inl (G.2.2.1 6, c0, .inr (.inr (.inr (.inr (fun j => if j < i then none else f0 j))))))] → va_S A H0 H locs → lv_has ls 4 [(3, .int (nI i)), (2, .int (nI n0)), (1, .ref a0), (0, .ref h0)] → W p l e R s m args below meth c H locs cells slots Q (F0 m 27 ls []) := by
  intro k
  induction k with
  | zero =>
    intro i hi H locs ls hP hD hS hl
    obtain rfl : i = n0 := by omega
    refine lv_iload_n hx hb (show decode cJ2_clear 27 = .ok (.iload_n 3, 1) by decide +kernel) rfl (lv_at hl 0 rfl) ?_
    refine lv_iload_n hx hb (show decode cJ2_clear 28 = .ok (.iload_n 2, 1) by decide +kernel) rfl (lv_at hl 1 rfl) ?_
    refine lv_icmp_ge (tgt := 42) hx hb (show decode cJ2_clear 29 = .ok (.if_icmp .ge 13, 3) by decide +kernel) (by decide) (fun cnd_ => ?_) (fun cnd_ => absurd (Int32.le_refl _) cnd_)
    exact kk H locs ls hP hD hS hl
  | succ k ih =>
    intro i hi H locs ls hP hD hS hl
    refine lv_iload_n hx hb (show decode cJ2_clear 27 = .ok (.iload_n 3, 1) by decide +kernel) rfl (lv_at hl 0 rfl) ?_
    refine lv_iload_n hx hb (show decode cJ2_clear 28 = .ok (.iload_n 2, 1) by decide +kernel) rfl (lv_at hl 1 rfl) ?_
    refine lv_icmp_ge (tgt := 42) hx hb (show decode cJ2_clear 29 = .ok (.if_icmp .ge 13, 3) by decide +kernel) (by decide) (fun cnd_ => absurd cnd_ (by rw [nI_leI (by omega) (by omega)]; omega)) (fun cnd_ => ?_)
    refine lv_aload_n hx hb (show decode cJ2_clear 32 = .ok (.aload_n 1, 1) by decide +kernel) rfl (lv_at hl 2 rfl) ?_
    refine lv_iload_n hx hb (show decode cJ2_clear 33 = .ok (.iload_n 3, 1) by decide +kernel) rfl (lv_at hl 0 rfl) ?_
    refine lv_null hx hb (show decode cJ2_clear 34 = .ok (.aconst_null, 1) by decide +kernel) ?_
    refine va_astqN (C := "java/lang/Object") hx hb hK.1 hP hD hS 1 6 rfl rfl (vp_in_nI (by omega) (by omega)) (show decode cJ2_clear 35 = .ok (.aastore, 1) by decide +kernel) (fun H locs hP hD hS => ?_)
    rw [nI_clamp (by omega)] at hP hD
    have ef : va_up (fun j => if j < i then none else f0 j) i none = (fun j => if j < i + 1 then none else f0 j) := by
      funext j
      unfold va_up
      by_cases q : j = i
      · rw [if_pos q, if_pos (by omega)]
      · rw [if_neg q]
        show (if j < i then none else f0 j) = _
        by_cases q2 : j < i
        · rw [if_pos q2, if_pos (by omega)]
        · rw [if_neg q2, if_neg (by omega)]
    rw [ef] at hP hD
    refine lv_iinc (k := 0) (v := nI (i + 1)) hx hb (show decode cJ2_clear 36 = .ok (.iinc 3 1, 3) by decide +kernel) hl rfl (nI_add i 1) (by decide) rfl (fun ls hl => ?_)
    refine lv_goto (tgt := 27) hx hb (show decode cJ2_clear 39 = .ok (.goto (-12), 3) by decide +kernel) (by decide) ?_
    exact ih (i + 1) (by omega) H locs ls hP hD hS hl

set_option maxHeartbeats 4000000 in
set_option maxRecDepth 100000 in
/-- all are removed -/
theorem rJ2_clear (l : Launch) (G : zG) (d sz : Nat) (h0 : Nat) (a0 : Nat) (m0 : Int32) (n0 : Nat) (c0 : Nat) (f0 : Nat → Option Nat) (hn : n0 ≤ c0) (hc : c0 < 2 ^ 31) : Met l yJ2_clear (ws_ yJ2_clear cJ2_clear 4 none) (eRoom d 0 0) (rPc G [.ref h0] [(h0, .inr (12, [.int m0, .ref a0, .int (nI n0)])), (a0, .inl (G.2.2.1 6, c0, .inr (.inr (.inr (.inr (f0))))))] sz) (va_Qv (fun _ => True) (rB G (fun _ : Unit => [(h0, .inr (12, [.int (m0 + 1), .ref a0, .int 0])), (a0, .inl (G.2.2.1 6, c0, .inr (.inr (.inr (.inr (fun j => if j < n0 then none else f0 j))))))]) (va_A [(h0, .inr (12, [.int m0, .ref a0, .int (nI n0)])), (a0, .inl (G.2.2.1 6, c0, .inr (.inr (.inr (.inr (f0))))))] sz)) (va_A [(h0, .inr (12, [.int m0, .ref a0, .int (nI n0)])), (a0, .inl (G.2.2.1 6, c0, .inr (.inr (.inr (.inr (f0))))))] sz)) 0 0 (va_A [(h0, .inr (12, [.int m0, .ref a0, .int (nI n0)])), (a0, .inl (G.2.2.1 6, c0, .inr (.inr (.inr (.inr (f0))))))] sz) := by
  refine zMetF (cc := cJ2_clear) (maxL := 4) (ret := none) (by decide +kernel) rfl ?_
  intro p e s m args below meth c s₁ B hml hv
  obtain ⟨rfl, hsz, hP, hK, hST, hD0⟩ := hv
  have hx := B.exec
  have hb := B.bytes
  have hr := B.returns
  have hts := atoms_spec (ws := ws_ yJ2_clear cJ2_clear 4 none) B.pre
  have hts : ∀ w ∈ lw_all, w.before _ s = true := fun w h => hts w (List.mem_cons_of_mem _ h)
  have hown : s.vm.findClass RJ2 = some m.cls := findClass_of_methodNamed B.named
  have hlocks := B.notSynchronized
  subst hsz
  have hD := hD0.self (sz := s.heap.size)
  generalize hAe : va_A [(h0, .inr (12, [.int m0, .ref a0, .int (nI n0)])), (a0, .inl (G.2.2.1 6, c0, .inr (.inr (.inr (.inr (f0))))))] s.heap.size = A at hD hST ⊢
  have hA : ∀ q : Nat, s.heap.size ≤ q → A q := fun q h => by rw [← hAe]; exact Or.inr h
  have hS : va_S A s.heap s.heap [] := va_S.rf
  have hP : va_P G.1 zcl [(h0, .inr (12, [.int m0, .ref a0, .int (nI n0)])), (a0, .inl (G.2.2.1 6, c0, .inr (.inr (.inr (.inr (f0))))))] s.heap := hP
  have hl := lv_entry ([.ref h0]) (n := 4) (Nat.le_of_ble_eq_true rfl)
  rw [lg_entry_eq]
  generalize (lg_sl ([.ref h0]) ++ List.replicate (4 - (lg_sl ([.ref h0])).length) Slot.unset).toArray = ls at hl ⊢
  have hl : lv_has ls 4 [(0, .ref h0)] := hl
  refine lv_aload_n hx hb (show decode cJ2_clear 0 = .ok (.aload_n 0, 1) by decide +kernel) rfl (lv_at hl 0 rfl) ?_
  refine lv_dup hx hb (show decode cJ2_clear 1 = .ok (.dup, 1) by decide +kernel) rfl ?_
  refine va_get (D := G.1) (ci := 12) (v := .int m0) (C := RJ2) (T := TJ2) (N := 3) hx hb hts in_J2 hown hK.1 hP 0 rfl rfl 0 (by decide) (hts _ q422) (u_same (hts _ q421)) rfl (show decode cJ2_clear 2 = .ok (.getfield 63, 3) by decide +kernel) ?_
  refine lv_iconst (v := 1) hx hb (show decode cJ2_clear 5 = .ok (.iconst 1, 1) by decide +kernel) (by decide) ?_
  refine lv_iadd hx hb (show decode cJ2_clear 6 = .ok (.iadd, 1) by decide +kernel) ?_
  refine va_put (D := G.1) (ci := 12) (v := .int (m0 + 1)) (ty := .int) (C := RJ2) (T := TJ2) (N := 3) hx hb hts in_J2 tyJ2 tyJ2_ok nmJ2 hown hK.1 hP hD hS 0 rfl rfl 0 (by decide) (hts _ q422) (u_same (hts _ q421)) rfl (by decide +kernel) rfl rfl (Nat.le_of_ble_eq_true rfl) (show decode cJ2_clear 7 = .ok (.putfield 63, 3) by decide +kernel) (fun H locs hP hD hS => ?_)
  have hP : va_P G.1 zcl [(h0, .inr (12, [.int (m0 + 1), .ref a0, .int (nI n0)])), (a0, .inl (G.2.2.1 6, c0, .inr (.inr (.inr (.inr (f0))))))] H := hP
  have hD : va_D A [(h0, .inr (12, [.int (m0 + 1), .ref a0, .int (nI n0)])), (a0, .inl (G.2.2.1 6, c0, .inr (.inr (.inr (.inr (f0))))))] := hD
  refine lv_aload_n hx hb (show decode cJ2_clear 10 = .ok (.aload_n 0, 1) by decide +kernel) rfl (lv_at hl 0 rfl) ?_
  refine va_get (D := G.1) (ci := 12) (v := .ref a0) (C := RJ2) (T := TJ2) (N := 3) hx hb hts in_J2 hown hK.1 hP 0 rfl rfl 1 (by decide) (hts _ q415) (fun _ h9 => h9) rfl (show decode cJ2_clear 11 = .ok (.getfield 9, 3) by decide +kernel) ?_
  refine lv_astore_n hx hb (show decode cJ2_clear 14 = .ok (.astore_n 1, 1) by decide +kernel) rfl hl (by decide) rfl (fun ls hl => ?_)
  have hl : lv_has ls 4 [(1, .ref a0), (0, .ref h0)] := hl
  refine lv_aload_n hx hb (show decode cJ2_clear 15 = .ok (.aload_n 0, 1) by decide +kernel) rfl (lv_at hl 1 rfl) ?_
  refine va_get (D := G.1) (ci := 12) (v := .int (nI n0)) (C := RJ2) (T := TJ2) (N := 3) hx hb hts in_J2 hown hK.1 hP 0 rfl rfl 2 (by decide) (hts _ q418) (fun _ h9 => h9) rfl (show decode cJ2_clear 16 = .ok (.getfield 48, 3) by decide +kernel) ?_
  refine lv_istore_n hx hb (show decode cJ2_clear 19 = .ok (.istore_n 2, 1) by decide +kernel) rfl hl (by decide) rfl (fun ls hl => ?_)
  have hl : lv_has ls 4 [(2, .int (nI n0)), (1, .ref a0), (0, .ref h0)] := hl
  refine lv_aload_n hx hb (show decode cJ2_clear 20 = .ok (.aload_n 0, 1) by decide +kernel) rfl (lv_at hl 2 rfl) ?_
  refine lv_iconst (v := 0) hx hb (show decode cJ2_clear 21 = .ok (.iconst 0, 1) by decide +kernel) (by decide) ?_
  refine lv_dup_x1 hx hb (show decode cJ2_clear 22 = .ok (.dup_x1, 1) by decide +kernel) rfl rfl ?_
  refine va_put (D := G.1) (ci := 12) (v := .int 0) (ty := .int) (C := RJ2) (T := TJ2) (N := 3) hx hb hts in_J2 tyJ2 tyJ2_ok nmJ2 hown hK.1 hP hD hS 0 rfl rfl 2 (by decide) (hts _ q418) (fun _ h9 => h9) rfl (by decide +kernel) rfl rfl (Nat.le_of_ble_eq_true rfl) (show decode cJ2_clear 23 = .ok (.putfield 48, 3) by decide +kernel) (fun H locs hP hD hS => ?_)
  have hP : va_P G.1 zcl [(h0, .inr (12, [.int (m0 + 1), .ref a0, .int 0])), (a0, .inl (G.2.2.1 6, c0, .inr (.inr (.inr (.inr (f0))))))] H := hP
  have hD : va_D A [(h0, .inr (12, [.int (m0 + 1), .ref a0, .int 0])), (a0, .inl (G.2.2.1 6, c0, .inr (.inr (.inr (.inr (f0))))))] := hD
  refine lv_istore_n hx hb (show decode cJ2_clear 26 = .ok (.istore_n 3, 1) by decide +kernel) rfl hl (by decide) rfl (fun ls hl => ?_)
  have hl : lv_has ls 4 [(3, .int 0), (2, .int (nI n0)), (1, .ref a0), (0, .ref h0)] := hl
  refine r_clear_loop (n0 := n0) (f0 := f0) hx hb hK hn hc (fun H locs ls hP hD hS hl => ?_) n0 0 (by omega) H locs ls (by rw [show (fun j => if j < 0 then none else f0 j) = f0 from funext (fun j => if_neg (Nat.not_lt_zero j))]; exact hP) (by rw [show (fun j => if j < 0 then none else f0 j) = f0 from funext (fun j => if_neg (Nat.not_lt_zero j))]; exact hD) hS hl
  have hP : va_P G.1 zcl [(h0, .inr (12, [.int (m0 + 1), .ref a0, .int 0])), (a0, .inl (G.2.2.1 6, c0, .inr (.inr (.inr (.inr (fun j => if j < n0 then none else f0 j))))))] H := hP
  have hD : va_D A [(h0, .inr (12, [.int (m0 + 1), .ref a0, .int 0])), (a0, .inl (G.2.2.1 6, c0, .inr (.inr (.inr (.inr (fun j => if j < n0 then none else f0 j))))))] := hD
  have hP9 := hP.sub (ws' := [(h0, .inr (12, [.int (m0 + 1), .ref a0, .int 0])), (a0, .inl (G.2.2.1 6, c0, .inr (.inr (.inr (.inr (fun j => if j < n0 then none else f0 j))))))]) [0, 1] rfl
  have hD9 := hD.sub (ws' := [(h0, .inr (12, [.int (m0 + 1), .ref a0, .int 0])), (a0, .inl (G.2.2.1 6, c0, .inr (.inr (.inr (.inr (fun j => if j < n0 then none else f0 j))))))]) [0, 1] (by decide) rfl
  exact W.vret hx hb hr (fun t ht hW => ⟨⟨(), rfl, trivial, by rw [ht]; exact hP9, hD9⟩, hS.F ht⟩) hS.2.2 (show decode cJ2_clear 42 = .ok (.return_, 1) by decide +kernel)

set_option maxHeartbeats 4000000 in
set_option maxRecDepth 100000 in
theorem rJ15_init (l : Launch) (G : zG) (d sz : Nat) (i0 : Nat) (h0 : Nat) (a0 : Nat) (m0 : Int32) (n0 : Int32) : Met l yJ15_init (ws_ yJ15_init cJ15_init 2 none) (eRoom (d + 1) 0 0) (rPc G [.ref i0, .ref h0] [(i0, .inr (13, [.int 0, .int 0, .int 0, .null])), (h0, .inr (12, [.int m0, .ref a0, .int n0]))] sz) (va_Qv (fun _ => True) (rB G (fun _ : Unit => [(i0, .inr (13, [.int 0, .int (-1), .int m0, .ref h0])), (h0, .inr (12, [.int m0, .ref a0, .int n0]))]) (va_A [(i0, .inr (13, [.int 0, .int 0, .int 0, .null])), (h0, .inr (12, [.int m0, .ref a0, .int n0]))] sz)) (va_A [(i0, .inr (13, [.int 0, .int 0, .int 0, .null])), (h0, .inr (12, [.int m0, .ref a0, .int n0]))] sz)) 0 0 (va_A [(i0, .inr (13, [.int 0, .int 0, .int 0, .null])), (h0, .inr (12, [.int m0, .ref a0, .int n0]))] sz) := by
  refine zMetF (cc := cJ15_init) (maxL := 2) (ret := none) (by decide +kernel) rfl ?_
  intro p e s m args below meth c s₁ B hml hv
  obtain ⟨rfl, hsz, hP, hK, hST, hD0⟩ := hv
  have hx := B.exec
  have hb := B.bytes
  have hr := B.returns
  have hts := atoms_spec (ws := ws_ yJ15_init cJ15_init 2 none) B.pre
  have hts : ∀ w ∈ lw_all, w.before _ s = true := fun w h => hts w (List.mem_cons_of_mem _ h)
  have hown : s.vm.findClass RJ15 = some m.cls := findClass_of_methodNamed B.named
  have hlocks := B.notSynchronized
  have hin : meth.name = "<init>" := (name_of_methodNamed B.named B.method).1
  subst hsz
  have hD := hD0.self (sz := s.heap.size)
  generalize hAe : va_A [(i0, .inr (13, [.int 0, .int 0, .int 0, .null])), (h0, .inr (12, [.int m0, .ref a0, .int n0]))] s.heap.size = A at hD hST ⊢
  have hA : ∀ q : Nat, s.heap.size ≤ q → A q := fun q h => by rw [← hAe]; exact Or.inr h
  have hS : va_S A s.heap s.heap [] := va_S.rf
  have hP : va_P G.1 zcl [(i0, .inr (13, [.int 0, .int 0, .int 0, .null])), (h0, .inr (12, [.int m0, .ref a0, .int n0]))] s.heap := hP
  have hl := lv_entry ([.ref i0, .ref h0]) (n := 2) (Nat.le_of_ble_eq_true rfl)
  rw [lg_entry_eq]
  generalize (lg_sl ([.ref i0, .ref h0]) ++ List.replicate (2 - (lg_sl ([.ref i0, .ref h0])).length) Slot.unset).toArray = ls at hl ⊢
  have hl : lv_has ls 2 [(0, .ref i0), (1, .ref h0)] := hl
  refine lv_aload_n hx hb (show decode cJ15_init 0 = .ok (.aload_n 0, 1) by decide +kernel) rfl (lv_at hl 0 rfl) ?_
  refine lv_aload_n hx hb (show decode cJ15_init 1 = .ok (.aload_n 1, 1) by decide +kernel) rfl (lv_at hl 1 rfl) ?_
  refine va_putF (D := G.1) (ci := 13) (v := .ref h0) (ty := .object "java/util/ArrayList") (C := RJ15) (T := TJ15) (N := 4) hx hb hts in_J15 tyJ15 tyJ15_ok nmJ15 hown hK.1 hP hD hS 0 rfl rfl 3 (by decide) (hts _ q1618) (fun _ h9 => h9) rfl hin rfl (by decide +kernel) rfl rfl (Nat.le_of_ble_eq_true rfl) (show decode cJ15_init 2 = .ok (.putfield 1, 3) by decide +kernel) (fun H locs hP hD hS => ?_)
  have hP : va_P G.1 zcl [(i0, .inr (13, [.int 0, .int 0, .int 0, .ref h0])), (h0, .inr (12, [.int m0, .ref a0, .int n0]))] H := hP
  have hD : va_D A [(i0, .inr (13, [.int 0, .int 0, .int 0, .ref h0])), (h0, .inr (12, [.int m0, .ref a0, .int n0]))] := hD
  refine lv_aload_n hx hb (show decode cJ15_init 5 = .ok (.aload_n 0, 1) by decide +kernel) rfl (lv_at hl 0 rfl) ?_
  refine W.objInit hx hb hown (hts _ q1614) (hts _ q204) (hts _ q205) rfl (by rw [hml]; exact hl.1) rfl (show decode cJ15_init 6 = .ok (.invokespecial 7, 3) by decide +kernel) (Nat.succ_le_succ (Nat.zero_le _)) (by show _ ≤ 48 * (_ + 1); exact Nat.le_trans (Nat.le_of_ble_eq_true rfl) (Nat.le_mul_of_pos_right 48 (Nat.succ_pos _))) ?_
  refine W.eq (g2 := F0 m 9 ls []) rfl ?_
  refine lv_aload_n hx hb (show decode cJ15_init 9 = .ok (.aload_n 0, 1) by decide +kernel) rfl (lv_at hl 0 rfl) ?_
  refine lv_iconst (v := -1) hx hb (show decode cJ15_init 10 = .ok (.iconst (-1), 1) by decide +kernel) (by decide) ?_
  refine va_put (D := G.1) (ci := 13) (v := .int (-1)) (ty := .int) (C := RJ15) (T := TJ15) (N := 4) hx hb hts in_J15 tyJ15 tyJ15_ok nmJ15 hown hK.1 hP hD hS 0 rfl rfl 1 (by decide) (hts _ q1616) (fun _ h9 => h9) rfl (by decide +kernel) rfl rfl (Nat.le_of_ble_eq_true rfl) (show decode cJ15_init 11 = .ok (.putfield 13, 3) by decide +kernel) (fun H locs hP hD hS => ?_)
  have hP : va_P G.1 zcl [(i0, .inr (13, [.int 0, .int (-1), .int 0, .ref h0])), (h0, .inr (12, [.int m0, .ref a0, .int n0]))] H := hP
  have hD : va_D A [(i0, .inr (13, [.int 0, .int (-1), .int 0, .ref h0])), (h0, .inr (12, [.int m0, .ref a0, .int n0]))] := hD
  refine lv_aload_n hx hb (show decode cJ15_init 14 = .ok (.aload_n 0, 1) by decide +kernel) rfl (lv_at hl 0 rfl) ?_
  refine lv_aload_n hx hb (show decode cJ15_init 15 = .ok (.aload_n 0, 1) by decide +kernel) rfl (lv_at hl 0 rfl) ?_
  refine va_get (D := G.1) (ci := 13) (v := .ref h0) (C := RJ15) (T := TJ15) (N := 4) hx hb hts in_J15 hown hK.1 hP 0 rfl rfl 3 (by decide) (hts _ q1618) (fun _ h9 => h9) rfl (show decode cJ15_init 16 = .ok (.getfield 1, 3) by decide +kernel) ?_
  refine va_get (D := G.1) (ci := 12) (v := .int m0) (C := RJ2) (T := TJ2) (N := 3) hx hb hts in_J2 hown hK.1 hP 1 rfl rfl 0 (by decide) (hts _ q420) (u_same (hts _ q421)) rfl (show decode cJ15_init 19 = .ok (.getfield 17, 3) by decide +kernel) ?_
  refine va_put (D := G.1) (ci := 13) (v := .int m0) (ty := .int) (C := RJ15) (T := TJ15) (N := 4) hx hb hts in_J15 tyJ15 tyJ15_ok nmJ15 hown hK.1 hP hD hS 0 rfl rfl 2 (by decide) (hts _ q1617) (fun _ h9 => h9) rfl (by decide +kernel) rfl rfl (Nat.le_of_ble_eq_true rfl) (show decode cJ15_init 22 = .ok (.putfield 22, 3) by decide +kernel) (fun H locs hP hD hS => ?_)
  have hP : va_P G.1 zcl [(i0, .inr (13, [.int 0, .int (-1), .int m0, .ref h0])), (h0, .inr (12, [.int m0, .ref a0, .int n0]))] H := hP
  have hD : va_D A [(i0, .inr (13, [.int 0, .int (-1), .int m0, .ref h0])), (h0, .inr (12, [.int m0, .ref a0, .int n0]))] := hD
  have hP9 := hP.sub (ws' := [(i0, .inr (13, [.int 0, .int (-1), .int m0, .ref h0])), (h0, .inr (12, [.int m0, .ref a0, .int n0]))]) [0, 1] rfl
  have hD9 := hD.sub (ws' := [(i0, .inr (13, [.int 0, .int (-1), .int m0, .ref h0])), (h0, .inr (12, [.int m0, .ref a0, .int n0]))]) [0, 1] (by decide) rfl
  exact W.vret hx hb hr (fun t ht hW => ⟨⟨(), rfl, trivial, by rw [ht]; exact hP9, hD9⟩, hS.F ht⟩) hS.2.2 (show decode cJ15_init 25 = .ok (.return_, 1) by decide +kernel)

set_option maxHeartbeats 4000000 in
set_option maxRecDepth 100000 in
theorem rJ2_iterator (l : Launch) (G : zG) (d sz : Nat) (h0 : Nat) (a0 : Nat) (m0 : Int32) (n0 : Int32) : Met l yJ2_iterator (ws_ yJ2_iterator cJ2_iterator 1 (some (.object "java/util/Iterator"))) (eRoom (d + 2) 1 4) (rPc G [.ref h0] [(h0, .inr (12, [.int m0, .ref a0, .int n0]))] sz) (va_Qr (fun _ => True) (fun (q1 : Nat) (ra : Nat) (t : State) => ra = q1 ∧ rB G (fun _ : Unit => [(q1, .inr (13, [.int 0, .int (-1), .int m0, .ref h0])), (h0, .inr (12, [.int m0, .ref a0, .int n0]))]) (va_A [(h0, .inr (12, [.int m0, .ref a0, .int n0]))] sz) () t) (va_A [(h0, .inr (12, [.int m0, .ref a0, .int n0]))] sz)) 1 4 (va_A [(h0, .inr (12, [.int m0, .ref a0, .int n0]))] sz) := by
  refine zMetF (cc := cJ2_iterator) (maxL := 1) (ret := (some (.object "java/util/Iterator"))) (by decide +kernel) rfl ?_
  intro p e s m args below meth c s₁ B hml hv
  obtain ⟨rfl, hsz, hP, hK, hST, hD0⟩ := hv
  have hx := B.exec
  have hb := B.bytes
  have hr := B.returns
  have hts := atoms_spec (ws := ws_ yJ2_iterator cJ2_iterator 1 (some (.object "java/util/Iterator"))) B.pre
  have hts : ∀ w ∈ lw_all, w.before _ s = true := fun w h => hts w (List.mem_cons_of_mem _ h)
  have hown : s.vm.findClass RJ2 = some m.cls := findClass_of_methodNamed B.named
  have hlocks := B.notSynchronized
  subst hsz
  have hD := hD0.self (sz := s.heap.size)
  generalize hAe : va_A [(h0, .inr (12, [.int m0, .ref a0, .int n0]))] s.heap.size = A at hD hST ⊢
  have hA : ∀ q : Nat, s.heap.size ≤ q → A q := fun q h => by rw [← hAe]; exact Or.inr h
  have hS : va_S A s.heap s.heap [] := va_S.rf
  have hP : va_P G.1 zcl [(h0, .inr (12, [.int m0, .ref a0, .int n0]))] s.heap := hP
  have hl := lv_entry ([.ref h0]) (n := 1) (Nat.le_of_ble_eq_true rfl)
  rw [lg_entry_eq]
  generalize (lg_sl ([.ref h0]) ++ List.replicate (1 - (lg_sl ([.ref h0])).length) Slot.unset).toArray = ls at hl ⊢
  have hl : lv_has ls 1 [(0, .ref h0)] := hl
  refine va_new (ci := 13) (fs := [.int 0, .int 0, .int 0, .null]) (C := RJ15) (T := TJ15) (N := 4) hx hb hts in_J15 tyJ15 tyJ15_ok hown (hts _ q1609) (hts _ q1610) (hts _ q169) hK.1 hP hD hS hA rfl (fun j hj => by rcases (show j = 0 ∨ j = 1 ∨ j = 2 ∨ j = 3 by omega) with rfl | rfl | rfl | rfl <;> rfl) (by show _ ≤ 1; first | decide | omega) (by show _ ≤ 4; first | decide | omega) (show decode cJ2_iterator 0 = .ok (.new 267, 3) by decide +kernel) (fun q1 H hP hD hS => ?_)
  have hP : va_P G.1 zcl [(h0, .inr (12, [.int m0, .ref a0, .int n0])), (q1, .inr (13, [.int 0, .int 0, .int 0, .null]))] H := hP
  have hD : va_D A [(h0, .inr (12, [.int m0, .ref a0, .int n0])), (q1, .inr (13, [.int 0, .int 0, .int 0, .null]))] := hD
  refine lv_dup hx hb (show decode cJ2_iterator 3 = .ok (.dup, 1) by decide +kernel) rfl ?_
  refine lv_aload_n hx hb (show decode cJ2_iterator 4 = .ok (.aload_n 0, 1) by decide +kernel) rfl (lv_at hl 0 rfl) ?_
  have hPc := hP.sub (ws' := [(q1, .inr (13, [.int 0, .int 0, .int 0, .null])), (h0, .inr (12, [.int m0, .ref a0, .int n0]))]) [1, 0] rfl
  have hDc := hD.sub (ws' := [(q1, .inr (13, [.int 0, .int 0, .int 0, .null])), (h0, .inr (12, [.int m0, .ref a0, .int n0]))]) [1, 0] (by decide) rfl
  have hFc := va_free (wc := [(q1, .inr (13, [.int 0, .int 0, .int 0, .null])), (h0, .inr (12, [.int m0, .ref a0, .int n0]))]) hD hS hA [1, 0] rfl
  refine va_callv (va_runI (As := [.ref h0]) (rest := [.ref q1]) ⟨hx, hb, hml, hown, hts⟩ (rJ15_init l G (d + 0) H.size (q1) (h0) (a0) (m0) (n0) ) (cwI 1 hts (lw_meth q1613) rfl rfl rfl (hts _ q169) (hts _ q1611) (hts _ q1612) rfl (by decide +kernel) ⟨(rroom (d := d + 1) (mc := 1) (ms := 4) (mc' := 0) (ms' := 0) (mL := 2) (by decide)).1, by first | exact (rroom (d := d + 1) (mc := 1) (ms := 4) (mc' := 0) (ms' := 0) (mL := 2) (by decide)).2⟩) ⟨rblind, rpc hK hST hS hPc hDc hFc [.ref q1, .ref h0]⟩ rfl rfl hl.1 rfl (lv_room (Nat.le_of_ble_eq_true rfl)) (show decode cJ2_iterator 5 = .ok (.invokespecial 269, 3) by decide +kernel) ⟨by show _ ≤ 1; first | decide | omega, by show _ ≤ 4; first | decide | omega⟩) hS (fun q _ h => hFc q h) hFc (fun u t H1 locs ht hvm hw hB hz1 hk1 hS => ?_)
  obtain ⟨hP1, hD1⟩ := hB
  rw [ht] at hP1
  obtain ⟨hP, hD⟩ := va_join (wr := []) (w1 := [(q1, .inr (13, [.int 0, .int (-1), .int m0, .ref h0])), (h0, .inr (12, [.int m0, .ref a0, .int n0]))]) hP hD [1, 0] [] rfl rfl (by decide) (by decide) hk1 hFc hP1 hD1
  generalize H1 = H at hP hS ⊢
  have hP : va_P G.1 zcl [(q1, .inr (13, [.int 0, .int (-1), .int m0, .ref h0])), (h0, .inr (12, [.int m0, .ref a0, .int n0]))] H := hP
  have hD : va_D A [(q1, .inr (13, [.int 0, .int (-1), .int m0, .ref h0])), (h0, .inr (12, [.int m0, .ref a0, .int n0]))] := hD
  have hP9 := hP.sub (ws' := [(q1, .inr (13, [.int 0, .int (-1), .int m0, .ref h0])), (h0, .inr (12, [.int m0, .ref a0, .int n0]))]) [0, 1] rfl
  have hD9 := hD.sub (ws' := [(q1, .inr (13, [.int 0, .int (-1), .int m0, .ref h0])), (h0, .inr (12, [.int m0, .ref a0, .int n0]))]) [0, 1] (by decide) rfl
  refine W.widen (k := 1) (n := 4) (by first | decide | omega) (by first | decide | omega) ?_
  exact W.aret (v := .ref q1) hx hb hr (Or.inl ⟨_, rfl⟩) (Or.inr ⟨_, rfl⟩) (fun t ht hW => ⟨⟨q1, q1, rfl, trivial, rfl, by rw [ht]; exact hP9, hD9⟩, hS.F ht⟩) hS.2.2 (show decode cJ2_iterator 8 = .ok (.areturn, 1) by decide +kernel)

set_option maxHeartbeats 4000000 in
set_option maxRecDepth 100000 in
theorem rJ15_hasNext_y (l : Launch) (G : zG) (d sz : Nat) (i0 : Nat) (h0 : Nat) (a0 : Nat) (m0 : Int32) (n0 : Nat) (k0 : Nat) (r0 : Int32) (hk : k0 < n0) (hn : n0 < 2 ^ 31) : Met l yJ15_hasNext (ws_ yJ15_hasNext cJ15_hasNext 1 (some .boolean)) (eRoom d 0 0) (rPc G [.ref i0] [(i0, .inr (13, [.int (nI k0), .int r0, .int m0, .ref h0])), (h0, .inr (12, [.int m0, .ref a0, .int (nI n0)]))] sz) (va_Qi (fun (r : Int32) _ => r = 1) (rB G (fun _ : Unit => [(i0, .inr (13, [.int (nI k0), .int r0, .int m0, .ref h0])), (h0, .inr (12, [.int m0, .ref a0, .int (nI n0)]))]) (va_A [(i0, .inr (13, [.int (nI k0), .int r0, .int m0, .ref h0])), (h0, .inr (12, [.int m0, .ref a0, .int (nI n0)]))] sz)) (va_A [(i0, .inr (13, [.int (nI k0), .int r0, .int m0, .ref h0])), (h0, .inr (12, [.int m0, .ref a0, .int (nI n0)]))] sz)) 0 0 (va_A [(i0, .inr (13, [.int (nI k0), .int r0, .int m0, .ref h0])), (h0, .inr (12, [.int m0, .ref a0, .int (nI n0)]))] sz) := by
  refine zMetF (cc := cJ15_hasNext) (maxL := 1) (ret := (some .boolean)) (by decide +kernel) rfl ?_
  intro p e s m args below meth c s₁ B hml hv
  obtain ⟨rfl, hsz, hP, hK, hST, hD0⟩ := hv
  have hx := B.exec
  have hb := B.bytes
  have hr := B.returns
  have hts := atoms_spec (ws := ws_ yJ15_hasNext cJ15_hasNext 1 (some .boolean)) B.pre
  have hts : ∀ w ∈ lw_all, w.before _ s = true := fun w h => hts w (List.mem_cons_of_mem _ h)
  have hown : s.vm.findClass RJ15 = some m.cls := findClass_of_methodNamed B.named
  have hlocks := B.notSynchronized
  subst hsz
  have hD := hD0.self (sz := s.heap.size)
  generalize hAe : va_A [(i0, .inr (13, [.int (nI k0), .int r0, .int m0, .ref h0])), (h0, .inr (12, [.int m0, .ref a0, .int (nI n0)]))] s.heap.size = A at hD hST ⊢
  have hA : ∀ q : Nat, s.heap.size ≤ q → A q := fun q h => by rw [← hAe]; exact Or.inr h
  have hS : va_S A s.heap s.heap [] := va_S.rf
  have hP : va_P G.1 zcl [(i0, .inr (13, [.int (nI k0), .int r0, .int m0, .ref h0])), (h0, .inr (12, [.int m0, .ref a0, .int (nI n0)]))] s.heap := hP
  have hl := lv_entry ([.ref i0]) (n := 1) (Nat.le_of_ble_eq_true rfl)
  rw [lg_entry_eq]
  generalize (lg_sl ([.ref i0]) ++ List.replicate (1 - (lg_sl ([.ref i0])).length) Slot.unset).toArray = ls at hl ⊢
  have hl : lv_has ls 1 [(0, .ref i0)] := hl
  refine lv_aload_n hx hb (show decode cJ15_hasNext 0 = .ok (.aload_n 0, 1) by decide +kernel) rfl (lv_at hl 0 rfl) ?_
  refine va_get (D := G.1) (ci := 13) (v := .int (nI k0)) (C := RJ15) (T := TJ15) (N := 4) hx hb hts in_J15 hown hK.1 hP 0 rfl rfl 0 (by decide) (hts _ q1615) (fun _ h9 => h9) rfl (show decode cJ15_hasNext 1 = .ok (.getfield 25, 3) by decide +kernel) ?_
  refine lv_aload_n hx hb (show decode cJ15_hasNext 4 = .ok (.aload_n 0, 1) by decide +kernel) rfl (lv_at hl 0 rfl) ?_
  refine va_get (D := G.1) (ci := 13) (v := .ref h0) (C := RJ15) (T := TJ15) (N := 4) hx hb hts in_J15 hown hK.1 hP 0 rfl rfl 3 (by decide) (hts _ q1618) (fun _ h9 => h9) rfl (show decode cJ15_hasNext 5 = .ok (.getfield 1, 3) by decide +kernel) ?_
  refine va_getN (D := G.1) (ci := 12) (v := .int (nI n0)) (C := RJ2) (T := TJ2) (N := 3) hx hb hts in_J2 hown hK.1 hP 1 rfl rfl 2 (by decide) (hK.2.1 _ q417 rfl) (fun _ h9 => h9) rfl (show decode cJ15_hasNext 8 = .ok (.getfield 28, 3) by decide +kernel) ?_
  refine lv_icmp_eq (tgt := 18) hx hb (show decode cJ15_hasNext 11 = .ok (.if_icmp .eq 7, 3) by decide +kernel) (by decide) (fun cnd_ => absurd ((nI_eq (by omega) (by omega)).mp cnd_) (by omega)) (fun cnd_ => ?_)
  refine lv_iconst (v := 1) hx hb (show decode cJ15_hasNext 14 = .ok (.iconst 1, 1) by decide +kernel) (by decide) ?_
  refine lv_goto (tgt := 19) hx hb (show decode cJ15_hasNext 15 = .ok (.goto 4, 3) by decide +kernel) (by decide) ?_
  have hP9 := hP.sub (ws' := [(i0, .inr (13, [.int (nI k0), .int r0, .int m0, .ref h0])), (h0, .inr (12, [.int m0, .ref a0, .int (nI n0)]))]) [0, 1] rfl
  have hD9 := hD.sub (ws' := [(i0, .inr (13, [.int (nI k0), .int r0, .int m0, .ref h0])), (h0, .inr (12, [.int m0, .ref a0, .int (nI n0)]))]) [0, 1] (by decide) rfl
  exact W.zret (v := 1) hx hb hr rfl (fun t ht hW => ⟨⟨1, (), rfl, rfl, by rw [ht]; exact hP9, hD9⟩, hS.F ht⟩) hS.2.2 (show decode cJ15_hasNext 19 = .ok (.ireturn, 1) by decide +kernel)

set_option maxHeartbeats 4000000 in
set_option maxRecDepth 100000 in
theorem rJ15_hasNext_n (l : Launch) (G : zG) (d sz : Nat) (i0 : Nat) (h0 : Nat) (a0 : Nat) (m0 : Int32) (n0 : Nat) (k0 : Nat) (r0 : Int32) : Met l yJ15_hasNext (ws_ yJ15_hasNext cJ15_hasNext 1 (some .boolean)) (eRoom d 0 0) (rPc G [.ref i0] [(i0, .inr (13, [.int (nI n0), .int r0, .int m0, .ref h0])), (h0, .inr (12, [.int m0, .ref a0, .int (nI n0)]))] sz) (va_Qi (fun (r : Int32) _ => r = 0) (rB G (fun _ : Unit => [(i0, .inr (13, [.int (nI n0), .int r0, .int m0, .ref h0])), (h0, .inr (12, [.int m0, .ref a0, .int (nI n0)]))]) (va_A [(i0, .inr (13, [.int (nI n0), .int r0, .int m0, .ref h0])), (h0, .inr (12, [.int m0, .ref a0, .int (nI n0)]))] sz)) (va_A [(i0, .inr (13, [.int (nI n0), .int r0, .int m0, .ref h0])), (h0, .inr (12, [.int m0, .ref a0, .int (nI n0)]))] sz)) 0 0 (va_A [(i0, .inr (13, [.int (nI n0), .int r0, .int m0, .ref h0])), (h0, .inr (12, [.int m0, .ref a0, .int (nI n0)]))] sz) := by
  refine zMetF (cc := cJ15_hasNext) (maxL := 1) (ret := (some .boolean)) (by decide +kernel) rfl ?_
  intro p e s m args below meth c s₁ B hml hv
  obtain ⟨rfl, hsz, hP, hK, hST, hD0⟩ := hv
  have hx := B.exec
  have hb := B.bytes
  have hr := B.returns
  have hts := atoms_spec (ws := ws_ yJ15_hasNext cJ15_hasNext 1 (some .boolean)) B.pre
  have hts : ∀ w ∈ lw_all, w.before _ s = true := fun w h => hts w (List.mem_cons_of_mem _ h)
  have hown : s.vm.findClass RJ15 = some m.cls := findClass_of_methodNamed B.named
  have hlocks := B.notSynchronized
  subst hsz
  have hD := hD0.self (sz := s.heap.size)
  generalize hAe : va_A [(i0, .inr (13, [.int (nI n0), .int r0, .int m0, .ref h0])), (h0, .inr (12, [.int m0, .ref a0, .int (nI n0)]))] s.heap.size = A at hD hST ⊢
  have hA : ∀ q : Nat, s.heap.size ≤ q → A q := fun q h => by rw [← hAe]; exact Or.inr h
  have hS : va_S A s.heap s.heap [] := va_S.rf
  have hP : va_P G.1 zcl [(i0, .inr (13, [.int (nI n0), .int r0, .int m0, .ref h0])), (h0, .inr (12, [.int m0, .ref a0, .int (nI n0)]))] s.heap := hP
  have hl := lv_entry ([.ref i0]) (n := 1) (Nat.le_of_ble_eq_true rfl)
  rw [lg_entry_eq]
  generalize (lg_sl ([.ref i0]) ++ List.replicate (1 - (lg_sl ([.ref i0])).length) Slot.unset).toArray = ls at hl ⊢
  have hl : lv_has ls 1 [(0, .ref i0)] := hl
  refine lv_aload_n hx hb (show decode cJ15_hasNext 0 = .ok (.aload_n 0, 1) by decide +kernel) rfl (lv_at hl 0 rfl) ?_
  refine va_get (D := G.1) (ci := 13) (v := .int (nI n0)) (C := RJ15) (T := TJ15) (N := 4) hx hb hts in_J15 hown hK.1 hP 0 rfl rfl 0 (by decide) (hts _ q1615) (fun _ h9 => h9) rfl (show decode cJ15_hasNext 1 = .ok (.getfield 25, 3) by decide +kernel) ?_
  refine lv_aload_n hx hb (show decode cJ15_hasNext 4 = .ok (.aload_n 0, 1) by decide +kernel) rfl (lv_at hl 0 rfl) ?_
  refine va_get (D := G.1) (ci := 13) (v := .ref h0) (C := RJ15) (T := TJ15) (N := 4) hx hb hts in_J15 hown hK.1 hP 0 rfl rfl 3 (by decide) (hts _ q1618) (fun _ h9 => h9) rfl (show decode cJ15_hasNext 5 = .ok (.getfield 1, 3) by decide +kernel) ?_
  refine va_getN (D := G.1) (ci := 12) (v := .int (nI n0)) (C := RJ2) (T := TJ2) (N := 3) hx hb hts in_J2 hown hK.1 hP 1 rfl rfl 2 (by decide) (hK.2.1 _ q417 rfl) (fun _ h9 => h9) rfl (show decode cJ15_hasNext 8 = .ok (.getfield 28, 3) by decide +kernel) ?_
  refine lv_icmp_eq (tgt := 18) hx hb (show decode cJ15_hasNext 11 = .ok (.if_icmp .eq 7, 3) by decide +kernel) (by decide) (fun cnd_ => ?_) (fun cnd_ => absurd (rfl) cnd_)
  refine lv_iconst (v := 0) hx hb (show decode cJ15_hasNext 18 = .ok (.iconst 0, 1) by decide +kernel) (by decide) ?_
  have hP9 := hP.sub (ws' := [(i0, .inr (13, [.int (nI n0), .int r0, .int m0, .ref h0])), (h0, .inr (12, [.int m0, .ref a0, .int (nI n0)]))]) [0, 1] rfl
  have hD9 := hD.sub (ws' := [(i0, .inr (13, [.int (nI n0), .int r0, .int m0, .ref h0])), (h0, .inr (12, [.int m0, .ref a0, .int (nI n0)]))]) [0, 1] (by decide) rfl
  exact W.zret (v := 0) hx hb hr rfl (fun t ht hW => ⟨⟨0, (), rfl, rfl, by rw [ht]; exact hP9, hD9⟩, hS.F ht⟩) hS.2.2 (show decode cJ15_hasNext 19 = .ok (.ireturn, 1) by decide +kernel)

set_option maxHeartbeats 4000000 in
set_option maxRecDepth 100000 in
theorem rJ15_checkForComodification (l : Launch) (G : zG) (d sz : Nat) (i0 : Nat) (h0 : Nat) (a0 : Nat) (m0 : Int32) (n0 : Nat) (k0 : Nat) (r0 : Int32) : Met l yJ15_checkForComodification (ws_ yJ15_checkForComodification cJ15_checkForComodification 1 none) (eRoom d 0 0) (rPc G [.ref i0] [(i0, .inr (13, [.int (nI k0), .int r0, .int m0, .ref h0])), (h0, .inr (12, [.int m0, .ref a0, .int (nI n0)]))] sz) (va_Qv (fun _ => True) (rB G (fun _ : Unit => [(i0, .inr (13, [.int (nI k0), .int r0, .int m0, .ref h0])), (h0, .inr (12, [.int m0, .ref a0, .int (nI n0)]))]) (va_A [(i0, .inr (13, [.int (nI k0), .int r0, .int m0, .ref h0])), (h0, .inr (12, [.int m0, .ref a0, .int (nI n0)]))] sz)) (va_A [(i0, .inr (13, [.int (nI k0), .int r0, .int m0, .ref h0])), (h0, .inr (12, [.int m0, .ref a0, .int (nI n0)]))] sz)) 0 0 (va_A [(i0, .inr (13, [.int (nI k0), .int r0, .int m0, .ref h0])), (h0, .inr (12, [.int m0, .ref a0, .int (nI n0)]))] sz) := by
  refine zMetF (cc := cJ15_checkForComodification) (maxL := 1) (ret := none) (by decide +kernel) rfl ?_
  intro p e s m args below meth c s₁ B hml hv
  obtain ⟨rfl, hsz, hP, hK, hST, hD0⟩ := hv
  have hx := B.exec
  have hb := B.bytes
  have hr := B.returns
  have hts := atoms_spec (ws := ws_ yJ15_checkForComodification cJ15_checkForComodification 1 none) B.pre
  have hts : ∀ w ∈ lw_all, w.before _ s = true := fun w h => hts w (List.mem_cons_of_mem _ h)
  have hown : s.vm.findClass RJ15 = some m.cls := findClass_of_methodNamed B.named
  have hlocks := B.notSynchronized
  subst hsz
  have hD := hD0.self (sz := s.heap.size)
  generalize hAe : va_A [(i0, .inr (13, [.int (nI k0), .int r0, .int m0, .ref h0])), (h0, .inr (12, [.int m0, .ref a0, .int (nI n0)]))] s.heap.size = A at hD hST ⊢
  have hA : ∀ q : Nat, s.heap.size ≤ q → A q := fun q h => by rw [← hAe]; exact Or.inr h
  have hS : va_S A s.heap s.heap [] := va_S.rf
  have hP : va_P G.1 zcl [(i0, .inr (13, [.int (nI k0), .int r0, .int m0, .ref h0])), (h0, .inr (12, [.int m0, .ref a0, .int (nI n0)]))] s.heap := hP
  have hl := lv_entry ([.ref i0]) (n := 1) (Nat.le_of_ble_eq_true rfl)
  rw [lg_entry_eq]
  generalize (lg_sl ([.ref i0]) ++ List.replicate (1 - (lg_sl ([.ref i0])).length) Slot.unset).toArray = ls at hl ⊢
  have hl : lv_has ls 1 [(0, .ref i0)] := hl
  refine lv_aload_n hx hb (show decode cJ15_checkForComodification 0 = .ok (.aload_n 0, 1) by decide +kernel) rfl (lv_at hl 0 rfl) ?_
  refine va_get (D := G.1) (ci := 13) (v := .ref h0) (C := RJ15) (T := TJ15) (N := 4) hx hb hts in_J15 hown hK.1 hP 0 rfl rfl 3 (by decide) (hts _ q1618) (fun _ h9 => h9) rfl (show decode cJ15_checkForComodification 1 = .ok (.getfield 1, 3) by decide +kernel) ?_
  refine va_get (D := G.1) (ci := 12) (v := .int m0) (C := RJ2) (T := TJ2) (N := 3) hx hb hts in_J2 hown hK.1 hP 1 rfl rfl 0 (by decide) (hts _ q420) (u_same (hts _ q421)) rfl (show decode cJ15_checkForComodification 4 = .ok (.getfield 17, 3) by decide +kernel) ?_
  refine lv_aload_n hx hb (show decode cJ15_checkForComodification 7 = .ok (.aload_n 0, 1) by decide +kernel) rfl (lv_at hl 0 rfl) ?_
  refine va_get (D := G.1) (ci := 13) (v := .int m0) (C := RJ15) (T := TJ15) (N := 4) hx hb hts in_J15 hown hK.1 hP 0 rfl rfl 2 (by decide) (hts _ q1617) (fun _ h9 => h9) rfl (show decode cJ15_checkForComodification 8 = .ok (.getfield 22, 3) by decide +kernel) ?_
  refine lv_icmp_eq (tgt := 22) hx hb (show decode cJ15_checkForComodification 11 = .ok (.if_icmp .eq 11, 3) by decide +kernel) (by decide) (fun cnd_ => ?_) (fun cnd_ => absurd (rfl) cnd_)
  have hP9 := hP.sub (ws' := [(i0, .inr (13, [.int (nI k0), .int r0, .int m0, .ref h0])), (h0, .inr (12, [.int m0, .ref a0, .int (nI n0)]))]) [0, 1] rfl
  have hD9 := hD.sub (ws' := [(i0, .inr (13, [.int (nI k0), .int r0, .int m0, .ref h0])), (h0, .inr (12, [.int m0, .ref a0, .int (nI n0)]))]) [0, 1] (by decide) rfl
  exact W.vret hx hb hr (fun t ht hW => ⟨⟨(), rfl, trivial, by rw [ht]; exact hP9, hD9⟩, hS.F ht⟩) hS.2.2 (show decode cJ15_checkForComodification 22 = .ok (.return_, 1) by decide +kernel)

set_option maxHeartbeats 4000000 in
set_option maxRecDepth 100000 in
theorem rJ15_next (l : Launch) (G : zG) (d sz : Nat) (i0 : Nat) (h0 : Nat) (a0 : Nat) (m0 : Int32) (n0 : Nat) (k0 : Nat) (r0 : Int32) (c0 : Nat) (f0 : Nat → Option Nat) (e0 : Nat) (hk : k0 < n0) (hn : n0 ≤ c0) (hc : c0 < 2 ^ 31) (hf : f0 k0 = some e0) : Met l yJ15_next (ws_ yJ15_next cJ15_next 3 (some (.object "java/lang/Object"))) (eRoom (d + 1) 0 0) (rPc G [.ref i0] [(i0, .inr (13, [.int (nI k0), .int r0, .int m0, .ref h0])), (h0, .inr (12, [.int m0, .ref a0, .int (nI n0)])), (a0, .inl (G.2.2.1 6, c0, .inr (.inr (.inr (.inr (f0))))))] sz) (va_Qr (fun _ => True) (fun (_ : Unit) (ra : Nat) (t : State) => ra = e0 ∧ rB G (fun _ : Unit => [(a0, .inl (G.2.2.1 6, c0, .inr (.inr (.inr (.inr (f0)))))), (i0, .inr (13, [.int (nI (k0 + 1)), .int (nI k0), .int m0, .ref h0])), (h0, .inr (12, [.int m0, .ref a0, .int (nI n0)]))]) (va_A [(i0, .inr (13, [.int (nI k0), .int r0, .int m0, .ref h0])), (h0, .inr (12, [.int m0, .ref a0, .int (nI n0)])), (a0, .inl (G.2.2.1 6, c0, .inr (.inr (.inr (.inr (f0))))))] sz) () t) (va_A [(i0, .inr (13, [.int (nI k0), .int r0, .int m0, .ref h0])), (h0, .inr (12, [.int m0, .ref a0, .int (nI n0)])), (a0, .inl (G.2.2.1 6, c0, .inr (.inr (.inr (.inr (f0))))))] sz)) 0 0 (va_A [(i0, .inr (13, [.int (nI k0), .int r0, .int m0, .ref h0])), (h0, .inr (12, [.int m0, .ref a0, .int (nI n0)])), (a0, .inl (G.2.2.1 6, c0, .inr (.inr (.inr (.inr (f0))))))] sz) := by
  refine zMetF (cc := cJ15_next) (maxL := 3) (ret := (some (.object "java/lang/Object"))) (by decide +kernel) rfl ?_
  intro p e s m args below meth c s₁ B hml hv
  obtain ⟨rfl, hsz, hP, hK, hST, hD0⟩ := hv
  have hx := B.exec
  have hb := B.bytes
  have hr := B.returns
  have hts := atoms_spec (ws := ws_ yJ15_next cJ15_next 3 (some (.object "java/lang/Object"))) B.pre
  have hts : ∀ w ∈ lw_all, w.before _ s = true := fun w h => hts w (List.mem_cons_of_mem _ h)
  have hown : s.vm.findClass RJ15 = some m.cls := findClass_of_methodNamed B.named
  have hlocks := B.notSynchronized
  subst hsz
  have hD := hD0.self (sz := s.heap.size)
  generalize hAe : va_A [(i0, .inr (13, [.int (nI k0), .int r0, .int m0, .ref h0])), (h0, .inr (12, [.int m0, .ref a0, .int (nI n0)])), (a0, .inl (G.2.2.1 6, c0, .inr (.inr (.inr (.inr (f0))))))] s.heap.size = A at hD hST ⊢
  have hA : ∀ q : Nat, s.heap.size ≤ q → A q := fun q h => by rw [← hAe]; exact Or.inr h
  have hS : va_S A s.heap s.heap [] := va_S.rf
  have hP : va_P G.1 zcl [(i0, .inr (13, [.int (nI k0), .int r0, .int m0, .ref h0])), (h0, .inr (12, [.int m0, .ref a0, .int (nI n0)])), (a0, .inl (G.2.2.1 6, c0, .inr (.inr (.inr (.inr (f0))))))] s.heap := hP
  have hl := lv_entry ([.ref i0]) (n := 3) (Nat.le_of_ble_eq_true rfl)
  rw [lg_entry_eq]
  generalize (lg_sl ([.ref i0]) ++ List.replicate (3 - (lg_sl ([.ref i0])).length) Slot.unset).toArray = ls at hl ⊢
  have hl : lv_has ls 3 [(0, .ref i0)] := hl
  refine lv_aload_n hx hb (show decode cJ15_next 0 = .ok (.aload_n 0, 1) by decide +kernel) rfl (lv_at hl 0 rfl) ?_
  have hPc := hP.sub (ws' := [(i0, .inr (13, [.int (nI k0), .int r0, .int m0, .ref h0])), (h0, .inr (12, [.int m0, .ref a0, .int (nI n0)]))]) [0, 1] rfl
  have hDc := hD.sub (ws' := [(i0, .inr (13, [.int (nI k0), .int r0, .int m0, .ref h0])), (h0, .inr (12, [.int m0, .ref a0, .int (nI n0)]))]) [0, 1] (by decide) rfl
  have hFc := va_free (wc := [(i0, .inr (13, [.int (nI k0), .int r0, .int m0, .ref h0])), (h0, .inr (12, [.int m0, .ref a0, .int (nI n0)]))]) hD hS hA [0, 1] rfl
  refine va_callv (va_runV (As := []) (rest := []) ⟨hx, hb, hml, hown, hts⟩ (rJ15_checkForComodification l G (d + 0) s.heap.size (i0) (h0) (a0) (m0) (n0) (k0) (r0) ) (cwV 0 hts (lw_V q1647 q1648 q1649 q169 q1650) rfl rfl rfl (by decide +kernel) ⟨(rroom (d := d + 0) (mc := 0) (ms := 0) (mc' := 0) (ms' := 0) (mL := 1) (by decide)).1, by first | exact (rroom (d := d + 0) (mc := 0) (ms := 0) (mc' := 0) (ms' := 0) (mL := 1) (by decide)).2⟩) ⟨rblind, va_recv hK.1 hPc (ci := 13) (q0 := 0) rfl rfl, rpc hK hST hS hPc hDc hFc [.ref i0]⟩ rfl rfl hl.1 rfl (lv_room (Nat.le_of_ble_eq_true rfl)) (show decode cJ15_next 1 = .ok (.invokevirtual 31, 3) by decide +kernel) ⟨by show _ ≤ 0; first | decide | omega, by show _ ≤ 0; first | decide | omega⟩) hS (fun q _ h => hFc q h) hFc (fun u t H1 locs ht hvm hw hB hz1 hk1 hS => ?_)
  obtain ⟨hP1, hD1⟩ := hB
  rw [ht] at hP1
  obtain ⟨hP, hD⟩ := va_join (wr := [(a0, .inl (G.2.2.1 6, c0, .inr (.inr (.inr (.inr (f0))))))]) (w1 := [(i0, .inr (13, [.int (nI k0), .int r0, .int m0, .ref h0])), (h0, .inr (12, [.int m0, .ref a0, .int (nI n0)]))]) hP hD [0, 1] [2] rfl rfl (by decide) (by decide) hk1 hFc hP1 hD1
  generalize H1 = H at hP hS ⊢
  have hP : va_P G.1 zcl [(a0, .inl (G.2.2.1 6, c0, .inr (.inr (.inr (.inr (f0)))))), (i0, .inr (13, [.int (nI k0), .int r0, .int m0, .ref h0])), (h0, .inr (12, [.int m0, .ref a0, .int (nI n0)]))] H := hP
  have hD : va_D A [(a0, .inl (G.2.2.1 6, c0, .inr (.inr (.inr (.inr (f0)))))), (i0, .inr (13, [.int (nI k0), .int r0, .int m0, .ref h0])), (h0, .inr (12, [.int m0, .ref a0, .int (nI n0)]))] := hD
  refine lv_aload_n hx hb (show decode cJ15_next 4 = .ok (.aload_n 0, 1) by decide +kernel) rfl (lv_at hl 0 rfl) ?_
  refine va_get (D := G.1) (ci := 13) (v := .int (nI k0)) (C := RJ15) (T := TJ15) (N := 4) hx hb hts in_J15 hown hK.1 hP 1 rfl rfl 0 (by decide) (hts _ q1615) (fun _ h9 => h9) rfl (show decode cJ15_next 5 = .ok (.getfield 25, 3) by decide +kernel) ?_
  refine lv_istore_n hx hb (show decode cJ15_next 8 = .ok (.istore_n 1, 1) by decide +kernel) rfl hl (by decide) rfl (fun ls hl => ?_)
  have hl : lv_has ls 3 [(1, .int (nI k0)), (0, .ref i0)] := hl
  refine lv_iload_n hx hb (show decode cJ15_next 9 = .ok (.iload_n 1, 1) by decide +kernel) rfl (lv_at hl 0 rfl) ?_
  refine lv_aload_n hx hb (show decode cJ15_next 10 = .ok (.aload_n 0, 1) by decide +kernel) rfl (lv_at hl 1 rfl) ?_
  refine va_get (D := G.1) (ci := 13) (v := .ref h0) (C := RJ15) (T := TJ15) (N := 4) hx hb hts in_J15 hown hK.1 hP 1 rfl rfl 3 (by decide) (hts _ q1618) (fun _ h9 => h9) rfl (show decode cJ15_next 11 = .ok (.getfield 1, 3) by decide +kernel) ?_
  refine va_getN (D := G.1) (ci := 12) (v := .int (nI n0)) (C := RJ2) (T := TJ2) (N := 3) hx hb hts in_J2 hown hK.1 hP 2 rfl rfl 2 (by decide) (hK.2.1 _ q417 rfl) (fun _ h9 => h9) rfl (show decode cJ15_next 14 = .ok (.getfield 28, 3) by decide +kernel) ?_
  refine lv_icmp_lt (tgt := 28) hx hb (show decode cJ15_next 17 = .ok (.if_icmp .lt 11, 3) by decide +kernel) (by decide) (fun cnd_ => ?_) (fun cnd_ => absurd (nI_lt hk (by omega)) cnd_)
  refine lv_aload_n hx hb (show decode cJ15_next 28 = .ok (.aload_n 0, 1) by decide +kernel) rfl (lv_at hl 1 rfl) ?_
  refine va_get (D := G.1) (ci := 13) (v := .ref h0) (C := RJ15) (T := TJ15) (N := 4) hx hb hts in_J15 hown hK.1 hP 1 rfl rfl 3 (by decide) (hts _ q1618) (fun _ h9 => h9) rfl (show decode cJ15_next 29 = .ok (.getfield 1, 3) by decide +kernel) ?_
  refine va_get (D := G.1) (ci := 12) (v := .ref a0) (C := RJ2) (T := TJ2) (N := 3) hx hb hts in_J2 hown hK.1 hP 2 rfl rfl 1 (by decide) (hts _ q416) (fun _ h9 => h9) rfl (show decode cJ15_next 32 = .ok (.getfield 37, 3) by decide +kernel) ?_
  refine lv_astore_n hx hb (show decode cJ15_next 35 = .ok (.astore_n 2, 1) by decide +kernel) rfl hl (by decide) rfl (fun ls hl => ?_)
  have hl : lv_has ls 3 [(2, .ref a0), (1, .int (nI k0)), (0, .ref i0)] := hl
  refine lv_iload_n hx hb (show decode cJ15_next 36 = .ok (.iload_n 1, 1) by decide +kernel) rfl (lv_at hl 1 rfl) ?_
  refine lv_aload_n hx hb (show decode cJ15_next 37 = .ok (.aload_n 2, 1) by decide +kernel) rfl (lv_at hl 0 rfl) ?_
  refine va_alen (v := nI c0) hx hb hK.1 hP 0 6 rfl rfl rfl (show decode cJ15_next 38 = .ok (.arraylength, 1) by decide +kernel) ?_
  refine lv_icmp_lt (tgt := 50) hx hb (show decode cJ15_next 39 = .ok (.if_icmp .lt 11, 3) by decide +kernel) (by decide) (fun cnd_ => ?_) (fun cnd_ => absurd (nI_lt (a := k0) (b := c0) (by omega) (by omega)) cnd_)
  refine lv_aload_n hx hb (show decode cJ15_next 50 = .ok (.aload_n 0, 1) by decide +kernel) rfl (lv_at hl 2 rfl) ?_
  refine lv_iload_n hx hb (show decode cJ15_next 51 = .ok (.iload_n 1, 1) by decide +kernel) rfl (lv_at hl 1 rfl) ?_
  refine lv_iconst (v := 1) hx hb (show decode cJ15_next 52 = .ok (.iconst 1, 1) by decide +kernel) (by decide) ?_
  refine lv_iadd hx hb (show decode cJ15_next 53 = .ok (.iadd, 1) by decide +kernel) ?_
  refine lv_topi (fun yy_ ey_ => ?_)
  obtain rfl : yy_ = nI (k0 + 1) := ey_.trans (nI_add k0 1)
  refine va_put (D := G.1) (ci := 13) (v := .int (nI (k0 + 1))) (ty := .int) (C := RJ15) (T := TJ15) (N := 4) hx hb hts in_J15 tyJ15 tyJ15_ok nmJ15 hown hK.1 hP hD hS 1 rfl rfl 0 (by decide) (hts _ q1615) (fun _ h9 => h9) rfl (by decide +kernel) rfl rfl (Nat.le_of_ble_eq_true rfl) (show decode cJ15_next 54 = .ok (.putfield 25, 3) by decide +kernel) (fun H locs hP hD hS => ?_)
  have hP : va_P G.1 zcl [(a0, .inl (G.2.2.1 6, c0, .inr (.inr (.inr (.inr (f0)))))), (i0, .inr (13, [.int (nI (k0 + 1)), .int r0, .int m0, .ref h0])), (h0, .inr (12, [.int m0, .ref a0, .int (nI n0)]))] H := hP
  have hD : va_D A [(a0, .inl (G.2.2.1 6, c0, .inr (.inr (.inr (.inr (f0)))))), (i0, .inr (13, [.int (nI (k0 + 1)), .int r0, .int m0, .ref h0])), (h0, .inr (12, [.int m0, .ref a0, .int (nI n0)]))] := hD
  refine lv_aload_n hx hb (show decode cJ15_next 57 = .ok (.aload_n 2, 1) by decide +kernel) rfl (lv_at hl 0 rfl) ?_
  refine lv_aload_n hx hb (show decode cJ15_next 58 = .ok (.aload_n 0, 1) by decide +kernel) rfl (lv_at hl 2 rfl) ?_
  refine lv_iload_n hx hb (show decode cJ15_next 59 = .ok (.iload_n 1, 1) by decide +kernel) rfl (lv_at hl 1 rfl) ?_
  refine lv_dup_x1 hx hb (show decode cJ15_next 60 = .ok (.dup_x1, 1) by decide +kernel) rfl rfl ?_
  refine va_put (D := G.1) (ci := 13) (v := .int (nI k0)) (ty := .int) (C := RJ15) (T := TJ15) (N := 4) hx hb hts in_J15 tyJ15 tyJ15_ok nmJ15 hown hK.1 hP hD hS 1 rfl rfl 1 (by decide) (hts _ q1616) (fun _ h9 => h9) rfl (by decide +kernel) rfl rfl (Nat.le_of_ble_eq_true rfl) (show decode cJ15_next 61 = .ok (.putfield 13, 3) by decide +kernel) (fun H locs hP hD hS => ?_)
  have hP : va_P G.1 zcl [(a0, .inl (G.2.2.1 6, c0, .inr (.inr (.inr (.inr (f0)))))), (i0, .inr (13, [.int (nI (k0 + 1)), .int (nI k0), .int m0, .ref h0])), (h0, .inr (12, [.int m0, .ref a0, .int (nI n0)]))] H := hP
  have hD : va_D A [(a0, .inl (G.2.2.1 6, c0, .inr (.inr (.inr (.inr (f0)))))), (i0, .inr (13, [.int (nI (k0 + 1)), .int (nI k0), .int m0, .ref h0])), (h0, .inr (12, [.int m0, .ref a0, .int (nI n0)]))] := hD
  refine va_aldq hx hb hK.1 hP 0 6 rfl rfl (vp_in_nI (by omega) (by omega)) (show decode cJ15_next 64 = .ok (.aaload, 1) by decide +kernel) ?_
  rw [nI_clamp (by omega), hf]
  refine W.eq (g2 := F0 m 65 ls [.ref e0]) rfl ?_
  have hP9 := hP.sub (ws' := [(a0, .inl (G.2.2.1 6, c0, .inr (.inr (.inr (.inr (f0)))))), (i0, .inr (13, [.int (nI (k0 + 1)), .int (nI k0), .int m0, .ref h0])), (h0, .inr (12, [.int m0, .ref a0, .int (nI n0)]))]) [0, 1, 2] rfl
  have hD9 := hD.sub (ws' := [(a0, .inl (G.2.2.1 6, c0, .inr (.inr (.inr (.inr (f0)))))), (i0, .inr (13, [.int (nI (k0 + 1)), .int (nI k0), .int m0, .ref h0])), (h0, .inr (12, [.int m0, .ref a0, .int (nI n0)]))]) [0, 1, 2] (by decide) rfl
  exact W.aret (v := .ref e0) hx hb hr (Or.inl ⟨_, rfl⟩) (Or.inr ⟨_, rfl⟩) (fun t ht hW => ⟨⟨(), e0, rfl, trivial, rfl, by rw [ht]; exact hP9, hD9⟩, hS.F ht⟩) hS.2.2 (show decode cJ15_next 65 = .ok (.areturn, 1) by decide +kernel)

