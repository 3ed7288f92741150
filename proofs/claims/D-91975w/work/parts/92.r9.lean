/-! RAW: makers, lists -/
set_option maxHeartbeats 4000000 in
set_option maxRecDepth 100000 in
theorem rJ2_addAll_g (l : Launch) (G : zG) (d sz : Nat) (h0 : Nat) (m0 : Int32) (h1 : Nat) (a1 : Nat) (m1 : Int32) (n0 : Nat) (c1 : Nat) (f1 : Nat → Option Nat) (mi : Nat) (hn : 0 < n0) (hn0 : n0 ≤ 40000) (hn1 : n0 ≤ c1) (hc1 : c1 < 2 ^ 31) : Met l yJ2_addAll (ws_ yJ2_addAll cJ2_addAll 6 (some .boolean)) (eRoom (d + 4) 2 (n0 + max 10 n0)) (rPx G [.ref h0, .ref h1] [(h0, .inr (12, [.int m0, .ref (G.2.1 95 0), .int 0])), (h1, .inr (12, [.int m1, .ref a1, .int (nI n0)])), (a1, .inl (G.2.2.1 6, c1, .inr (.inr (.inr (.inr (f1))))))] sz (rE2 G (G.2.1 95 0) f1 c1 11 mi)) (va_Qi (fun (r : Int32) _ => r = 1) (rB G (fun u : Nat × Nat => [(h1, .inr (12, [.int m1, .ref a1, .int (nI n0)])), (a1, .inl (G.2.2.1 6, c1, .inr (.inr (.inr (.inr (f1)))))), (u.1, .inl (G.2.2.1 6, n0, .inr (.inr (.inr (.inr (va_cpy f1 (fun _ => none) 0 0 (min c1 n0))))))), (h0, .inr (12, [.int (m0 + 1), .ref u.2, .int (nI n0)])), (u.2, .inl (G.2.2.1 6, max 10 n0, .inr (.inr (.inr (.inr (va_cpy (va_cpy f1 (fun _ => none) 0 0 (min c1 n0)) (fun _ => none) 0 0 n0))))))]) (va_A [(h0, .inr (12, [.int m0, .ref (G.2.1 95 0), .int 0])), (h1, .inr (12, [.int m1, .ref a1, .int (nI n0)])), (a1, .inl (G.2.2.1 6, c1, .inr (.inr (.inr (.inr (f1))))))] sz)) (va_A [(h0, .inr (12, [.int m0, .ref (G.2.1 95 0), .int 0])), (h1, .inr (12, [.int m1, .ref a1, .int (nI n0)])), (a1, .inl (G.2.2.1 6, c1, .inr (.inr (.inr (.inr (f1))))))] sz)) 2 (n0 + max 10 n0) (va_A [(h0, .inr (12, [.int m0, .ref (G.2.1 95 0), .int 0])), (h1, .inr (12, [.int m1, .ref a1, .int (nI n0)])), (a1, .inl (G.2.2.1 6, c1, .inr (.inr (.inr (.inr (f1))))))] sz) := by
  refine zMetF (cc := cJ2_addAll) (maxL := 6) (ret := (some .boolean)) (by decide +kernel) rfl ?_
  intro p e s m args below meth c s₁ B hml hv
  obtain ⟨rfl, hsz, hP, hK, hST, hD0, hE⟩ := hv
  have hx := B.exec
  have hb := B.bytes
  have hr := B.returns
  have hts := atoms_spec (ws := ws_ yJ2_addAll cJ2_addAll 6 (some .boolean)) B.pre
  have hts : ∀ w ∈ lw_all, w.before _ s = true := fun w h => hts w (List.mem_cons_of_mem _ h)
  have hown : s.vm.findClass RJ2 = some m.cls := findClass_of_methodNamed B.named
  have hlocks := B.notSynchronized
  subst hsz
  have hD := hD0.self (sz := s.heap.size)
  generalize hAe : va_A [(h0, .inr (12, [.int m0, .ref (G.2.1 95 0), .int 0])), (h1, .inr (12, [.int m1, .ref a1, .int (nI n0)])), (a1, .inl (G.2.2.1 6, c1, .inr (.inr (.inr (.inr (f1))))))] s.heap.size = A at hD hST hE ⊢
  have hA : ∀ q : Nat, s.heap.size ≤ q → A q := fun q h => by rw [← hAe]; exact Or.inr h
  have hS : va_S A s.heap s.heap [] := va_S.rf
  have hP : va_P G.1 zcl [(h0, .inr (12, [.int m0, .ref (G.2.1 95 0), .int 0])), (h1, .inr (12, [.int m1, .ref a1, .int (nI n0)])), (a1, .inl (G.2.2.1 6, c1, .inr (.inr (.inr (.inr (f1))))))] s.heap := hP
  have hl := lv_entry ([.ref h0, .ref h1]) (n := 6) (Nat.le_of_ble_eq_true rfl)
  rw [lg_entry_eq]
  generalize (lg_sl ([.ref h0, .ref h1]) ++ List.replicate (6 - (lg_sl ([.ref h0, .ref h1])).length) Slot.unset).toArray = ls at hl ⊢
  have hl : lv_has ls 6 [(0, .ref h0), (1, .ref h1)] := hl
  refine lv_aload_n hx hb (show decode cJ2_addAll 0 = .ok (.aload_n 1, 1) by decide +kernel) rfl (lv_at hl 1 rfl) ?_
  have hPc := hP.sub (ws' := [(h1, .inr (12, [.int m1, .ref a1, .int (nI n0)])), (a1, .inl (G.2.2.1 6, c1, .inr (.inr (.inr (.inr (f1))))))]) [1, 2] rfl
  have hDc := hD.sub (ws' := [(h1, .inr (12, [.int m1, .ref a1, .int (nI n0)])), (a1, .inl (G.2.2.1 6, c1, .inr (.inr (.inr (.inr (f1))))))]) [1, 2] (by decide) rfl
  have hFc := va_free (wc := [(h1, .inr (12, [.int m1, .ref a1, .int (nI n0)])), (a1, .inl (G.2.2.1 6, c1, .inr (.inr (.inr (.inr (f1))))))]) hD hS hA [1, 2] rfl
  refine va_callFr (va_runF (x := ⟨"java/util/Collection", "toArray", "()[Ljava/lang/Object;"⟩) (C := RJ2) (hK.1.1 12 _ rfl).2 (As := []) (rest := []) ⟨hx, hb, hml, hown, hts⟩ (rJ2_toArray_X11 l G (d + 0) s.heap.size (h1) (a1) (m1) (n0) (c1) (f1) (mi) (by omega) hc1) (va_cwF (x := ⟨"java/util/Collection", "toArray", "()[Ljava/lang/Object;"⟩) (C := RJ2) 0 hts (lw_app (lw_in4 q1671 q1675 q1677 q146) (lw_meth q1679)) rfl rfl rfl (hK.2.2 RJ2 ⟨"java/util/Collection", "toArray", "()[Ljava/lang/Object;"⟩ _ ⟨by decide, by decide⟩ q1673 q1672 q1678 q1676 q1674) (by decide +kernel) ⟨(rroom (d := d + 3) (mc := 2) (ms := (n0 + max 10 n0)) (mc' := 1) (ms' := n0) (mL := 1) (by decide)).1, by first | exact (rroom (d := d + 3) (mc := 2) (ms := (n0 + max 10 n0)) (mc' := 1) (ms' := n0) (mL := 1) (by decide)).2⟩) ⟨rxblind rEl_st, va_recv hK.1 hPc (ci := 12) (q0 := 0) rfl rfl, rpx rEl_st hE.1 hK hST hS hPc hDc hFc [.ref h1]⟩ rfl rfl hl.1 rfl (lv_room (Nat.le_of_ble_eq_true rfl)) (show decode cJ2_addAll 1 = .ok (.invokeinterface 42 1, 5) by decide +kernel) ⟨by show _ ≤ 2; first | decide | omega, by show _ ≤ n0 + max 10 n0; first | decide | omega⟩) hS (fun q _ h => hFc q h) hFc (fun u ra_ t H1 locs ht hvm hw hB hz1 hk1 hS => ?_)
  obtain ⟨q1, rfl⟩ : ∃ z, z = u := ⟨_, rfl⟩
  obtain ⟨hra_, hP1, hD1⟩ := hB
  rw [ht] at hP1
  obtain ⟨hP, hD⟩ := va_join (wr := [(h0, .inr (12, [.int m0, .ref (G.2.1 95 0), .int 0]))]) (w1 := [(h1, .inr (12, [.int m1, .ref a1, .int (nI n0)])), (a1, .inl (G.2.2.1 6, c1, .inr (.inr (.inr (.inr (f1)))))), (q1, .inl (G.2.2.1 6, n0, .inr (.inr (.inr (.inr (va_cpy f1 (fun _ => none) 0 0 (min c1 n0)))))))]) hP hD [1, 2] [0] rfl rfl (by decide) (by decide) hk1 hFc hP1 hD1
  generalize H1 = H at hP hS ⊢
  have hP : va_P G.1 zcl [(h0, .inr (12, [.int m0, .ref (G.2.1 95 0), .int 0])), (h1, .inr (12, [.int m1, .ref a1, .int (nI n0)])), (a1, .inl (G.2.2.1 6, c1, .inr (.inr (.inr (.inr (f1)))))), (q1, .inl (G.2.2.1 6, n0, .inr (.inr (.inr (.inr (va_cpy f1 (fun _ => none) 0 0 (min c1 n0)))))))] H := hP
  have hD : va_D A [(h0, .inr (12, [.int m0, .ref (G.2.1 95 0), .int 0])), (h1, .inr (12, [.int m1, .ref a1, .int (nI n0)])), (a1, .inl (G.2.2.1 6, c1, .inr (.inr (.inr (.inr (f1)))))), (q1, .inl (G.2.2.1 6, n0, .inr (.inr (.inr (.inr (va_cpy f1 (fun _ => none) 0 0 (min c1 n0)))))))] := hD
  have hra_ : ra_ = q1 := hra_
  rw [hra_]
  refine lv_astore_n hx hb (show decode cJ2_addAll 6 = .ok (.astore_n 2, 1) by decide +kernel) rfl hl (by decide) rfl (fun ls hl => ?_)
  have hl : lv_has ls 6 [(2, .ref q1), (0, .ref h0), (1, .ref h1)] := hl
  refine lv_aload_n hx hb (show decode cJ2_addAll 7 = .ok (.aload_n 0, 1) by decide +kernel) rfl (lv_at hl 1 rfl) ?_
  refine lv_dup hx hb (show decode cJ2_addAll 8 = .ok (.dup, 1) by decide +kernel) rfl ?_
  refine va_get (D := G.1) (ci := 12) (v := .int m0) (C := RJ2) (T := TJ2) (N := 3) hx hb hts in_J2 hown hK.1 hP 0 rfl rfl 0 (by decide) (hts _ q422) (u_same (hts _ q421)) rfl (show decode cJ2_addAll 9 = .ok (.getfield 63, 3) by decide +kernel) ?_
  refine lv_iconst (v := 1) hx hb (show decode cJ2_addAll 12 = .ok (.iconst 1, 1) by decide +kernel) (by decide) ?_
  refine lv_iadd hx hb (show decode cJ2_addAll 13 = .ok (.iadd, 1) by decide +kernel) ?_
  refine va_put (D := G.1) (ci := 12) (v := .int (m0 + 1)) (ty := .int) (C := RJ2) (T := TJ2) (N := 3) hx hb hts in_J2 tyJ2 tyJ2_ok nmJ2 hown hK.1 hP hD hS 0 rfl rfl 0 (by decide) (hts _ q422) (u_same (hts _ q421)) rfl (by decide +kernel) rfl rfl (Nat.le_of_ble_eq_true rfl) (show decode cJ2_addAll 14 = .ok (.putfield 63, 3) by decide +kernel) (fun H locs hP hD hS => ?_)
  have hP : va_P G.1 zcl [(h0, .inr (12, [.int (m0 + 1), .ref (G.2.1 95 0), .int 0])), (h1, .inr (12, [.int m1, .ref a1, .int (nI n0)])), (a1, .inl (G.2.2.1 6, c1, .inr (.inr (.inr (.inr (f1)))))), (q1, .inl (G.2.2.1 6, n0, .inr (.inr (.inr (.inr (va_cpy f1 (fun _ => none) 0 0 (min c1 n0)))))))] H := hP
  have hD : va_D A [(h0, .inr (12, [.int (m0 + 1), .ref (G.2.1 95 0), .int 0])), (h1, .inr (12, [.int m1, .ref a1, .int (nI n0)])), (a1, .inl (G.2.2.1 6, c1, .inr (.inr (.inr (.inr (f1)))))), (q1, .inl (G.2.2.1 6, n0, .inr (.inr (.inr (.inr (va_cpy f1 (fun _ => none) 0 0 (min c1 n0)))))))] := hD
  refine lv_aload_n hx hb (show decode cJ2_addAll 17 = .ok (.aload_n 2, 1) by decide +kernel) rfl (lv_at hl 0 rfl) ?_
  refine va_alen (v := nI n0) hx hb hK.1 hP 3 6 rfl rfl rfl (show decode cJ2_addAll 18 = .ok (.arraylength, 1) by decide +kernel) ?_
  refine lv_istore_n hx hb (show decode cJ2_addAll 19 = .ok (.istore_n 3, 1) by decide +kernel) rfl hl (by decide) rfl (fun ls hl => ?_)
  have hl : lv_has ls 6 [(3, .int (nI n0)), (2, .ref q1), (0, .ref h0), (1, .ref h1)] := hl
  refine lv_iload_n hx hb (show decode cJ2_addAll 20 = .ok (.iload_n 3, 1) by decide +kernel) rfl (lv_at hl 0 rfl) ?_
  refine lv_if_ne (tgt := 26) hx hb (show decode cJ2_addAll 21 = .ok (.ifCond .ne 5, 3) by decide +kernel) (by decide) (fun cnd_ => ?_) (fun cnd_ => absurd ((nI_eq (a := n0) (b := 0) (by omega) (by decide)).mp cnd_) (by omega))
  refine lv_iload_n hx hb (show decode cJ2_addAll 26 = .ok (.iload_n 3, 1) by decide +kernel) rfl (lv_at hl 0 rfl) ?_
  refine lv_aload_n hx hb (show decode cJ2_addAll 27 = .ok (.aload_n 0, 1) by decide +kernel) rfl (lv_at hl 2 rfl) ?_
  refine va_get (D := G.1) (ci := 12) (v := .ref (G.2.1 95 0)) (C := RJ2) (T := TJ2) (N := 3) hx hb hts in_J2 hown hK.1 hP 0 rfl rfl 1 (by decide) (hts _ q415) (fun _ h9 => h9) rfl (show decode cJ2_addAll 28 = .ok (.getfield 9, 3) by decide +kernel) ?_
  refine lv_dup hx hb (show decode cJ2_addAll 31 = .ok (.dup, 1) by decide +kernel) rfl ?_
  refine lv_astore hx hb (show decode cJ2_addAll 32 = .ok (.astore 4, 2) by decide +kernel) hl (by decide) rfl (fun ls hl => ?_)
  have hl : lv_has ls 6 [(4, .ref (G.2.1 95 0)), (3, .int (nI n0)), (2, .ref q1), (0, .ref h0), (1, .ref h1)] := hl
  refine va_tlen (v := 0) hx hb (rEe_T hK hE.2) hS rfl (show decode cJ2_addAll 34 = .ok (.arraylength, 1) by decide +kernel) ?_
  refine lv_aload_n hx hb (show decode cJ2_addAll 35 = .ok (.aload_n 0, 1) by decide +kernel) rfl (lv_at hl 3 rfl) ?_
  refine va_get (D := G.1) (ci := 12) (v := .int 0) (C := RJ2) (T := TJ2) (N := 3) hx hb hts in_J2 hown hK.1 hP 0 rfl rfl 2 (by decide) (hts _ q418) (fun _ h9 => h9) rfl (show decode cJ2_addAll 36 = .ok (.getfield 48, 3) by decide +kernel) ?_
  refine lv_dup hx hb (show decode cJ2_addAll 39 = .ok (.dup, 1) by decide +kernel) rfl ?_
  refine lv_istore hx hb (show decode cJ2_addAll 40 = .ok (.istore 5, 2) by decide +kernel) hl (by decide) rfl (fun ls hl => ?_)
  have hl : lv_has ls 6 [(5, .int 0), (4, .ref (G.2.1 95 0)), (3, .int (nI n0)), (2, .ref q1), (0, .ref h0), (1, .ref h1)] := hl
  refine lv_isub hx hb (show decode cJ2_addAll 42 = .ok (.isub, 1) by decide +kernel) ?_
  refine lv_topi (fun yy_ ey_ => ?_)
  obtain rfl : yy_ = 0 := ey_.trans (by decide)
  refine lv_icmp_le (tgt := 56) hx hb (show decode cJ2_addAll 43 = .ok (.if_icmp .le 13, 3) by decide +kernel) (by decide) (fun cnd_ => absurd ((nI_leI (a := n0) (b := 0) (by omega) (by decide)).mp cnd_) (by omega)) (fun cnd_ => ?_)
  refine lv_aload_n hx hb (show decode cJ2_addAll 46 = .ok (.aload_n 0, 1) by decide +kernel) rfl (lv_at hl 4 rfl) ?_
  refine lv_iload hx hb (show decode cJ2_addAll 47 = .ok (.iload 5, 2) by decide +kernel) (lv_at hl 0 rfl) ?_
  refine lv_iload_n hx hb (show decode cJ2_addAll 49 = .ok (.iload_n 3, 1) by decide +kernel) rfl (lv_at hl 2 rfl) ?_
  refine lv_iadd hx hb (show decode cJ2_addAll 50 = .ok (.iadd, 1) by decide +kernel) ?_
  refine lv_topi (fun yy_ ey_ => ?_)
  obtain rfl : yy_ = nI n0 := ey_.trans (Int32.zero_add _)
  have hPc := hP.sub (ws' := [(h0, .inr (12, [.int (m0 + 1), .ref (G.2.1 95 0), .int 0]))]) [0] rfl
  have hDc := hD.sub (ws' := [(h0, .inr (12, [.int (m0 + 1), .ref (G.2.1 95 0), .int 0]))]) [0] (by decide) rfl
  have hFc := va_free (wc := [(h0, .inr (12, [.int (m0 + 1), .ref (G.2.1 95 0), .int 0]))]) hD hS hA [0] rfl
  refine va_callr (va_runV (As := [.int (nI n0)]) (rest := []) ⟨hx, hb, hml, hown, hts⟩ (rJ2_grow_2_n l G (d + 3) H.size (h0) (m0 + 1) (n0) hn0) (cwV 1 hts (lw_V q869 q871 qs17 q146 q872) rfl rfl rfl (by decide +kernel) ⟨(rroom (d := d + 3) (mc := 2) (ms := (n0 + max 10 n0)) (mc' := 1) (ms' := (max 10 n0)) (mL := 4) (by decide)).1, by first | exact (rroom (d := d + 3) (mc := 2) (ms := (n0 + max 10 n0)) (mc' := 1) (ms' := (max 10 n0)) (mL := 4) (by decide)).2⟩) ⟨rxblind rEe_st, va_recv hK.1 hPc (ci := 12) (q0 := 0) rfl rfl, rpx rEe_st hE.2 hK hST hS hPc hDc hFc [.ref h0, .int (nI n0)]⟩ rfl rfl hl.1 rfl (lv_room (Nat.le_of_ble_eq_true rfl)) (show decode cJ2_addAll 51 = .ok (.invokevirtual 69, 3) by decide +kernel) ⟨by show _ ≤ 2; first | decide | omega, by show _ ≤ n0 + max 10 n0; first | decide | omega⟩) hS (fun q _ h => hFc q h) hFc (fun u ra_ t H1 locs ht hvm hw hB hz1 hk1 hS => ?_)
  obtain ⟨q2, rfl⟩ : ∃ z, z = u := ⟨_, rfl⟩
  obtain ⟨hra_, hP1, hD1⟩ := hB
  rw [ht] at hP1
  obtain ⟨hP, hD⟩ := va_join (wr := [(h1, .inr (12, [.int m1, .ref a1, .int (nI n0)])), (a1, .inl (G.2.2.1 6, c1, .inr (.inr (.inr (.inr (f1)))))), (q1, .inl (G.2.2.1 6, n0, .inr (.inr (.inr (.inr (va_cpy f1 (fun _ => none) 0 0 (min c1 n0)))))))]) (w1 := [(h0, .inr (12, [.int (m0 + 1), .ref q2, .int 0])), (q2, .inl (G.2.2.1 6, max 10 n0, .inr (.inr (.inr (.inr (fun _ => none))))))]) hP hD [0] [1, 2, 3] rfl rfl (by decide) (by decide) hk1 hFc hP1 hD1
  generalize H1 = H at hP hS ⊢
  have hP : va_P G.1 zcl [(h1, .inr (12, [.int m1, .ref a1, .int (nI n0)])), (a1, .inl (G.2.2.1 6, c1, .inr (.inr (.inr (.inr (f1)))))), (q1, .inl (G.2.2.1 6, n0, .inr (.inr (.inr (.inr (va_cpy f1 (fun _ => none) 0 0 (min c1 n0))))))), (h0, .inr (12, [.int (m0 + 1), .ref q2, .int 0])), (q2, .inl (G.2.2.1 6, max 10 n0, .inr (.inr (.inr (.inr (fun _ => none))))))] H := hP
  have hD : va_D A [(h1, .inr (12, [.int m1, .ref a1, .int (nI n0)])), (a1, .inl (G.2.2.1 6, c1, .inr (.inr (.inr (.inr (f1)))))), (q1, .inl (G.2.2.1 6, n0, .inr (.inr (.inr (.inr (va_cpy f1 (fun _ => none) 0 0 (min c1 n0))))))), (h0, .inr (12, [.int (m0 + 1), .ref q2, .int 0])), (q2, .inl (G.2.2.1 6, max 10 n0, .inr (.inr (.inr (.inr (fun _ => none))))))] := hD
  have hra_ : ra_ = q2 := hra_
  rw [hra_]
  refine lv_astore hx hb (show decode cJ2_addAll 54 = .ok (.astore 4, 2) by decide +kernel) hl (by decide) rfl (fun ls hl => ?_)
  have hl : lv_has ls 6 [(4, .ref q2), (5, .int 0), (3, .int (nI n0)), (2, .ref q1), (0, .ref h0), (1, .ref h1)] := hl
  refine lv_aload_n hx hb (show decode cJ2_addAll 56 = .ok (.aload_n 2, 1) by decide +kernel) rfl (lv_at hl 3 rfl) ?_
  refine lv_iconst (v := 0) hx hb (show decode cJ2_addAll 57 = .ok (.iconst 0, 1) by decide +kernel) (by decide) ?_
  refine lv_aload hx hb (show decode cJ2_addAll 58 = .ok (.aload 4, 2) by decide +kernel) (lv_at hl 0 rfl) ?_
  refine lv_iload hx hb (show decode cJ2_addAll 60 = .ok (.iload 5, 2) by decide +kernel) (lv_at hl 1 rfl) ?_
  refine lv_iload_n hx hb (show decode cJ2_addAll 62 = .ok (.iload_n 3, 1) by decide +kernel) rfl (lv_at hl 2 rfl) ?_
  refine va_copyq (C := RX11) hx hb (by rw [hml]; exact hl.1.symm) hown (hts _ q1566) (hts _ q375) (hts _ q374) (hts _ q164) hK.1 hP hD hS 2 4 6 6 rfl rfl rfl rfl (by decide) (by decide) (nI_pos (by omega)) (by rw [nI_clamp (by omega)]; show 0 + _ ≤ n0; omega) (by rw [nI_clamp (by omega)]; show 0 + _ ≤ _; omega) (fun i hi y hy => ?_) (fun comp c9 e1 e2 => ?_) (Nat.succ_le_succ (Nat.zero_le _)) (by show _ ≤ 48 * (_ + 1); exact Nat.le_trans (Nat.le_of_ble_eq_true rfl) (Nat.le_mul_of_pos_right 48 (Nat.succ_pos _))) (show decode cJ2_addAll 63 = .ok (.invokestatic 112, 3) by decide +kernel) (fun H locs hP hD hS => ?_)
  · rw [nI_clamp (by omega)] at hi
    rw [show (0 : Int32).toNatClampNeg + i = i from Nat.zero_add i, rcpy0 (by omega)] at hy
    obtain ⟨g1, cell, g2, g3, g4⟩ := hE.1.2 i (by omega) y hy
    exact ⟨cell, by rw [hS.2.1 y (Array.getElem?_eq_some_iff.mp g2).1 g1]; exact g2, g3, by rw [g4]; exact (hK.1.1 11 _ rfl).2.1⟩
  · obtain ⟨d0, d1, f1_, f2_, f3_⟩ := Cond.castable_spec (va_Nw.use (A := ([.ref h0, .ref h1] : List Value).toArray) rfl (hK.2.1 _ q2509 rfl))
    cases f1_.symm.trans e2
    cases f2_.symm.trans e1
    exact f3_
  rw [nI_clamp (by omega)] at hP hD
  have hP : va_P G.1 zcl [(h1, .inr (12, [.int m1, .ref a1, .int (nI n0)])), (a1, .inl (G.2.2.1 6, c1, .inr (.inr (.inr (.inr (f1)))))), (q1, .inl (G.2.2.1 6, n0, .inr (.inr (.inr (.inr (va_cpy f1 (fun _ => none) 0 0 (min c1 n0))))))), (h0, .inr (12, [.int (m0 + 1), .ref q2, .int 0])), (q2, .inl (G.2.2.1 6, max 10 n0, .inr (.inr (.inr (.inr (va_cpy (va_cpy f1 (fun _ => none) 0 0 (min c1 n0)) (fun _ => none) 0 0 n0))))))] H := hP
  have hD : va_D A [(h1, .inr (12, [.int m1, .ref a1, .int (nI n0)])), (a1, .inl (G.2.2.1 6, c1, .inr (.inr (.inr (.inr (f1)))))), (q1, .inl (G.2.2.1 6, n0, .inr (.inr (.inr (.inr (va_cpy f1 (fun _ => none) 0 0 (min c1 n0))))))), (h0, .inr (12, [.int (m0 + 1), .ref q2, .int 0])), (q2, .inl (G.2.2.1 6, max 10 n0, .inr (.inr (.inr (.inr (va_cpy (va_cpy f1 (fun _ => none) 0 0 (min c1 n0)) (fun _ => none) 0 0 n0))))))] := hD
  refine lv_aload_n hx hb (show decode cJ2_addAll 66 = .ok (.aload_n 0, 1) by decide +kernel) rfl (lv_at hl 4 rfl) ?_
  refine lv_iload hx hb (show decode cJ2_addAll 67 = .ok (.iload 5, 2) by decide +kernel) (lv_at hl 1 rfl) ?_
  refine lv_iload_n hx hb (show decode cJ2_addAll 69 = .ok (.iload_n 3, 1) by decide +kernel) rfl (lv_at hl 2 rfl) ?_
  refine lv_iadd hx hb (show decode cJ2_addAll 70 = .ok (.iadd, 1) by decide +kernel) ?_
  refine lv_topi (fun yy_ ey_ => ?_)
  obtain rfl : yy_ = nI n0 := ey_.trans (Int32.zero_add _)
  refine va_put (D := G.1) (ci := 12) (v := .int (nI n0)) (ty := .int) (C := RJ2) (T := TJ2) (N := 3) hx hb hts in_J2 tyJ2 tyJ2_ok nmJ2 hown hK.1 hP hD hS 3 rfl rfl 2 (by decide) (hts _ q418) (fun _ h9 => h9) rfl (by decide +kernel) rfl rfl (Nat.le_of_ble_eq_true rfl) (show decode cJ2_addAll 71 = .ok (.putfield 48, 3) by decide +kernel) (fun H locs hP hD hS => ?_)
  have hP : va_P G.1 zcl [(h1, .inr (12, [.int m1, .ref a1, .int (nI n0)])), (a1, .inl (G.2.2.1 6, c1, .inr (.inr (.inr (.inr (f1)))))), (q1, .inl (G.2.2.1 6, n0, .inr (.inr (.inr (.inr (va_cpy f1 (fun _ => none) 0 0 (min c1 n0))))))), (h0, .inr (12, [.int (m0 + 1), .ref q2, .int (nI n0)])), (q2, .inl (G.2.2.1 6, max 10 n0, .inr (.inr (.inr (.inr (va_cpy (va_cpy f1 (fun _ => none) 0 0 (min c1 n0)) (fun _ => none) 0 0 n0))))))] H := hP
  have hD : va_D A [(h1, .inr (12, [.int m1, .ref a1, .int (nI n0)])), (a1, .inl (G.2.2.1 6, c1, .inr (.inr (.inr (.inr (f1)))))), (q1, .inl (G.2.2.1 6, n0, .inr (.inr (.inr (.inr (va_cpy f1 (fun _ => none) 0 0 (min c1 n0))))))), (h0, .inr (12, [.int (m0 + 1), .ref q2, .int (nI n0)])), (q2, .inl (G.2.2.1 6, max 10 n0, .inr (.inr (.inr (.inr (va_cpy (va_cpy f1 (fun _ => none) 0 0 (min c1 n0)) (fun _ => none) 0 0 n0))))))] := hD
  refine lv_iconst (v := 1) hx hb (show decode cJ2_addAll 74 = .ok (.iconst 1, 1) by decide +kernel) (by decide) ?_
  have hP9 := hP.sub (ws' := [(h1, .inr (12, [.int m1, .ref a1, .int (nI n0)])), (a1, .inl (G.2.2.1 6, c1, .inr (.inr (.inr (.inr (f1)))))), (q1, .inl (G.2.2.1 6, n0, .inr (.inr (.inr (.inr (va_cpy f1 (fun _ => none) 0 0 (min c1 n0))))))), (h0, .inr (12, [.int (m0 + 1), .ref q2, .int (nI n0)])), (q2, .inl (G.2.2.1 6, max 10 n0, .inr (.inr (.inr (.inr (va_cpy (va_cpy f1 (fun _ => none) 0 0 (min c1 n0)) (fun _ => none) 0 0 n0))))))]) [0, 1, 2, 3, 4] rfl
  have hD9 := hD.sub (ws' := [(h1, .inr (12, [.int m1, .ref a1, .int (nI n0)])), (a1, .inl (G.2.2.1 6, c1, .inr (.inr (.inr (.inr (f1)))))), (q1, .inl (G.2.2.1 6, n0, .inr (.inr (.inr (.inr (va_cpy f1 (fun _ => none) 0 0 (min c1 n0))))))), (h0, .inr (12, [.int (m0 + 1), .ref q2, .int (nI n0)])), (q2, .inl (G.2.2.1 6, max 10 n0, .inr (.inr (.inr (.inr (va_cpy (va_cpy f1 (fun _ => none) 0 0 (min c1 n0)) (fun _ => none) 0 0 n0))))))]) [0, 1, 2, 3, 4] (by decide) rfl
  refine W.widen (k := 2) (n := n0 + max 10 n0) (by first | decide | omega) (by first | decide | omega) ?_
  exact W.zret (v := 1) hx hb hr rfl (fun t ht hW => ⟨⟨1, (q1, q2), rfl, rfl, by rw [ht]; exact hP9, hD9⟩, hS.F ht⟩) hS.2.2 (show decode cJ2_addAll 75 = .ok (.ireturn, 1) by decide +kernel)

