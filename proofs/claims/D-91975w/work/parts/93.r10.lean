/-! RAW: makers, lists -/
theorem feedS {n0 i : Nat} {p0 p1 p2 p3 p4 : Int32} {f0 : Nat → Int32} {z : Nat} (hz : z = 20) : upd (fun j => if n0 ≤ j ∧ j < n0 + i then fiveB p0 p1 p2 p3 p4 (j - n0) else f0 j) (n0 + i) (vp_nar .byte (((if i / 4 = 0 then p0 else if i / 4 = 1 then p1 else if i / 4 = 2 then p2 else if i / 4 = 3 then p3 else p4) >>> ((nI (24 - 8 * (i % 4))) &&& 31)).toInt8.toInt32)) = (fun j => if n0 ≤ j ∧ j < n0 + (i + 1) then fiveB p0 p1 p2 p3 p4 (j - n0) else f0 j) := by
  funext j
  by_cases q : j = n0 + i
  · subst q
    rw [pk_us]
    refine Eq.trans ?_ (if_pos ⟨by omega, by omega⟩).symm
    rw [Nat.add_sub_cancel_left]
    exact i8i8 _
  · rw [pk_un q]
    by_cases q2 : n0 ≤ j ∧ j < n0 + i
    · rw [if_pos q2, if_pos ⟨q2.1, by omega⟩]
    · rw [if_neg q2, if_neg (by omega)]
set_option maxHeartbeats 4000000 in
set_option maxRecDepth 100000 in
theorem r_feed_loop {p : Program} {l : Launch} {e : Env} {R : Room} {s : State} {m : MethodId} {args : Array Value} {below : List Frame} {meth : Method} {c : Code} {Q : State → Prop} {G : zG} {A : Nat → Prop} {H0 : Heap} {cells slots : Nat} {h0 t0 n0 g0 : Nat} {x0 x1 x2 x5 x6 x7 x8 x9 : Value} {f0 : Nat → Int32} {p0 p1 p2 p3 p4 : Int32} (hx : p.tables.exec = Jvm.exec) (hb : c.code = cX0_feed) (hts : ∀ w ∈ lw_all, w.before args s = true) (hown : s.vm.findClass RX0 = some m.cls) (hK : zK zcl G s) (hn : n0 + 20 ≤ 800)
    (kk : ∀ (H : Heap) (locs : List Loc) (ls : Array Slot), va_P G.1 zcl [(h0, .inr (0, [x0, x1, x2, .ref t0, .int (nI n0), x5, x6, x7, x8, x9])), (t0, .inl (G.2.2.1 1, 800, .inl (fun j => if n0 ≤ j ∧ j < n0 + 20 then fiveB p0 p1 p2 p3 p4 (j - n0) else f0 j))), (g0, .inl (G.2.2.1 0, 5, .inl (fun k => if k = 0 then p0 else if k = 1 then p1 else if k = 2 then p2 else if k = 3 then p3 else p4)))] H → va_D A [(h0, .inr (0, [x0, x1, x2, .ref t0, .int (nI n0), x5, x6, x7, x8, x9])), (t0, .inl (G.2.2.1 1, 800, .inl (fun j => if n0 ≤ j ∧ j < n0 + 20 then fiveB p0 p1 p2 p3 p4 (j - n0) else f0 j))), (g0, .inl (G.2.2.1 0, 5, .inl (fun k => if k = 0 then p0 else if k = 1 then p1 else if k = 2 then p2 else if k = 3 then p3 else p4)))] → va_S A H0 H locs → lv_has ls 8 [(7, .int (nI 20)), (6, .ref g0), (0, .ref h0), (1, .int p0), (2, .int p1), (3, .int p2), (4, .int p3), (5, .int p4)] → W p l e R s m args below meth c H locs cells slots Q (F0 m 89 ls [])) :
    ∀ (k i : Nat), i + k = 20 → ∀ (H : Heap) (locs : List Loc) (ls : Array Slot), va_P G.1 zcl [(h0, .inr (0, [x0, x1, x2, .ref t0, .int (nI n0), x5, x6, x7, x8, x9])), (t0, .inl (G.2.2.1 1, 800, .inl (fun j => if n0 ≤ j ∧ j < n0 + i then fiveB p0 p1 p2 p3 p4 (j - n0) else f0 j))), (g0, .inl (G.2.2.1 0, 5, .inl (fun k => if k = 0 then p0 else if k = 1 then p1 else if k = 2 then p2 else if k = 3 then p3 else p4)))] H → va_D A [(h0, .inr (0, [x0, x1, x2, .ref t0, .int (nI n0), x5, x6, x7, x8, x9])), (t0, .inl (G.2.2.1 1, 800, .inl (fun j => if n0 ≤ j ∧ j < n0 + i then fiveB p0 p1 p2 p3 p4 (j - n0) else f0 j))), (g0, .inl (G.2.2.1 0, 5, .inl (fun k => if k = 0 then p0 else if k = 1 then p1 else if k = 2 then p2 else if k = 3 then p3 else p4)))] → va_S A H0 H locs → lv_has ls 8 [(7, .int (nI i)), (6, .ref g0), (0, .ref h0), (1, .int p0), (2, .int p1), (3, .int p2), (4, .int p3), (5, .int p4)] → W p l e R s m args below meth c H locs cells slots Q (F0 m 45 ls []) := by
  intro k
  induction k with
  | zero =>
    intro i hi H locs ls hP hD hS hl
    obtain rfl : i = 20 := by omega
    refine lv_iload hx hb (show decode cX0_feed 45 = .ok (.iload 7, 2) by decide +kernel) (lv_at hl 0 rfl) ?_
    refine lv_bipush (v := 20) hx hb (show decode cX0_feed 47 = .ok (.bipush 20, 2) by decide +kernel) (by decide) ?_
    refine lv_icmp_ge (tgt := 89) hx hb (show decode cX0_feed 49 = .ok (.if_icmp .ge 40, 3) by decide +kernel) (by decide) (fun cnd_ => ?_) (fun cnd_ => absurd (by show nI 20 ≤ nI 20; exact nI_le (by omega) (by omega)) cnd_)
    exact kk H locs ls hP hD hS hl
  | succ k ih =>
    intro i hi H locs ls hP hD hS hl
    refine lv_iload hx hb (show decode cX0_feed 45 = .ok (.iload 7, 2) by decide +kernel) (lv_at hl 0 rfl) ?_
    refine lv_bipush (v := 20) hx hb (show decode cX0_feed 47 = .ok (.bipush 20, 2) by decide +kernel) (by decide) ?_
    refine lv_icmp_ge (tgt := 89) hx hb (show decode cX0_feed 49 = .ok (.if_icmp .ge 40, 3) by decide +kernel) (by decide) (fun cnd_ => absurd ((nI_leI (a := 20) (b := i) (by decide) (by omega)).mp cnd_) (by omega)) (fun cnd_ => ?_)
    refine lv_aload_n hx hb (show decode cX0_feed 52 = .ok (.aload_n 0, 1) by decide +kernel) rfl (lv_at hl 2 rfl) ?_
    refine va_get (D := G.1) (ci := 0) (v := .ref t0) (C := RX0) (T := TX0) (N := 10) hx hb hts in_X0 hown hK.1 hP 0 rfl rfl 3 (by decide) (hts _ q606) (fun _ h9 => h9) rfl (show decode cX0_feed 53 = .ok (.getfield 55, 3) by decide +kernel) ?_
    refine lv_aload_n hx hb (show decode cX0_feed 56 = .ok (.aload_n 0, 1) by decide +kernel) rfl (lv_at hl 2 rfl) ?_
    refine va_get (D := G.1) (ci := 0) (v := .int (nI n0)) (C := RX0) (T := TX0) (N := 10) hx hb hts in_X0 hown hK.1 hP 0 rfl rfl 4 (by decide) (hts _ q607) (fun _ h9 => h9) rfl (show decode cX0_feed 57 = .ok (.getfield 86, 3) by decide +kernel) ?_
    refine lv_iload hx hb (show decode cX0_feed 60 = .ok (.iload 7, 2) by decide +kernel) (lv_at hl 0 rfl) ?_
    refine lv_iadd hx hb (show decode cX0_feed 62 = .ok (.iadd, 1) by decide +kernel) ?_
    refine lv_topi (fun yy_ ey_ => ?_)
    obtain rfl : yy_ = nI (n0 + i) := ey_.trans (nI_add n0 i)
    refine lv_aload hx hb (show decode cX0_feed 63 = .ok (.aload 6, 2) by decide +kernel) (lv_at hl 1 rfl) ?_
    refine lv_iload hx hb (show decode cX0_feed 65 = .ok (.iload 7, 2) by decide +kernel) (lv_at hl 0 rfl) ?_
    refine lv_iconst (v := 4) hx hb (show decode cX0_feed 67 = .ok (.iconst 4, 1) by decide +kernel) (by decide) ?_
    refine lv_idiv hx hb (show decode cX0_feed 68 = .ok (.idiv, 1) by decide +kernel) (by decide) ?_
    refine lv_topi (fun yy_ ey_ => ?_)
    obtain rfl : yy_ = nI (i / 4) := ey_.trans ((div4 i (by omega)).1)
    refine va_iald hx hb hK.1 hP 2 0 rfl rfl (by rw [show nI (i / 4) = nI (i / 4) from rfl]; exact vp_in_nI (by omega) (by decide)) (show decode cX0_feed 69 = .ok (.iaload, 1) by decide +kernel) ?_
    rw [nI_clamp (by omega)]
    refine lv_bipush (v := 24) hx hb (show decode cX0_feed 70 = .ok (.bipush 24, 2) by decide +kernel) (by decide) ?_
    refine lv_bipush (v := 8) hx hb (show decode cX0_feed 72 = .ok (.bipush 8, 2) by decide +kernel) (by decide) ?_
    refine lv_iload hx hb (show decode cX0_feed 74 = .ok (.iload 7, 2) by decide +kernel) (lv_at hl 0 rfl) ?_
    refine lv_iconst (v := 4) hx hb (show decode cX0_feed 76 = .ok (.iconst 4, 1) by decide +kernel) (by decide) ?_
    refine lv_irem hx hb (show decode cX0_feed 77 = .ok (.irem, 1) by decide +kernel) (by decide) ?_
    refine lv_imul hx hb (show decode cX0_feed 78 = .ok (.imul, 1) by decide +kernel) ?_
    refine lv_isub hx hb (show decode cX0_feed 79 = .ok (.isub, 1) by decide +kernel) ?_
    refine lv_topi (fun yy_ ey_ => ?_)
    obtain rfl : yy_ = nI (24 - 8 * (i % 4)) := ey_.trans ((div4 i (by omega)).2)
    refine lv_ishr hx hb (show decode cX0_feed 80 = .ok (.ishr, 1) by decide +kernel) ?_
    refine lv_i2b (v := ((if i / 4 = 0 then p0 else if i / 4 = 1 then p1 else if i / 4 = 2 then p2 else if i / 4 = 3 then p3 else p4) >>> ((nI (24 - 8 * (i % 4))) &&& 31)).toInt8.toInt32) hx hb (show decode cX0_feed 81 = .ok (.i2b, 1) by decide +kernel) rfl ?_
    refine va_bast hx hb hK.1 hP hD hS 1 1 rfl rfl (vp_in_nI (by omega) (by decide)) (show decode cX0_feed 82 = .ok (.bastore, 1) by decide +kernel) (fun H locs hP hD hS => ?_)
    rw [nI_clamp (by omega), feedS (show 20 = 20 from rfl)] at hP hD
    have hP : va_P G.1 zcl [(h0, .inr (0, [x0, x1, x2, .ref t0, .int (nI n0), x5, x6, x7, x8, x9])), (t0, .inl (G.2.2.1 1, 800, .inl (fun j => if n0 ≤ j ∧ j < n0 + (i + 1) then fiveB p0 p1 p2 p3 p4 (j - n0) else f0 j))), (g0, .inl (G.2.2.1 0, 5, .inl (fun k => if k = 0 then p0 else if k = 1 then p1 else if k = 2 then p2 else if k = 3 then p3 else p4)))] H := hP
    have hD : va_D A [(h0, .inr (0, [x0, x1, x2, .ref t0, .int (nI n0), x5, x6, x7, x8, x9])), (t0, .inl (G.2.2.1 1, 800, .inl (fun j => if n0 ≤ j ∧ j < n0 + (i + 1) then fiveB p0 p1 p2 p3 p4 (j - n0) else f0 j))), (g0, .inl (G.2.2.1 0, 5, .inl (fun k => if k = 0 then p0 else if k = 1 then p1 else if k = 2 then p2 else if k = 3 then p3 else p4)))] := hD
    refine lv_iinc (k := 0) (v := nI (i + 1)) hx hb (show decode cX0_feed 83 = .ok (.iinc 7 1, 3) by decide +kernel) hl rfl (nI_add i 1) (by decide) rfl (fun ls hl => ?_)
    have hl : lv_has ls 8 [(7, .int (nI (i + 1))), (6, .ref g0), (0, .ref h0), (1, .int p0), (2, .int p1), (3, .int p2), (4, .int p3), (5, .int p4)] := hl
    refine lv_goto (tgt := 45) hx hb (show decode cX0_feed 86 = .ok (.goto (-41), 3) by decide +kernel) (by decide) ?_
    exact ih (i + 1) (by omega) H locs ls hP hD hS hl

theorem feed5 {p0 p1 p2 p3 p4 : Int32} : upd (upd (upd (upd (upd (fun _ => 0) 0 p0) 1 p1) 2 p2) 3 p3) 4 p4 4 = p4 ∧ ∀ k, k < 5 → (upd (upd (upd (upd (upd (fun _ => 0) 0 p0) 1 p1) 2 p2) 3 p3) 4 p4) k = (if k = 0 then p0 else if k = 1 then p1 else if k = 2 then p2 else if k = 3 then p3 else p4) := by
  refine ⟨rfl, fun k hk => ?_⟩
  unfold upd
  rcases (show k = 0 ∨ k = 1 ∨ k = 2 ∨ k = 3 ∨ k = 4 by omega) with z | z | z | z | z <;> subst z <;> rfl
theorem arrV_congr {cA : ClassId} {n : Nat} {f g : Nat → Value} (h : ∀ j, j < n → f j = g j) : arrV cA n f = arrV cA n g := by
  unfold arrV
  congr 1
  exact congrArg Array.ofFn (funext fun j => h j.1 j.2)
theorem va_P.arr {D : va_G} {cl : List vw_C} {ws : va_W} {H : Heap} (h : va_P D cl ws H) (k : Nat) {a n : Nat} {cA : ClassId} {f g : Nat → Int32} (hk : ws[k]? = some (a, .inl (cA, n, .inl f))) (hfg : ∀ j, j < n → f j = g j) : va_P D cl (ws.set k (a, .inl (cA, n, .inl g))) H := by
  intro j q hq
  by_cases z : j = k
  · subst z
    have hl := (List.getElem?_eq_some_iff.mp hk).1
    rw [List.getElem?_set_self hl] at hq
    cases hq
    have := h j _ hk
    show H[a]? = some (arrV cA n (fun i => .int (g i)))
    rw [← arrV_congr (fun i hi => congrArg Value.int (hfg i hi))]
    exact this
  · rw [List.getElem?_set_ne (Ne.symm z)] at hq
    exact h j q hq

set_option maxHeartbeats 4000000 in
set_option maxRecDepth 100000 in
theorem rX0_feed_n (l : Launch) (G : zG) (d sz : Nat) (h0 : Nat) (x0 : Value) (x1 : Value) (x2 : Value) (x5 : Value) (x6 : Value) (x7 : Value) (x8 : Value) (x9 : Value) (t0 : Nat) (n0 : Nat) (f0 : Nat → Int32) (p0 : Int32) (p1 : Int32) (p2 : Int32) (p3 : Int32) (p4 : Int32) (hn : n0 ≤ 800) (hn2 : 800 < n0 + 20) : Met l yX0_feed (ws_ yX0_feed cX0_feed 8 (some .int)) (eRoom d 0 0) (rPc G [.ref h0, .int p0, .int p1, .int p2, .int p3, .int p4] [(h0, .inr (0, [x0, x1, x2, .ref t0, .int (nI n0), x5, x6, x7, x8, x9])), (t0, .inl (G.2.2.1 1, 800, .inl (f0)))] sz) (va_Qi (fun (r : Int32) _ => r = -1) (rB G (fun _ : Unit => [(h0, .inr (0, [x0, x1, x2, .ref t0, .int (nI n0), x5, x6, x7, x8, x9])), (t0, .inl (G.2.2.1 1, 800, .inl (f0)))]) (va_A [(h0, .inr (0, [x0, x1, x2, .ref t0, .int (nI n0), x5, x6, x7, x8, x9])), (t0, .inl (G.2.2.1 1, 800, .inl (f0)))] sz)) (va_A [(h0, .inr (0, [x0, x1, x2, .ref t0, .int (nI n0), x5, x6, x7, x8, x9])), (t0, .inl (G.2.2.1 1, 800, .inl (f0)))] sz)) 0 0 (va_A [(h0, .inr (0, [x0, x1, x2, .ref t0, .int (nI n0), x5, x6, x7, x8, x9])), (t0, .inl (G.2.2.1 1, 800, .inl (f0)))] sz) := by
  refine Met.ofW (cc := cX0_feed) (maxL := 8) (ret := (some .int)) (by decide) rfl ?_
  intro p e s m args below meth c s₁ B hml hv
  obtain ⟨rfl, hsz, hP, hK, hST, hD0⟩ := hv
  have hx := B.exec
  have hb := B.bytes
  have hr := B.returns
  have hts := atoms_spec (ws := ws_ yX0_feed cX0_feed 8 (some .int)) B.pre
  have hts : ∀ w ∈ lw_all, w.before _ s = true := fun w h => hts w (List.mem_cons_of_mem _ h)
  have hown : s.vm.findClass RX0 = some m.cls := findClass_of_methodNamed B.named
  have hlocks := B.notSynchronized
  subst hsz
  have hD := hD0.self (sz := s.heap.size)
  generalize hAe : va_A [(h0, .inr (0, [x0, x1, x2, .ref t0, .int (nI n0), x5, x6, x7, x8, x9])), (t0, .inl (G.2.2.1 1, 800, .inl (f0)))] s.heap.size = A at hD hST ⊢
  have hA : ∀ q : Nat, s.heap.size ≤ q → A q := fun q h => by rw [← hAe]; exact Or.inr h
  have hS : va_S A s.heap s.heap [] := va_S.rf
  have hP : va_P G.1 zcl [(h0, .inr (0, [x0, x1, x2, .ref t0, .int (nI n0), x5, x6, x7, x8, x9])), (t0, .inl (G.2.2.1 1, 800, .inl (f0)))] s.heap := hP
  have hl := lv_entry ([.ref h0, .int p0, .int p1, .int p2, .int p3, .int p4]) (n := 8) (Nat.le_of_ble_eq_true rfl)
  rw [lg_entry_eq]
  generalize (lg_sl ([.ref h0, .int p0, .int p1, .int p2, .int p3, .int p4]) ++ List.replicate (8 - (lg_sl ([.ref h0, .int p0, .int p1, .int p2, .int p3, .int p4])).length) Slot.unset).toArray = ls at hl ⊢
  have hl : lv_has ls 8 [(0, .ref h0), (1, .int p0), (2, .int p1), (3, .int p2), (4, .int p3), (5, .int p4)] := hl
  refine lv_aload_n hx hb (show decode cX0_feed 0 = .ok (.aload_n 0, 1) by decide +kernel) rfl (lv_at hl 0 rfl) ?_
  refine va_get (D := G.1) (ci := 0) (v := .int (nI n0)) (C := RX0) (T := TX0) (N := 10) hx hb hts in_X0 hown hK.1 hP 0 rfl rfl 4 (by decide) (hts _ q607) (fun _ h9 => h9) rfl (show decode cX0_feed 1 = .ok (.getfield 86, 3) by decide +kernel) ?_
  refine lv_bipush (v := 20) hx hb (show decode cX0_feed 4 = .ok (.bipush 20, 2) by decide +kernel) (by decide) ?_
  refine lv_iadd hx hb (show decode cX0_feed 6 = .ok (.iadd, 1) by decide +kernel) ?_
  refine lv_topi (fun yy_ ey_ => ?_)
  obtain rfl : yy_ = nI (n0 + 20) := ey_.trans (nI_add n0 20)
  refine lv_sipush (v := 800) hx hb (show decode cX0_feed 7 = .ok (.sipush 800, 3) by decide +kernel) (by decide) ?_
  refine lv_icmp_le (tgt := 15) hx hb (show decode cX0_feed 10 = .ok (.if_icmp .le 5, 3) by decide +kernel) (by decide) (fun cnd_ => absurd ((nI_leI (a := n0 + 20) (b := 800) (by omega) (by decide)).mp cnd_) (by omega)) (fun cnd_ => ?_)
  refine lv_iconst (v := -1) hx hb (show decode cX0_feed 13 = .ok (.iconst (-1), 1) by decide +kernel) (by decide) ?_
  have hP9 := hP.sub (ws' := [(h0, .inr (0, [x0, x1, x2, .ref t0, .int (nI n0), x5, x6, x7, x8, x9])), (t0, .inl (G.2.2.1 1, 800, .inl (f0)))]) [0, 1] rfl
  have hD9 := hD.sub (ws' := [(h0, .inr (0, [x0, x1, x2, .ref t0, .int (nI n0), x5, x6, x7, x8, x9])), (t0, .inl (G.2.2.1 1, 800, .inl (f0)))]) [0, 1] (by decide) rfl
  exact W.iret (v := (-1)) hx hb hr (fun t ht hW => ⟨⟨(-1), (), rfl, rfl, by rw [ht]; exact hP9, hD9⟩, hS.F ht⟩) hS.2.2 (show decode cX0_feed 14 = .ok (.ireturn, 1) by decide +kernel)

set_option maxHeartbeats 4000000 in
set_option maxRecDepth 100000 in
theorem rX0_feed_y (l : Launch) (G : zG) (d sz : Nat) (h0 : Nat) (x0 : Value) (x1 : Value) (x2 : Value) (x5 : Value) (x6 : Value) (x7 : Value) (x8 : Value) (x9 : Value) (t0 : Nat) (n0 : Nat) (f0 : Nat → Int32) (p0 : Int32) (p1 : Int32) (p2 : Int32) (p3 : Int32) (p4 : Int32) (hn : n0 + 20 ≤ 800) : Met l yX0_feed (ws_ yX0_feed cX0_feed 8 (some .int)) (eRoom d 1 5) (rPc G [.ref h0, .int p0, .int p1, .int p2, .int p3, .int p4] [(h0, .inr (0, [x0, x1, x2, .ref t0, .int (nI n0), x5, x6, x7, x8, x9])), (t0, .inl (G.2.2.1 1, 800, .inl (f0)))] sz) (va_Qi (fun (r : Int32) _ => r = nI (n0 + 20)) (rB G (fun q1 : Nat => [(h0, .inr (0, [x0, x1, x2, .ref t0, .int (nI (n0 + 20)), x5, x6, x7, x8, x9])), (t0, .inl (G.2.2.1 1, 800, .inl (fun j => if n0 ≤ j ∧ j < n0 + 20 then fiveB p0 p1 p2 p3 p4 (j - n0) else f0 j))), (q1, .inl (G.2.2.1 0, 5, .inl (fun k => if k = 0 then p0 else if k = 1 then p1 else if k = 2 then p2 else if k = 3 then p3 else p4)))]) (va_A [(h0, .inr (0, [x0, x1, x2, .ref t0, .int (nI n0), x5, x6, x7, x8, x9])), (t0, .inl (G.2.2.1 1, 800, .inl (f0)))] sz)) (va_A [(h0, .inr (0, [x0, x1, x2, .ref t0, .int (nI n0), x5, x6, x7, x8, x9])), (t0, .inl (G.2.2.1 1, 800, .inl (f0)))] sz)) 1 5 (va_A [(h0, .inr (0, [x0, x1, x2, .ref t0, .int (nI n0), x5, x6, x7, x8, x9])), (t0, .inl (G.2.2.1 1, 800, .inl (f0)))] sz) := by
  refine Met.ofW (cc := cX0_feed) (maxL := 8) (ret := (some .int)) (by decide) rfl ?_
  intro p e s m args below meth c s₁ B hml hv
  obtain ⟨rfl, hsz, hP, hK, hST, hD0⟩ := hv
  have hx := B.exec
  have hb := B.bytes
  have hr := B.returns
  have hts := atoms_spec (ws := ws_ yX0_feed cX0_feed 8 (some .int)) B.pre
  have hts : ∀ w ∈ lw_all, w.before _ s = true := fun w h => hts w (List.mem_cons_of_mem _ h)
  have hown : s.vm.findClass RX0 = some m.cls := findClass_of_methodNamed B.named
  have hlocks := B.notSynchronized
  subst hsz
  have hD := hD0.self (sz := s.heap.size)
  generalize hAe : va_A [(h0, .inr (0, [x0, x1, x2, .ref t0, .int (nI n0), x5, x6, x7, x8, x9])), (t0, .inl (G.2.2.1 1, 800, .inl (f0)))] s.heap.size = A at hD hST ⊢
  have hA : ∀ q : Nat, s.heap.size ≤ q → A q := fun q h => by rw [← hAe]; exact Or.inr h
  have hS : va_S A s.heap s.heap [] := va_S.rf
  have hP : va_P G.1 zcl [(h0, .inr (0, [x0, x1, x2, .ref t0, .int (nI n0), x5, x6, x7, x8, x9])), (t0, .inl (G.2.2.1 1, 800, .inl (f0)))] s.heap := hP
  have hl := lv_entry ([.ref h0, .int p0, .int p1, .int p2, .int p3, .int p4]) (n := 8) (Nat.le_of_ble_eq_true rfl)
  rw [lg_entry_eq]
  generalize (lg_sl ([.ref h0, .int p0, .int p1, .int p2, .int p3, .int p4]) ++ List.replicate (8 - (lg_sl ([.ref h0, .int p0, .int p1, .int p2, .int p3, .int p4])).length) Slot.unset).toArray = ls at hl ⊢
  have hl : lv_has ls 8 [(0, .ref h0), (1, .int p0), (2, .int p1), (3, .int p2), (4, .int p3), (5, .int p4)] := hl
  refine lv_aload_n hx hb (show decode cX0_feed 0 = .ok (.aload_n 0, 1) by decide +kernel) rfl (lv_at hl 0 rfl) ?_
  refine va_get (D := G.1) (ci := 0) (v := .int (nI n0)) (C := RX0) (T := TX0) (N := 10) hx hb hts in_X0 hown hK.1 hP 0 rfl rfl 4 (by decide) (hts _ q607) (fun _ h9 => h9) rfl (show decode cX0_feed 1 = .ok (.getfield 86, 3) by decide +kernel) ?_
  refine lv_bipush (v := 20) hx hb (show decode cX0_feed 4 = .ok (.bipush 20, 2) by decide +kernel) (by decide) ?_
  refine lv_iadd hx hb (show decode cX0_feed 6 = .ok (.iadd, 1) by decide +kernel) ?_
  refine lv_topi (fun yy_ ey_ => ?_)
  obtain rfl : yy_ = nI (n0 + 20) := ey_.trans (nI_add n0 20)
  refine lv_sipush (v := 800) hx hb (show decode cX0_feed 7 = .ok (.sipush 800, 3) by decide +kernel) (by decide) ?_
  refine lv_icmp_le (tgt := 15) hx hb (show decode cX0_feed 10 = .ok (.if_icmp .le 5, 3) by decide +kernel) (by decide) (fun cnd_ => ?_) (fun cnd_ => absurd (nI_le (b := 800) (by omega) (by decide)) cnd_)
  refine lv_iconst (v := 5) hx hb (show decode cX0_feed 15 = .ok (.iconst 5, 1) by decide +kernel) (by decide) ?_
  refine r_newa (atype := .int) (a0 := (5, .inl (fun _ => 0))) hx hb (hts _ q279) rfl 0 rfl (fun _ h => by cases h) hK hP hD hS hA (fun _ => rfl) (by decide) (show ((5 : Int32)).toNatClampNeg = 5 by decide) (by decide) (by show _ ≤ 1; first | decide | omega) (by show _ ≤ 5; first | decide | omega) (show decode cX0_feed 16 = .ok (.newarray .int, 2) by decide +kernel) (fun q1 H locs hP hD hS => ?_)
  have hP : va_P G.1 zcl [(h0, .inr (0, [x0, x1, x2, .ref t0, .int (nI n0), x5, x6, x7, x8, x9])), (t0, .inl (G.2.2.1 1, 800, .inl (f0))), (q1, .inl (G.2.2.1 0, 5, .inl (fun _ => 0)))] H := hP
  have hD : va_D A [(h0, .inr (0, [x0, x1, x2, .ref t0, .int (nI n0), x5, x6, x7, x8, x9])), (t0, .inl (G.2.2.1 1, 800, .inl (f0))), (q1, .inl (G.2.2.1 0, 5, .inl (fun _ => 0)))] := hD
  refine lv_dup hx hb (show decode cX0_feed 18 = .ok (.dup, 1) by decide +kernel) rfl ?_
  refine lv_iconst (v := 0) hx hb (show decode cX0_feed 19 = .ok (.iconst 0, 1) by decide +kernel) (by decide) ?_
  refine lv_iload_n hx hb (show decode cX0_feed 20 = .ok (.iload_n 1, 1) by decide +kernel) rfl (lv_at hl 1 rfl) ?_
  refine va_iast hx hb hK.1 hP hD hS 2 0 rfl rfl (zin_lit rfl) (show decode cX0_feed 21 = .ok (.iastore, 1) by decide +kernel) (fun H locs hP hD hS => ?_)
  have hP : va_P G.1 zcl [(h0, .inr (0, [x0, x1, x2, .ref t0, .int (nI n0), x5, x6, x7, x8, x9])), (t0, .inl (G.2.2.1 1, 800, .inl (f0))), (q1, .inl (G.2.2.1 0, 5, .inl (upd (fun _ => 0) 0 p0)))] H := hP
  have hD : va_D A [(h0, .inr (0, [x0, x1, x2, .ref t0, .int (nI n0), x5, x6, x7, x8, x9])), (t0, .inl (G.2.2.1 1, 800, .inl (f0))), (q1, .inl (G.2.2.1 0, 5, .inl (upd (fun _ => 0) 0 p0)))] := hD
  refine lv_dup hx hb (show decode cX0_feed 22 = .ok (.dup, 1) by decide +kernel) rfl ?_
  refine lv_iconst (v := 1) hx hb (show decode cX0_feed 23 = .ok (.iconst 1, 1) by decide +kernel) (by decide) ?_
  refine lv_iload_n hx hb (show decode cX0_feed 24 = .ok (.iload_n 2, 1) by decide +kernel) rfl (lv_at hl 2 rfl) ?_
  refine va_iast hx hb hK.1 hP hD hS 2 0 rfl rfl (zin_lit rfl) (show decode cX0_feed 25 = .ok (.iastore, 1) by decide +kernel) (fun H locs hP hD hS => ?_)
  have hP : va_P G.1 zcl [(h0, .inr (0, [x0, x1, x2, .ref t0, .int (nI n0), x5, x6, x7, x8, x9])), (t0, .inl (G.2.2.1 1, 800, .inl (f0))), (q1, .inl (G.2.2.1 0, 5, .inl (upd (upd (fun _ => 0) 0 p0) 1 p1)))] H := hP
  have hD : va_D A [(h0, .inr (0, [x0, x1, x2, .ref t0, .int (nI n0), x5, x6, x7, x8, x9])), (t0, .inl (G.2.2.1 1, 800, .inl (f0))), (q1, .inl (G.2.2.1 0, 5, .inl (upd (upd (fun _ => 0) 0 p0) 1 p1)))] := hD
  refine lv_dup hx hb (show decode cX0_feed 26 = .ok (.dup, 1) by decide +kernel) rfl ?_
  refine lv_iconst (v := 2) hx hb (show decode cX0_feed 27 = .ok (.iconst 2, 1) by decide +kernel) (by decide) ?_
  refine lv_iload_n hx hb (show decode cX0_feed 28 = .ok (.iload_n 3, 1) by decide +kernel) rfl (lv_at hl 3 rfl) ?_
  refine va_iast hx hb hK.1 hP hD hS 2 0 rfl rfl (zin_lit rfl) (show decode cX0_feed 29 = .ok (.iastore, 1) by decide +kernel) (fun H locs hP hD hS => ?_)
  have hP : va_P G.1 zcl [(h0, .inr (0, [x0, x1, x2, .ref t0, .int (nI n0), x5, x6, x7, x8, x9])), (t0, .inl (G.2.2.1 1, 800, .inl (f0))), (q1, .inl (G.2.2.1 0, 5, .inl (upd (upd (upd (fun _ => 0) 0 p0) 1 p1) 2 p2)))] H := hP
  have hD : va_D A [(h0, .inr (0, [x0, x1, x2, .ref t0, .int (nI n0), x5, x6, x7, x8, x9])), (t0, .inl (G.2.2.1 1, 800, .inl (f0))), (q1, .inl (G.2.2.1 0, 5, .inl (upd (upd (upd (fun _ => 0) 0 p0) 1 p1) 2 p2)))] := hD
  refine lv_dup hx hb (show decode cX0_feed 30 = .ok (.dup, 1) by decide +kernel) rfl ?_
  refine lv_iconst (v := 3) hx hb (show decode cX0_feed 31 = .ok (.iconst 3, 1) by decide +kernel) (by decide) ?_
  refine lv_iload hx hb (show decode cX0_feed 32 = .ok (.iload 4, 2) by decide +kernel) (lv_at hl 4 rfl) ?_
  refine va_iast hx hb hK.1 hP hD hS 2 0 rfl rfl (zin_lit rfl) (show decode cX0_feed 34 = .ok (.iastore, 1) by decide +kernel) (fun H locs hP hD hS => ?_)
  have hP : va_P G.1 zcl [(h0, .inr (0, [x0, x1, x2, .ref t0, .int (nI n0), x5, x6, x7, x8, x9])), (t0, .inl (G.2.2.1 1, 800, .inl (f0))), (q1, .inl (G.2.2.1 0, 5, .inl (upd (upd (upd (upd (fun _ => 0) 0 p0) 1 p1) 2 p2) 3 p3)))] H := hP
  have hD : va_D A [(h0, .inr (0, [x0, x1, x2, .ref t0, .int (nI n0), x5, x6, x7, x8, x9])), (t0, .inl (G.2.2.1 1, 800, .inl (f0))), (q1, .inl (G.2.2.1 0, 5, .inl (upd (upd (upd (upd (fun _ => 0) 0 p0) 1 p1) 2 p2) 3 p3)))] := hD
  refine lv_dup hx hb (show decode cX0_feed 35 = .ok (.dup, 1) by decide +kernel) rfl ?_
  refine lv_iconst (v := 4) hx hb (show decode cX0_feed 36 = .ok (.iconst 4, 1) by decide +kernel) (by decide) ?_
  refine lv_iload hx hb (show decode cX0_feed 37 = .ok (.iload 5, 2) by decide +kernel) (lv_at hl 5 rfl) ?_
  refine va_iast hx hb hK.1 hP hD hS 2 0 rfl rfl (zin_lit rfl) (show decode cX0_feed 39 = .ok (.iastore, 1) by decide +kernel) (fun H locs hP hD hS => ?_)
  have hP : va_P G.1 zcl [(h0, .inr (0, [x0, x1, x2, .ref t0, .int (nI n0), x5, x6, x7, x8, x9])), (t0, .inl (G.2.2.1 1, 800, .inl (f0))), (q1, .inl (G.2.2.1 0, 5, .inl (upd (upd (upd (upd (upd (fun _ => 0) 0 p0) 1 p1) 2 p2) 3 p3) 4 p4)))] H := hP
  have hD : va_D A [(h0, .inr (0, [x0, x1, x2, .ref t0, .int (nI n0), x5, x6, x7, x8, x9])), (t0, .inl (G.2.2.1 1, 800, .inl (f0))), (q1, .inl (G.2.2.1 0, 5, .inl (upd (upd (upd (upd (upd (fun _ => 0) 0 p0) 1 p1) 2 p2) 3 p3) 4 p4)))] := hD
  refine lv_astore hx hb (show decode cX0_feed 40 = .ok (.astore 6, 2) by decide +kernel) hl (by decide) rfl (fun ls hl => ?_)
  have hl : lv_has ls 8 [(6, .ref q1), (0, .ref h0), (1, .int p0), (2, .int p1), (3, .int p2), (4, .int p3), (5, .int p4)] := hl
  refine lv_iconst (v := 0) hx hb (show decode cX0_feed 42 = .ok (.iconst 0, 1) by decide +kernel) (by decide) ?_
  refine lv_istore hx hb (show decode cX0_feed 43 = .ok (.istore 7, 2) by decide +kernel) hl (by decide) rfl (fun ls hl => ?_)
  have hl : lv_has ls 8 [(7, .int 0), (6, .ref q1), (0, .ref h0), (1, .int p0), (2, .int p1), (3, .int p2), (4, .int p3), (5, .int p4)] := hl
  have hP := (hP.arr 2 (g := fun k => if k = 0 then p0 else if k = 1 then p1 else if k = 2 then p2 else if k = 3 then p3 else p4) rfl (feed5.2)).arr 1 (g := fun j => if n0 ≤ j ∧ j < n0 + 0 then fiveB p0 p1 p2 p3 p4 (j - n0) else f0 j) rfl (fun j _ => (if_neg (by omega)).symm)
  have hD := (hD.set (p := 2) (e := .inl (G.2.2.1 0, 5, .inl (fun k => if k = 0 then p0 else if k = 1 then p1 else if k = 2 then p2 else if k = 3 then p3 else p4))) rfl).set (p := 1) (e := .inl (G.2.2.1 1, 800, .inl (fun j => if n0 ≤ j ∧ j < n0 + 0 then fiveB p0 p1 p2 p3 p4 (j - n0) else f0 j))) rfl
  refine r_feed_loop hx hb hts hown hK (show n0 + 20 ≤ 800 by omega) (fun H locs ls hP hD hS hl => ?_) 20 0 rfl H locs ls hP hD hS hl
  have hP : va_P G.1 zcl [(h0, .inr (0, [x0, x1, x2, .ref t0, .int (nI n0), x5, x6, x7, x8, x9])), (t0, .inl (G.2.2.1 1, 800, .inl (fun j => if n0 ≤ j ∧ j < n0 + 20 then fiveB p0 p1 p2 p3 p4 (j - n0) else f0 j))), (q1, .inl (G.2.2.1 0, 5, .inl (fun k => if k = 0 then p0 else if k = 1 then p1 else if k = 2 then p2 else if k = 3 then p3 else p4)))] H := hP
  have hD : va_D A [(h0, .inr (0, [x0, x1, x2, .ref t0, .int (nI n0), x5, x6, x7, x8, x9])), (t0, .inl (G.2.2.1 1, 800, .inl (fun j => if n0 ≤ j ∧ j < n0 + 20 then fiveB p0 p1 p2 p3 p4 (j - n0) else f0 j))), (q1, .inl (G.2.2.1 0, 5, .inl (fun k => if k = 0 then p0 else if k = 1 then p1 else if k = 2 then p2 else if k = 3 then p3 else p4)))] := hD
  refine lv_aload_n hx hb (show decode cX0_feed 89 = .ok (.aload_n 0, 1) by decide +kernel) rfl (lv_at hl 2 rfl) ?_
  refine lv_dup hx hb (show decode cX0_feed 90 = .ok (.dup, 1) by decide +kernel) rfl ?_
  refine va_get (D := G.1) (ci := 0) (v := .int (nI n0)) (C := RX0) (T := TX0) (N := 10) hx hb hts in_X0 hown hK.1 hP 0 rfl rfl 4 (by decide) (hts _ q607) (fun _ h9 => h9) rfl (show decode cX0_feed 91 = .ok (.getfield 86, 3) by decide +kernel) ?_
  refine lv_bipush (v := 20) hx hb (show decode cX0_feed 94 = .ok (.bipush 20, 2) by decide +kernel) (by decide) ?_
  refine lv_iadd hx hb (show decode cX0_feed 96 = .ok (.iadd, 1) by decide +kernel) ?_
  refine lv_topi (fun yy_ ey_ => ?_)
  obtain rfl : yy_ = nI (n0 + 20) := ey_.trans (nI_add n0 20)
  refine va_put (D := G.1) (ci := 0) (v := .int (nI (n0 + 20))) (ty := .int) (C := RX0) (T := TX0) (N := 10) hx hb hts in_X0 tyX0 tyX0_ok nmX0 hown hK.1 hP hD hS 0 rfl rfl 4 (by decide) (hts _ q607) (fun _ h9 => h9) rfl (by decide +kernel) rfl rfl (Nat.le_of_ble_eq_true rfl) (show decode cX0_feed 97 = .ok (.putfield 86, 3) by decide +kernel) (fun H locs hP hD hS => ?_)
  have hP : va_P G.1 zcl [(h0, .inr (0, [x0, x1, x2, .ref t0, .int (nI (n0 + 20)), x5, x6, x7, x8, x9])), (t0, .inl (G.2.2.1 1, 800, .inl (fun j => if n0 ≤ j ∧ j < n0 + 20 then fiveB p0 p1 p2 p3 p4 (j - n0) else f0 j))), (q1, .inl (G.2.2.1 0, 5, .inl (fun k => if k = 0 then p0 else if k = 1 then p1 else if k = 2 then p2 else if k = 3 then p3 else p4)))] H := hP
  have hD : va_D A [(h0, .inr (0, [x0, x1, x2, .ref t0, .int (nI (n0 + 20)), x5, x6, x7, x8, x9])), (t0, .inl (G.2.2.1 1, 800, .inl (fun j => if n0 ≤ j ∧ j < n0 + 20 then fiveB p0 p1 p2 p3 p4 (j - n0) else f0 j))), (q1, .inl (G.2.2.1 0, 5, .inl (fun k => if k = 0 then p0 else if k = 1 then p1 else if k = 2 then p2 else if k = 3 then p3 else p4)))] := hD
  refine lv_aload_n hx hb (show decode cX0_feed 100 = .ok (.aload_n 0, 1) by decide +kernel) rfl (lv_at hl 2 rfl) ?_
  refine va_get (D := G.1) (ci := 0) (v := .int (nI (n0 + 20))) (C := RX0) (T := TX0) (N := 10) hx hb hts in_X0 hown hK.1 hP 0 rfl rfl 4 (by decide) (hts _ q607) (fun _ h9 => h9) rfl (show decode cX0_feed 101 = .ok (.getfield 86, 3) by decide +kernel) ?_
  have hP9 := hP.sub (ws' := [(h0, .inr (0, [x0, x1, x2, .ref t0, .int (nI (n0 + 20)), x5, x6, x7, x8, x9])), (t0, .inl (G.2.2.1 1, 800, .inl (fun j => if n0 ≤ j ∧ j < n0 + 20 then fiveB p0 p1 p2 p3 p4 (j - n0) else f0 j))), (q1, .inl (G.2.2.1 0, 5, .inl (fun k => if k = 0 then p0 else if k = 1 then p1 else if k = 2 then p2 else if k = 3 then p3 else p4)))]) [0, 1, 2] rfl
  have hD9 := hD.sub (ws' := [(h0, .inr (0, [x0, x1, x2, .ref t0, .int (nI (n0 + 20)), x5, x6, x7, x8, x9])), (t0, .inl (G.2.2.1 1, 800, .inl (fun j => if n0 ≤ j ∧ j < n0 + 20 then fiveB p0 p1 p2 p3 p4 (j - n0) else f0 j))), (q1, .inl (G.2.2.1 0, 5, .inl (fun k => if k = 0 then p0 else if k = 1 then p1 else if k = 2 then p2 else if k = 3 then p3 else p4)))]) [0, 1, 2] (by decide) rfl
  refine W.widen (k := 1) (n := 5) (by first | decide | omega) (by first | decide | omega) ?_
  exact W.iret (v := (nI (n0 + 20))) hx hb hr (fun t ht hW => ⟨⟨(nI (n0 + 20)), q1, rfl, rfl, by rw [ht]; exact hP9, hD9⟩, hS.F ht⟩) hS.2.2 (show decode cX0_feed 104 = .ok (.ireturn, 1) by decide +kernel)

