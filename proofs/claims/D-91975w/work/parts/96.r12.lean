/-! RAW: makers, lists -/
/-- the cells stay when the heap grows -/
theorem va_P.more {D : va_G} {cl : List vw_C} {ws : va_W} {H H1 : Heap} (h : va_P D cl ws H) (hq : ∀ q : Nat, q < H.size → H1[q]? = H[q]?) : va_P D cl ws H1 := by
  intro k q hk
  have h0 := h k q hk
  obtain ⟨a, x | ⟨ci, fs⟩⟩ := q
  · have h0 : H[a]? = some (vp_cell x.1 x.2) := h0
    show H1[a]? = some (vp_cell x.1 x.2)
    rw [hq a (Array.getElem?_eq_some_iff.mp h0).1]; exact h0
  · obtain ⟨r, g1, cell, q1, q2⟩ := h0
    exact ⟨r, g1, cell, by rw [hq a (Array.getElem?_eq_some_iff.mp q1).1]; exact q1, q2⟩
theorem r_tb {s : State} {G : zG} {args : Array Value} {L : List Cond} (hK : zK zcl G s) (hts : ∀ w ∈ lw_all, w.before args s = true) (h : (L.all fun w => decide (w ∈ lw_all) || (zNWok w && decide (w ∈ lw_tbl) && w.onTables)) = true) : ∀ w ∈ L, w.before args s = true := by
  intro w hw
  have h1 := List.all_eq_true.mp h w hw
  simp only [Bool.or_eq_true, Bool.and_eq_true, decide_eq_true_eq] at h1
  rcases h1 with h1 | ⟨⟨h1, h2⟩, h3⟩
  · exact hts w h1
  · exact (hK.2.1 w h2 h1).use h3

set_option maxHeartbeats 4000000 in
set_option maxRecDepth 100000 in
theorem rX1_begins_0n (l : Launch) (hl0 : l.stackTraces = false) (G : zG) (d sz : Nat) (h0 : Nat) (r0 : Value) (v0 : Int32) (hn : v0 < 0) : vx_Met l yX1_begins (Cond.codeWith yX1_begins cX1_begins 4 (some .boolean) [(0, 65, 68, 15)] :: lw_all) (eRoom (d + 220) 3 54) (rPc G [.ref h0, .int 0, .int v0] [(h0, .inr (1, [r0]))] sz) (va_Qi (fun (r : Int32) _ => r = 0) (rB G (fun _ : Unit => [(h0, .inr (1, [r0]))]) (va_A [(h0, .inr (1, [r0]))] sz)) (va_A [(h0, .inr (1, [r0]))] sz)) (fun _ _ _ _ => False) 3 54 (va_A [(h0, .inr (1, [r0]))] sz) := by
  refine vx_ofWH (cc := cX1_begins) (maxL := 4) (ret := (some .boolean)) (hh := [(0, 65, 68, 15)]) (by decide) rfl ?_
  intro p e s m args below meth c s₁ B hml hv
  obtain ⟨rfl, hsz, hP, hK, hST, hD0⟩ := hv
  have hx := B.exec
  have hb := B.bytes
  have hr := B.returns
  have hts := atoms_spec (ws := (Cond.codeWith yX1_begins cX1_begins 4 (some .boolean) [(0, 65, 68, 15)] :: lw_all)) B.pre
  have htb := vx_table (x := yX1_begins) B (hts _ List.mem_cons_self)
  have hts : ∀ w ∈ lw_all, w.before _ s = true := fun w h => hts w (List.mem_cons_of_mem _ h)
  have hown : s.vm.findClass RX1 = some m.cls := findClass_of_methodNamed B.named
  have hlocks := B.notSynchronized
  subst hsz
  have hD := hD0.self (sz := s.heap.size)
  generalize hAe : va_A [(h0, .inr (1, [r0]))] s.heap.size = A at hD hST ⊢
  have hA : ∀ q : Nat, s.heap.size ≤ q → A q := fun q h => by rw [← hAe]; exact Or.inr h
  have hS : va_S A s.heap s.heap [] := va_S.rf
  have hP : va_P G.1 zcl [(h0, .inr (1, [r0]))] s.heap := hP
  have hl := lv_entry ([.ref h0, .int 0, .int v0]) (n := 4) (Nat.le_of_ble_eq_true rfl)
  rw [lg_entry_eq]
  generalize (lg_sl ([.ref h0, .int 0, .int v0]) ++ List.replicate (4 - (lg_sl ([.ref h0, .int 0, .int v0])).length) Slot.unset).toArray = ls at hl ⊢
  have hl : lv_has ls 4 [(0, .ref h0), (1, .int 0), (2, .int v0)] := hl
  refine lv_iload_n hx hb (show decode cX1_begins 0 = .ok (.iload_n 1, 1) by decide +kernel) rfl (lv_at hl 1 rfl) ?_
  refine lv_tableIn (tgt := 28) hx hb (show decode cX1_begins 1 = .ok (.tableswitch 57 0 2 #[27, 37, 47], 27) by decide +kernel) (by decide) (by decide) rfl (by decide) ?_
  refine lv_aload_n hx hb (show decode cX1_begins 28 = .ok (.aload_n 0, 1) by decide +kernel) rfl (lv_at hl 0 rfl) ?_
  refine lv_iload_n hx hb (show decode cX1_begins 29 = .ok (.iload_n 2, 1) by decide +kernel) rfl (lv_at hl 2 rfl) ?_
  refine vx_newarrayZ hx hb hn (show decode cX1_begins 30 = .ok (.newarray .byte, 2) by decide +kernel) (fun tx htx => ?_)
  subst htx
  refine vx_vm (cls := "java/lang/NegativeArraySizeException") (names := ["java/lang/RuntimeException", "java/lang/Exception"]) (nb := 44) hx hl0 (A := A) (by decide) (by decide) (by decide) (by decide) (r_tb hK hts (by decide +kernel)) (by decide +kernel) hST.2.2.2.1 hST.2.2.2.2.1 hS (hl.1.trans hml.symm) (negative_text_modelled hn) (negative_text_bytes v0) (by decide) (by show _ < d + 220 + 1; simp) (by show _ ≤ 48 * (d + 220 + 1); simp [Value.category]; omega) (by decide) (by show _ ≤ 3; decide) (by show _ ≤ 54; decide) hlocks (fun H1 q9 ce hz1 hq1 hS1 hce hcv hcl => ?_)
  have hP := hP.more hq1
  refine vx_catch hown [] ⟨0, 65, 68, 15⟩ [] htb (fun z hz => by cases hz) (by decide) (by decide) (hts _ q190) ((hK.2.1 _ q255 rfl).use rfl) hce hcv hcl ?_
  have hS := hS1
  generalize H1 = H at hP hS ⊢
  have hP : va_P G.1 zcl [(h0, .inr (1, [r0]))] H := hP
  have hD : va_D A [(h0, .inr (1, [r0]))] := hD
  refine lv_astore_n hx hb (show decode cX1_begins 68 = .ok (.astore_n 3, 1) by decide +kernel) rfl hl (by decide) rfl (fun ls hl => ?_)
  have hl : lv_has ls 4 [(3, .ref q9), (0, .ref h0), (1, .int 0), (2, .int v0)] := hl
  refine lv_iconst (v := 0) hx hb (show decode cX1_begins 69 = .ok (.iconst 0, 1) by decide +kernel) (by decide) ?_
  have hP9 := hP.sub (ws' := [(h0, .inr (1, [r0]))]) [0] rfl
  have hD9 := hD.sub (ws' := [(h0, .inr (1, [r0]))]) [0] (by decide) rfl
  refine vx_ret ?_
  refine W.widen (k := 3) (n := 54) (by first | decide | omega) (by first | decide | omega) ?_
  exact W.zret (v := 0) hx hb hr rfl (fun t ht hW => ⟨⟨0, (), rfl, rfl, by rw [ht]; exact hP9, hD9⟩, hS.F ht⟩) hS.2.2 (show decode cX1_begins 70 = .ok (.ireturn, 1) by decide +kernel)

set_option maxHeartbeats 4000000 in
set_option maxRecDepth 100000 in
theorem rX1_begins_1n (l : Launch) (hl0 : l.stackTraces = false) (G : zG) (d sz : Nat) (h0 : Nat) (r0 : Value) (v0 : Int32) (hn : v0 < 0) : vx_Met l yX1_begins (Cond.codeWith yX1_begins cX1_begins 4 (some .boolean) [(0, 65, 68, 15)] :: lw_all) (eRoom (d + 220) 3 54) (rPc G [.ref h0, .int 1, .int v0] [(h0, .inr (1, [r0]))] sz) (va_Qi (fun (r : Int32) _ => r = 0) (rB G (fun _ : Unit => [(h0, .inr (1, [r0]))]) (va_A [(h0, .inr (1, [r0]))] sz)) (va_A [(h0, .inr (1, [r0]))] sz)) (fun _ _ _ _ => False) 3 54 (va_A [(h0, .inr (1, [r0]))] sz) := by
  refine vx_ofWH (cc := cX1_begins) (maxL := 4) (ret := (some .boolean)) (hh := [(0, 65, 68, 15)]) (by decide) rfl ?_
  intro p e s m args below meth c s₁ B hml hv
  obtain ⟨rfl, hsz, hP, hK, hST, hD0⟩ := hv
  have hx := B.exec
  have hb := B.bytes
  have hr := B.returns
  have hts := atoms_spec (ws := (Cond.codeWith yX1_begins cX1_begins 4 (some .boolean) [(0, 65, 68, 15)] :: lw_all)) B.pre
  have htb := vx_table (x := yX1_begins) B (hts _ List.mem_cons_self)
  have hts : ∀ w ∈ lw_all, w.before _ s = true := fun w h => hts w (List.mem_cons_of_mem _ h)
  have hown : s.vm.findClass RX1 = some m.cls := findClass_of_methodNamed B.named
  have hlocks := B.notSynchronized
  subst hsz
  have hD := hD0.self (sz := s.heap.size)
  generalize hAe : va_A [(h0, .inr (1, [r0]))] s.heap.size = A at hD hST ⊢
  have hA : ∀ q : Nat, s.heap.size ≤ q → A q := fun q h => by rw [← hAe]; exact Or.inr h
  have hS : va_S A s.heap s.heap [] := va_S.rf
  have hP : va_P G.1 zcl [(h0, .inr (1, [r0]))] s.heap := hP
  have hl := lv_entry ([.ref h0, .int 1, .int v0]) (n := 4) (Nat.le_of_ble_eq_true rfl)
  rw [lg_entry_eq]
  generalize (lg_sl ([.ref h0, .int 1, .int v0]) ++ List.replicate (4 - (lg_sl ([.ref h0, .int 1, .int v0])).length) Slot.unset).toArray = ls at hl ⊢
  have hl : lv_has ls 4 [(0, .ref h0), (1, .int 1), (2, .int v0)] := hl
  refine lv_iload_n hx hb (show decode cX1_begins 0 = .ok (.iload_n 1, 1) by decide +kernel) rfl (lv_at hl 1 rfl) ?_
  refine lv_tableIn (tgt := 38) hx hb (show decode cX1_begins 1 = .ok (.tableswitch 57 0 2 #[27, 37, 47], 27) by decide +kernel) (by decide) (by decide) rfl (by decide) ?_
  refine lv_aload_n hx hb (show decode cX1_begins 38 = .ok (.aload_n 0, 1) by decide +kernel) rfl (lv_at hl 0 rfl) ?_
  refine lv_iload_n hx hb (show decode cX1_begins 39 = .ok (.iload_n 2, 1) by decide +kernel) rfl (lv_at hl 2 rfl) ?_
  refine vx_newarrayZ hx hb hn (show decode cX1_begins 40 = .ok (.newarray .short, 2) by decide +kernel) (fun tx htx => ?_)
  subst htx
  refine vx_vm (cls := "java/lang/NegativeArraySizeException") (names := ["java/lang/RuntimeException", "java/lang/Exception"]) (nb := 44) hx hl0 (A := A) (by decide) (by decide) (by decide) (by decide) (r_tb hK hts (by decide +kernel)) (by decide +kernel) hST.2.2.2.1 hST.2.2.2.2.1 hS (hl.1.trans hml.symm) (negative_text_modelled hn) (negative_text_bytes v0) (by decide) (by show _ < d + 220 + 1; simp) (by show _ ≤ 48 * (d + 220 + 1); simp [Value.category]; omega) (by decide) (by show _ ≤ 3; decide) (by show _ ≤ 54; decide) hlocks (fun H1 q9 ce hz1 hq1 hS1 hce hcv hcl => ?_)
  have hP := hP.more hq1
  refine vx_catch hown [] ⟨0, 65, 68, 15⟩ [] htb (fun z hz => by cases hz) (by decide) (by decide) (hts _ q190) ((hK.2.1 _ q255 rfl).use rfl) hce hcv hcl ?_
  have hS := hS1
  generalize H1 = H at hP hS ⊢
  have hP : va_P G.1 zcl [(h0, .inr (1, [r0]))] H := hP
  have hD : va_D A [(h0, .inr (1, [r0]))] := hD
  refine lv_astore_n hx hb (show decode cX1_begins 68 = .ok (.astore_n 3, 1) by decide +kernel) rfl hl (by decide) rfl (fun ls hl => ?_)
  have hl : lv_has ls 4 [(3, .ref q9), (0, .ref h0), (1, .int 1), (2, .int v0)] := hl
  refine lv_iconst (v := 0) hx hb (show decode cX1_begins 69 = .ok (.iconst 0, 1) by decide +kernel) (by decide) ?_
  have hP9 := hP.sub (ws' := [(h0, .inr (1, [r0]))]) [0] rfl
  have hD9 := hD.sub (ws' := [(h0, .inr (1, [r0]))]) [0] (by decide) rfl
  refine vx_ret ?_
  refine W.widen (k := 3) (n := 54) (by first | decide | omega) (by first | decide | omega) ?_
  exact W.zret (v := 0) hx hb hr rfl (fun t ht hW => ⟨⟨0, (), rfl, rfl, by rw [ht]; exact hP9, hD9⟩, hS.F ht⟩) hS.2.2 (show decode cX1_begins 70 = .ok (.ireturn, 1) by decide +kernel)

set_option maxHeartbeats 4000000 in
set_option maxRecDepth 100000 in
theorem rX1_begins_2n (l : Launch) (hl0 : l.stackTraces = false) (G : zG) (d sz : Nat) (h0 : Nat) (r0 : Value) (v0 : Int32) (hn : v0 < 0) : vx_Met l yX1_begins (Cond.codeWith yX1_begins cX1_begins 4 (some .boolean) [(0, 65, 68, 15)] :: lw_all) (eRoom (d + 220) 3 54) (rPc G [.ref h0, .int 2, .int v0] [(h0, .inr (1, [r0]))] sz) (va_Qi (fun (r : Int32) _ => r = 0) (rB G (fun _ : Unit => [(h0, .inr (1, [r0]))]) (va_A [(h0, .inr (1, [r0]))] sz)) (va_A [(h0, .inr (1, [r0]))] sz)) (fun _ _ _ _ => False) 3 54 (va_A [(h0, .inr (1, [r0]))] sz) := by
  refine vx_ofWH (cc := cX1_begins) (maxL := 4) (ret := (some .boolean)) (hh := [(0, 65, 68, 15)]) (by decide) rfl ?_
  intro p e s m args below meth c s₁ B hml hv
  obtain ⟨rfl, hsz, hP, hK, hST, hD0⟩ := hv
  have hx := B.exec
  have hb := B.bytes
  have hr := B.returns
  have hts := atoms_spec (ws := (Cond.codeWith yX1_begins cX1_begins 4 (some .boolean) [(0, 65, 68, 15)] :: lw_all)) B.pre
  have htb := vx_table (x := yX1_begins) B (hts _ List.mem_cons_self)
  have hts : ∀ w ∈ lw_all, w.before _ s = true := fun w h => hts w (List.mem_cons_of_mem _ h)
  have hown : s.vm.findClass RX1 = some m.cls := findClass_of_methodNamed B.named
  have hlocks := B.notSynchronized
  subst hsz
  have hD := hD0.self (sz := s.heap.size)
  generalize hAe : va_A [(h0, .inr (1, [r0]))] s.heap.size = A at hD hST ⊢
  have hA : ∀ q : Nat, s.heap.size ≤ q → A q := fun q h => by rw [← hAe]; exact Or.inr h
  have hS : va_S A s.heap s.heap [] := va_S.rf
  have hP : va_P G.1 zcl [(h0, .inr (1, [r0]))] s.heap := hP
  have hl := lv_entry ([.ref h0, .int 2, .int v0]) (n := 4) (Nat.le_of_ble_eq_true rfl)
  rw [lg_entry_eq]
  generalize (lg_sl ([.ref h0, .int 2, .int v0]) ++ List.replicate (4 - (lg_sl ([.ref h0, .int 2, .int v0])).length) Slot.unset).toArray = ls at hl ⊢
  have hl : lv_has ls 4 [(0, .ref h0), (1, .int 2), (2, .int v0)] := hl
  refine lv_iload_n hx hb (show decode cX1_begins 0 = .ok (.iload_n 1, 1) by decide +kernel) rfl (lv_at hl 1 rfl) ?_
  refine lv_tableIn (tgt := 48) hx hb (show decode cX1_begins 1 = .ok (.tableswitch 57 0 2 #[27, 37, 47], 27) by decide +kernel) (by decide) (by decide) rfl (by decide) ?_
  refine lv_aload_n hx hb (show decode cX1_begins 48 = .ok (.aload_n 0, 1) by decide +kernel) rfl (lv_at hl 0 rfl) ?_
  refine lv_iload_n hx hb (show decode cX1_begins 49 = .ok (.iload_n 2, 1) by decide +kernel) rfl (lv_at hl 2 rfl) ?_
  refine vx_newarrayZ hx hb hn (show decode cX1_begins 50 = .ok (.newarray .int, 2) by decide +kernel) (fun tx htx => ?_)
  subst htx
  refine vx_vm (cls := "java/lang/NegativeArraySizeException") (names := ["java/lang/RuntimeException", "java/lang/Exception"]) (nb := 44) hx hl0 (A := A) (by decide) (by decide) (by decide) (by decide) (r_tb hK hts (by decide +kernel)) (by decide +kernel) hST.2.2.2.1 hST.2.2.2.2.1 hS (hl.1.trans hml.symm) (negative_text_modelled hn) (negative_text_bytes v0) (by decide) (by show _ < d + 220 + 1; simp) (by show _ ≤ 48 * (d + 220 + 1); simp [Value.category]; omega) (by decide) (by show _ ≤ 3; decide) (by show _ ≤ 54; decide) hlocks (fun H1 q9 ce hz1 hq1 hS1 hce hcv hcl => ?_)
  have hP := hP.more hq1
  refine vx_catch hown [] ⟨0, 65, 68, 15⟩ [] htb (fun z hz => by cases hz) (by decide) (by decide) (hts _ q190) ((hK.2.1 _ q255 rfl).use rfl) hce hcv hcl ?_
  have hS := hS1
  generalize H1 = H at hP hS ⊢
  have hP : va_P G.1 zcl [(h0, .inr (1, [r0]))] H := hP
  have hD : va_D A [(h0, .inr (1, [r0]))] := hD
  refine lv_astore_n hx hb (show decode cX1_begins 68 = .ok (.astore_n 3, 1) by decide +kernel) rfl hl (by decide) rfl (fun ls hl => ?_)
  have hl : lv_has ls 4 [(3, .ref q9), (0, .ref h0), (1, .int 2), (2, .int v0)] := hl
  refine lv_iconst (v := 0) hx hb (show decode cX1_begins 69 = .ok (.iconst 0, 1) by decide +kernel) (by decide) ?_
  have hP9 := hP.sub (ws' := [(h0, .inr (1, [r0]))]) [0] rfl
  have hD9 := hD.sub (ws' := [(h0, .inr (1, [r0]))]) [0] (by decide) rfl
  refine vx_ret ?_
  refine W.widen (k := 3) (n := 54) (by first | decide | omega) (by first | decide | omega) ?_
  exact W.zret (v := 0) hx hb hr rfl (fun t ht hW => ⟨⟨0, (), rfl, rfl, by rw [ht]; exact hP9, hD9⟩, hS.F ht⟩) hS.2.2 (show decode cX1_begins 70 = .ok (.ireturn, 1) by decide +kernel)

set_option maxHeartbeats 4000000 in
set_option maxRecDepth 100000 in
theorem rX1_begins_3n (l : Launch) (hl0 : l.stackTraces = false) (G : zG) (d sz : Nat) (h0 : Nat) (r0 : Value) (v0 : Int32) (hn : v0 < 0) : vx_Met l yX1_begins (Cond.codeWith yX1_begins cX1_begins 4 (some .boolean) [(0, 65, 68, 15)] :: lw_all) (eRoom (d + 220) 3 54) (rPc G [.ref h0, .int 3, .int v0] [(h0, .inr (1, [r0]))] sz) (va_Qi (fun (r : Int32) _ => r = 0) (rB G (fun _ : Unit => [(h0, .inr (1, [r0]))]) (va_A [(h0, .inr (1, [r0]))] sz)) (va_A [(h0, .inr (1, [r0]))] sz)) (fun _ _ _ _ => False) 3 54 (va_A [(h0, .inr (1, [r0]))] sz) := by
  refine vx_ofWH (cc := cX1_begins) (maxL := 4) (ret := (some .boolean)) (hh := [(0, 65, 68, 15)]) (by decide) rfl ?_
  intro p e s m args below meth c s₁ B hml hv
  obtain ⟨rfl, hsz, hP, hK, hST, hD0⟩ := hv
  have hx := B.exec
  have hb := B.bytes
  have hr := B.returns
  have hts := atoms_spec (ws := (Cond.codeWith yX1_begins cX1_begins 4 (some .boolean) [(0, 65, 68, 15)] :: lw_all)) B.pre
  have htb := vx_table (x := yX1_begins) B (hts _ List.mem_cons_self)
  have hts : ∀ w ∈ lw_all, w.before _ s = true := fun w h => hts w (List.mem_cons_of_mem _ h)
  have hown : s.vm.findClass RX1 = some m.cls := findClass_of_methodNamed B.named
  have hlocks := B.notSynchronized
  subst hsz
  have hD := hD0.self (sz := s.heap.size)
  generalize hAe : va_A [(h0, .inr (1, [r0]))] s.heap.size = A at hD hST ⊢
  have hA : ∀ q : Nat, s.heap.size ≤ q → A q := fun q h => by rw [← hAe]; exact Or.inr h
  have hS : va_S A s.heap s.heap [] := va_S.rf
  have hP : va_P G.1 zcl [(h0, .inr (1, [r0]))] s.heap := hP
  have hl := lv_entry ([.ref h0, .int 3, .int v0]) (n := 4) (Nat.le_of_ble_eq_true rfl)
  rw [lg_entry_eq]
  generalize (lg_sl ([.ref h0, .int 3, .int v0]) ++ List.replicate (4 - (lg_sl ([.ref h0, .int 3, .int v0])).length) Slot.unset).toArray = ls at hl ⊢
  have hl : lv_has ls 4 [(0, .ref h0), (1, .int 3), (2, .int v0)] := hl
  refine lv_iload_n hx hb (show decode cX1_begins 0 = .ok (.iload_n 1, 1) by decide +kernel) rfl (lv_at hl 1 rfl) ?_
  refine lv_tableOut (tgt := 58) hx hb (show decode cX1_begins 1 = .ok (.tableswitch 57 0 2 #[27, 37, 47], 27) by decide +kernel) (Or.inr (by decide)) (by decide) ?_
  refine lv_aload_n hx hb (show decode cX1_begins 58 = .ok (.aload_n 0, 1) by decide +kernel) rfl (lv_at hl 0 rfl) ?_
  refine lv_iload_n hx hb (show decode cX1_begins 59 = .ok (.iload_n 2, 1) by decide +kernel) rfl (lv_at hl 2 rfl) ?_
  refine vx_newarrayZ hx hb hn (show decode cX1_begins 60 = .ok (.newarray .long, 2) by decide +kernel) (fun tx htx => ?_)
  subst htx
  refine vx_vm (cls := "java/lang/NegativeArraySizeException") (names := ["java/lang/RuntimeException", "java/lang/Exception"]) (nb := 44) hx hl0 (A := A) (by decide) (by decide) (by decide) (by decide) (r_tb hK hts (by decide +kernel)) (by decide +kernel) hST.2.2.2.1 hST.2.2.2.2.1 hS (hl.1.trans hml.symm) (negative_text_modelled hn) (negative_text_bytes v0) (by decide) (by show _ < d + 220 + 1; simp) (by show _ ≤ 48 * (d + 220 + 1); simp [Value.category]; omega) (by decide) (by show _ ≤ 3; decide) (by show _ ≤ 54; decide) hlocks (fun H1 q9 ce hz1 hq1 hS1 hce hcv hcl => ?_)
  have hP := hP.more hq1
  refine vx_catch hown [] ⟨0, 65, 68, 15⟩ [] htb (fun z hz => by cases hz) (by decide) (by decide) (hts _ q190) ((hK.2.1 _ q255 rfl).use rfl) hce hcv hcl ?_
  have hS := hS1
  generalize H1 = H at hP hS ⊢
  have hP : va_P G.1 zcl [(h0, .inr (1, [r0]))] H := hP
  have hD : va_D A [(h0, .inr (1, [r0]))] := hD
  refine lv_astore_n hx hb (show decode cX1_begins 68 = .ok (.astore_n 3, 1) by decide +kernel) rfl hl (by decide) rfl (fun ls hl => ?_)
  have hl : lv_has ls 4 [(3, .ref q9), (0, .ref h0), (1, .int 3), (2, .int v0)] := hl
  refine lv_iconst (v := 0) hx hb (show decode cX1_begins 69 = .ok (.iconst 0, 1) by decide +kernel) (by decide) ?_
  have hP9 := hP.sub (ws' := [(h0, .inr (1, [r0]))]) [0] rfl
  have hD9 := hD.sub (ws' := [(h0, .inr (1, [r0]))]) [0] (by decide) rfl
  refine vx_ret ?_
  refine W.widen (k := 3) (n := 54) (by first | decide | omega) (by first | decide | omega) ?_
  exact W.zret (v := 0) hx hb hr rfl (fun t ht hW => ⟨⟨0, (), rfl, rfl, by rw [ht]; exact hP9, hD9⟩, hS.F ht⟩) hS.2.2 (show decode cX1_begins 70 = .ok (.ireturn, 1) by decide +kernel)

set_option maxHeartbeats 4000000 in
set_option maxRecDepth 100000 in
theorem rX1_begins_0 (l : Launch) (hl0 : l.stackTraces = false) (G : zG) (d sz : Nat) (h0 : Nat) (r0 : Value) (n0 : Nat) (hn : n0 ≤ 60) : vx_Met l yX1_begins (Cond.codeWith yX1_begins cX1_begins 4 (some .boolean) [(0, 65, 68, 15)] :: lw_all) (eRoom d 1 n0) (rPc G [.ref h0, .int 0, .int (nI n0)] [(h0, .inr (1, [r0]))] sz) (va_Qi (fun (r : Int32) _ => r = 1) (rB G (fun q1 : Nat => [(h0, .inr (1, [.ref q1])), (q1, .inl (G.2.2.1 1, n0, .inl (fun _ => 0)))]) (va_A [(h0, .inr (1, [r0]))] sz)) (va_A [(h0, .inr (1, [r0]))] sz)) (fun _ _ _ _ => False) 1 n0 (va_A [(h0, .inr (1, [r0]))] sz) := by
  refine vx_ofWH (cc := cX1_begins) (maxL := 4) (ret := (some .boolean)) (hh := [(0, 65, 68, 15)]) (by decide) rfl ?_
  intro p e s m args below meth c s₁ B hml hv
  obtain ⟨rfl, hsz, hP, hK, hST, hD0⟩ := hv
  have hx := B.exec
  have hb := B.bytes
  have hr := B.returns
  have hts := atoms_spec (ws := (Cond.codeWith yX1_begins cX1_begins 4 (some .boolean) [(0, 65, 68, 15)] :: lw_all)) B.pre
  have htb := vx_table (x := yX1_begins) B (hts _ List.mem_cons_self)
  have hts : ∀ w ∈ lw_all, w.before _ s = true := fun w h => hts w (List.mem_cons_of_mem _ h)
  have hown : s.vm.findClass RX1 = some m.cls := findClass_of_methodNamed B.named
  have hlocks := B.notSynchronized
  subst hsz
  have hD := hD0.self (sz := s.heap.size)
  generalize hAe : va_A [(h0, .inr (1, [r0]))] s.heap.size = A at hD hST ⊢
  have hA : ∀ q : Nat, s.heap.size ≤ q → A q := fun q h => by rw [← hAe]; exact Or.inr h
  have hS : va_S A s.heap s.heap [] := va_S.rf
  have hP : va_P G.1 zcl [(h0, .inr (1, [r0]))] s.heap := hP
  have hl := lv_entry ([.ref h0, .int 0, .int (nI n0)]) (n := 4) (Nat.le_of_ble_eq_true rfl)
  rw [lg_entry_eq]
  generalize (lg_sl ([.ref h0, .int 0, .int (nI n0)]) ++ List.replicate (4 - (lg_sl ([.ref h0, .int 0, .int (nI n0)])).length) Slot.unset).toArray = ls at hl ⊢
  have hl : lv_has ls 4 [(0, .ref h0), (1, .int 0), (2, .int (nI n0))] := hl
  refine lv_iload_n hx hb (show decode cX1_begins 0 = .ok (.iload_n 1, 1) by decide +kernel) rfl (lv_at hl 1 rfl) ?_
  refine lv_tableIn (tgt := 28) hx hb (show decode cX1_begins 1 = .ok (.tableswitch 57 0 2 #[27, 37, 47], 27) by decide +kernel) (by decide) (by decide) rfl (by decide) ?_
  refine lv_aload_n hx hb (show decode cX1_begins 28 = .ok (.aload_n 0, 1) by decide +kernel) rfl (lv_at hl 0 rfl) ?_
  refine lv_iload_n hx hb (show decode cX1_begins 29 = .ok (.iload_n 2, 1) by decide +kernel) rfl (lv_at hl 2 rfl) ?_
  refine r_newa (atype := .byte) (a0 := (n0, .inl (fun _ => 0))) hx hb (hts _ q273) rfl 1 rfl (fun _ h => by cases h) hK hP hD hS hA (fun _ => rfl) (by exact nI_pos (by omega)) (nI_clamp (by omega)) (by show n0 * 1 ≤ _; omega) (by show _ ≤ 1; first | decide | omega) (by show _ ≤ n0; first | decide | omega) (show decode cX1_begins 30 = .ok (.newarray .byte, 2) by decide +kernel) (fun q1 H locs hP hD hS => ?_)
  have hP : va_P G.1 zcl [(h0, .inr (1, [r0])), (q1, .inl (G.2.2.1 1, n0, .inl (fun _ => 0)))] H := hP
  have hD : va_D A [(h0, .inr (1, [r0])), (q1, .inl (G.2.2.1 1, n0, .inl (fun _ => 0)))] := hD
  refine va_put (D := G.1) (ci := 1) (v := .ref q1) (ty := .object "java/lang/Object") (C := RX1) (T := TX1) (N := 1) hx hb hts in_X1 tyX1 tyX1_ok nmX1 hown hK.1 hP hD hS 0 rfl rfl 0 (by decide) (hts _ q388) (fun _ h9 => h9) rfl (by decide +kernel) rfl rfl (Nat.le_of_ble_eq_true rfl) (show decode cX1_begins 32 = .ok (.putfield 9, 3) by decide +kernel) (fun H locs hP hD hS => ?_)
  have hP : va_P G.1 zcl [(h0, .inr (1, [.ref q1])), (q1, .inl (G.2.2.1 1, n0, .inl (fun _ => 0)))] H := hP
  have hD : va_D A [(h0, .inr (1, [.ref q1])), (q1, .inl (G.2.2.1 1, n0, .inl (fun _ => 0)))] := hD
  refine lv_goto (tgt := 65) hx hb (show decode cX1_begins 35 = .ok (.goto 30, 3) by decide +kernel) (by decide) ?_
  refine lv_goto (tgt := 71) hx hb (show decode cX1_begins 65 = .ok (.goto 6, 3) by decide +kernel) (by decide) ?_
  refine lv_iconst (v := 1) hx hb (show decode cX1_begins 71 = .ok (.iconst 1, 1) by decide +kernel) (by decide) ?_
  have hP9 := hP.sub (ws' := [(h0, .inr (1, [.ref q1])), (q1, .inl (G.2.2.1 1, n0, .inl (fun _ => 0)))]) [0, 1] rfl
  have hD9 := hD.sub (ws' := [(h0, .inr (1, [.ref q1])), (q1, .inl (G.2.2.1 1, n0, .inl (fun _ => 0)))]) [0, 1] (by decide) rfl
  refine vx_ret ?_
  refine W.widen (k := 1) (n := n0) (by first | decide | omega) (by first | decide | omega) ?_
  exact W.zret (v := 1) hx hb hr rfl (fun t ht hW => ⟨⟨1, q1, rfl, rfl, by rw [ht]; exact hP9, hD9⟩, hS.F ht⟩) hS.2.2 (show decode cX1_begins 72 = .ok (.ireturn, 1) by decide +kernel)

set_option maxHeartbeats 4000000 in
set_option maxRecDepth 100000 in
theorem rX1_begins_1 (l : Launch) (hl0 : l.stackTraces = false) (G : zG) (d sz : Nat) (h0 : Nat) (r0 : Value) (n0 : Nat) (hn : n0 ≤ 60) : vx_Met l yX1_begins (Cond.codeWith yX1_begins cX1_begins 4 (some .boolean) [(0, 65, 68, 15)] :: lw_all) (eRoom d 1 n0) (rPc G [.ref h0, .int 1, .int (nI n0)] [(h0, .inr (1, [r0]))] sz) (va_Qi (fun (r : Int32) _ => r = 1) (rB G (fun q1 : Nat => [(h0, .inr (1, [.ref q1])), (q1, .inl (G.2.2.1 4, n0, .inl (fun _ => 0)))]) (va_A [(h0, .inr (1, [r0]))] sz)) (va_A [(h0, .inr (1, [r0]))] sz)) (fun _ _ _ _ => False) 1 n0 (va_A [(h0, .inr (1, [r0]))] sz) := by
  refine vx_ofWH (cc := cX1_begins) (maxL := 4) (ret := (some .boolean)) (hh := [(0, 65, 68, 15)]) (by decide) rfl ?_
  intro p e s m args below meth c s₁ B hml hv
  obtain ⟨rfl, hsz, hP, hK, hST, hD0⟩ := hv
  have hx := B.exec
  have hb := B.bytes
  have hr := B.returns
  have hts := atoms_spec (ws := (Cond.codeWith yX1_begins cX1_begins 4 (some .boolean) [(0, 65, 68, 15)] :: lw_all)) B.pre
  have htb := vx_table (x := yX1_begins) B (hts _ List.mem_cons_self)
  have hts : ∀ w ∈ lw_all, w.before _ s = true := fun w h => hts w (List.mem_cons_of_mem _ h)
  have hown : s.vm.findClass RX1 = some m.cls := findClass_of_methodNamed B.named
  have hlocks := B.notSynchronized
  subst hsz
  have hD := hD0.self (sz := s.heap.size)
  generalize hAe : va_A [(h0, .inr (1, [r0]))] s.heap.size = A at hD hST ⊢
  have hA : ∀ q : Nat, s.heap.size ≤ q → A q := fun q h => by rw [← hAe]; exact Or.inr h
  have hS : va_S A s.heap s.heap [] := va_S.rf
  have hP : va_P G.1 zcl [(h0, .inr (1, [r0]))] s.heap := hP
  have hl := lv_entry ([.ref h0, .int 1, .int (nI n0)]) (n := 4) (Nat.le_of_ble_eq_true rfl)
  rw [lg_entry_eq]
  generalize (lg_sl ([.ref h0, .int 1, .int (nI n0)]) ++ List.replicate (4 - (lg_sl ([.ref h0, .int 1, .int (nI n0)])).length) Slot.unset).toArray = ls at hl ⊢
  have hl : lv_has ls 4 [(0, .ref h0), (1, .int 1), (2, .int (nI n0))] := hl
  refine lv_iload_n hx hb (show decode cX1_begins 0 = .ok (.iload_n 1, 1) by decide +kernel) rfl (lv_at hl 1 rfl) ?_
  refine lv_tableIn (tgt := 38) hx hb (show decode cX1_begins 1 = .ok (.tableswitch 57 0 2 #[27, 37, 47], 27) by decide +kernel) (by decide) (by decide) rfl (by decide) ?_
  refine lv_aload_n hx hb (show decode cX1_begins 38 = .ok (.aload_n 0, 1) by decide +kernel) rfl (lv_at hl 0 rfl) ?_
  refine lv_iload_n hx hb (show decode cX1_begins 39 = .ok (.iload_n 2, 1) by decide +kernel) rfl (lv_at hl 2 rfl) ?_
  refine r_newa (atype := .short) (a0 := (n0, .inl (fun _ => 0))) hx hb (hts _ q278) rfl 4 rfl (fun _ h => by cases h) hK hP hD hS hA (fun _ => rfl) (by exact nI_pos (by omega)) (nI_clamp (by omega)) (by show n0 * 2 ≤ _; omega) (by show _ ≤ 1; first | decide | omega) (by show _ ≤ n0; first | decide | omega) (show decode cX1_begins 40 = .ok (.newarray .short, 2) by decide +kernel) (fun q1 H locs hP hD hS => ?_)
  have hP : va_P G.1 zcl [(h0, .inr (1, [r0])), (q1, .inl (G.2.2.1 4, n0, .inl (fun _ => 0)))] H := hP
  have hD : va_D A [(h0, .inr (1, [r0])), (q1, .inl (G.2.2.1 4, n0, .inl (fun _ => 0)))] := hD
  refine va_put (D := G.1) (ci := 1) (v := .ref q1) (ty := .object "java/lang/Object") (C := RX1) (T := TX1) (N := 1) hx hb hts in_X1 tyX1 tyX1_ok nmX1 hown hK.1 hP hD hS 0 rfl rfl 0 (by decide) (hts _ q388) (fun _ h9 => h9) rfl (by decide +kernel) rfl rfl (Nat.le_of_ble_eq_true rfl) (show decode cX1_begins 42 = .ok (.putfield 9, 3) by decide +kernel) (fun H locs hP hD hS => ?_)
  have hP : va_P G.1 zcl [(h0, .inr (1, [.ref q1])), (q1, .inl (G.2.2.1 4, n0, .inl (fun _ => 0)))] H := hP
  have hD : va_D A [(h0, .inr (1, [.ref q1])), (q1, .inl (G.2.2.1 4, n0, .inl (fun _ => 0)))] := hD
  refine lv_goto (tgt := 65) hx hb (show decode cX1_begins 45 = .ok (.goto 20, 3) by decide +kernel) (by decide) ?_
  refine lv_goto (tgt := 71) hx hb (show decode cX1_begins 65 = .ok (.goto 6, 3) by decide +kernel) (by decide) ?_
  refine lv_iconst (v := 1) hx hb (show decode cX1_begins 71 = .ok (.iconst 1, 1) by decide +kernel) (by decide) ?_
  have hP9 := hP.sub (ws' := [(h0, .inr (1, [.ref q1])), (q1, .inl (G.2.2.1 4, n0, .inl (fun _ => 0)))]) [0, 1] rfl
  have hD9 := hD.sub (ws' := [(h0, .inr (1, [.ref q1])), (q1, .inl (G.2.2.1 4, n0, .inl (fun _ => 0)))]) [0, 1] (by decide) rfl
  refine vx_ret ?_
  refine W.widen (k := 1) (n := n0) (by first | decide | omega) (by first | decide | omega) ?_
  exact W.zret (v := 1) hx hb hr rfl (fun t ht hW => ⟨⟨1, q1, rfl, rfl, by rw [ht]; exact hP9, hD9⟩, hS.F ht⟩) hS.2.2 (show decode cX1_begins 72 = .ok (.ireturn, 1) by decide +kernel)

set_option maxHeartbeats 4000000 in
set_option maxRecDepth 100000 in
theorem rX1_begins_2 (l : Launch) (hl0 : l.stackTraces = false) (G : zG) (d sz : Nat) (h0 : Nat) (r0 : Value) (n0 : Nat) (hn : n0 ≤ 60) : vx_Met l yX1_begins (Cond.codeWith yX1_begins cX1_begins 4 (some .boolean) [(0, 65, 68, 15)] :: lw_all) (eRoom d 1 n0) (rPc G [.ref h0, .int 2, .int (nI n0)] [(h0, .inr (1, [r0]))] sz) (va_Qi (fun (r : Int32) _ => r = 1) (rB G (fun q1 : Nat => [(h0, .inr (1, [.ref q1])), (q1, .inl (G.2.2.1 0, n0, .inl (fun _ => 0)))]) (va_A [(h0, .inr (1, [r0]))] sz)) (va_A [(h0, .inr (1, [r0]))] sz)) (fun _ _ _ _ => False) 1 n0 (va_A [(h0, .inr (1, [r0]))] sz) := by
  refine vx_ofWH (cc := cX1_begins) (maxL := 4) (ret := (some .boolean)) (hh := [(0, 65, 68, 15)]) (by decide) rfl ?_
  intro p e s m args below meth c s₁ B hml hv
  obtain ⟨rfl, hsz, hP, hK, hST, hD0⟩ := hv
  have hx := B.exec
  have hb := B.bytes
  have hr := B.returns
  have hts := atoms_spec (ws := (Cond.codeWith yX1_begins cX1_begins 4 (some .boolean) [(0, 65, 68, 15)] :: lw_all)) B.pre
  have htb := vx_table (x := yX1_begins) B (hts _ List.mem_cons_self)
  have hts : ∀ w ∈ lw_all, w.before _ s = true := fun w h => hts w (List.mem_cons_of_mem _ h)
  have hown : s.vm.findClass RX1 = some m.cls := findClass_of_methodNamed B.named
  have hlocks := B.notSynchronized
  subst hsz
  have hD := hD0.self (sz := s.heap.size)
  generalize hAe : va_A [(h0, .inr (1, [r0]))] s.heap.size = A at hD hST ⊢
  have hA : ∀ q : Nat, s.heap.size ≤ q → A q := fun q h => by rw [← hAe]; exact Or.inr h
  have hS : va_S A s.heap s.heap [] := va_S.rf
  have hP : va_P G.1 zcl [(h0, .inr (1, [r0]))] s.heap := hP
  have hl := lv_entry ([.ref h0, .int 2, .int (nI n0)]) (n := 4) (Nat.le_of_ble_eq_true rfl)
  rw [lg_entry_eq]
  generalize (lg_sl ([.ref h0, .int 2, .int (nI n0)]) ++ List.replicate (4 - (lg_sl ([.ref h0, .int 2, .int (nI n0)])).length) Slot.unset).toArray = ls at hl ⊢
  have hl : lv_has ls 4 [(0, .ref h0), (1, .int 2), (2, .int (nI n0))] := hl
  refine lv_iload_n hx hb (show decode cX1_begins 0 = .ok (.iload_n 1, 1) by decide +kernel) rfl (lv_at hl 1 rfl) ?_
  refine lv_tableIn (tgt := 48) hx hb (show decode cX1_begins 1 = .ok (.tableswitch 57 0 2 #[27, 37, 47], 27) by decide +kernel) (by decide) (by decide) rfl (by decide) ?_
  refine lv_aload_n hx hb (show decode cX1_begins 48 = .ok (.aload_n 0, 1) by decide +kernel) rfl (lv_at hl 0 rfl) ?_
  refine lv_iload_n hx hb (show decode cX1_begins 49 = .ok (.iload_n 2, 1) by decide +kernel) rfl (lv_at hl 2 rfl) ?_
  refine r_newa (atype := .int) (a0 := (n0, .inl (fun _ => 0))) hx hb (hts _ q279) rfl 0 rfl (fun _ h => by cases h) hK hP hD hS hA (fun _ => rfl) (by exact nI_pos (by omega)) (nI_clamp (by omega)) (by show n0 * 4 ≤ _; omega) (by show _ ≤ 1; first | decide | omega) (by show _ ≤ n0; first | decide | omega) (show decode cX1_begins 50 = .ok (.newarray .int, 2) by decide +kernel) (fun q1 H locs hP hD hS => ?_)
  have hP : va_P G.1 zcl [(h0, .inr (1, [r0])), (q1, .inl (G.2.2.1 0, n0, .inl (fun _ => 0)))] H := hP
  have hD : va_D A [(h0, .inr (1, [r0])), (q1, .inl (G.2.2.1 0, n0, .inl (fun _ => 0)))] := hD
  refine va_put (D := G.1) (ci := 1) (v := .ref q1) (ty := .object "java/lang/Object") (C := RX1) (T := TX1) (N := 1) hx hb hts in_X1 tyX1 tyX1_ok nmX1 hown hK.1 hP hD hS 0 rfl rfl 0 (by decide) (hts _ q388) (fun _ h9 => h9) rfl (by decide +kernel) rfl rfl (Nat.le_of_ble_eq_true rfl) (show decode cX1_begins 52 = .ok (.putfield 9, 3) by decide +kernel) (fun H locs hP hD hS => ?_)
  have hP : va_P G.1 zcl [(h0, .inr (1, [.ref q1])), (q1, .inl (G.2.2.1 0, n0, .inl (fun _ => 0)))] H := hP
  have hD : va_D A [(h0, .inr (1, [.ref q1])), (q1, .inl (G.2.2.1 0, n0, .inl (fun _ => 0)))] := hD
  refine lv_goto (tgt := 65) hx hb (show decode cX1_begins 55 = .ok (.goto 10, 3) by decide +kernel) (by decide) ?_
  refine lv_goto (tgt := 71) hx hb (show decode cX1_begins 65 = .ok (.goto 6, 3) by decide +kernel) (by decide) ?_
  refine lv_iconst (v := 1) hx hb (show decode cX1_begins 71 = .ok (.iconst 1, 1) by decide +kernel) (by decide) ?_
  have hP9 := hP.sub (ws' := [(h0, .inr (1, [.ref q1])), (q1, .inl (G.2.2.1 0, n0, .inl (fun _ => 0)))]) [0, 1] rfl
  have hD9 := hD.sub (ws' := [(h0, .inr (1, [.ref q1])), (q1, .inl (G.2.2.1 0, n0, .inl (fun _ => 0)))]) [0, 1] (by decide) rfl
  refine vx_ret ?_
  refine W.widen (k := 1) (n := n0) (by first | decide | omega) (by first | decide | omega) ?_
  exact W.zret (v := 1) hx hb hr rfl (fun t ht hW => ⟨⟨1, q1, rfl, rfl, by rw [ht]; exact hP9, hD9⟩, hS.F ht⟩) hS.2.2 (show decode cX1_begins 72 = .ok (.ireturn, 1) by decide +kernel)

set_option maxHeartbeats 4000000 in
set_option maxRecDepth 100000 in
theorem rX1_begins_3 (l : Launch) (hl0 : l.stackTraces = false) (G : zG) (d sz : Nat) (h0 : Nat) (r0 : Value) (n0 : Nat) (hn : n0 ≤ 60) : vx_Met l yX1_begins (Cond.codeWith yX1_begins cX1_begins 4 (some .boolean) [(0, 65, 68, 15)] :: lw_all) (eRoom d 1 n0) (rPc G [.ref h0, .int 3, .int (nI n0)] [(h0, .inr (1, [r0]))] sz) (va_Qi (fun (r : Int32) _ => r = 1) (rB G (fun q1 : Nat => [(h0, .inr (1, [.ref q1])), (q1, .inl (G.2.2.1 3, n0, .inr (.inl (fun _ => 0))))]) (va_A [(h0, .inr (1, [r0]))] sz)) (va_A [(h0, .inr (1, [r0]))] sz)) (fun _ _ _ _ => False) 1 n0 (va_A [(h0, .inr (1, [r0]))] sz) := by
  refine vx_ofWH (cc := cX1_begins) (maxL := 4) (ret := (some .boolean)) (hh := [(0, 65, 68, 15)]) (by decide) rfl ?_
  intro p e s m args below meth c s₁ B hml hv
  obtain ⟨rfl, hsz, hP, hK, hST, hD0⟩ := hv
  have hx := B.exec
  have hb := B.bytes
  have hr := B.returns
  have hts := atoms_spec (ws := (Cond.codeWith yX1_begins cX1_begins 4 (some .boolean) [(0, 65, 68, 15)] :: lw_all)) B.pre
  have htb := vx_table (x := yX1_begins) B (hts _ List.mem_cons_self)
  have hts : ∀ w ∈ lw_all, w.before _ s = true := fun w h => hts w (List.mem_cons_of_mem _ h)
  have hown : s.vm.findClass RX1 = some m.cls := findClass_of_methodNamed B.named
  have hlocks := B.notSynchronized
  subst hsz
  have hD := hD0.self (sz := s.heap.size)
  generalize hAe : va_A [(h0, .inr (1, [r0]))] s.heap.size = A at hD hST ⊢
  have hA : ∀ q : Nat, s.heap.size ≤ q → A q := fun q h => by rw [← hAe]; exact Or.inr h
  have hS : va_S A s.heap s.heap [] := va_S.rf
  have hP : va_P G.1 zcl [(h0, .inr (1, [r0]))] s.heap := hP
  have hl := lv_entry ([.ref h0, .int 3, .int (nI n0)]) (n := 4) (Nat.le_of_ble_eq_true rfl)
  rw [lg_entry_eq]
  generalize (lg_sl ([.ref h0, .int 3, .int (nI n0)]) ++ List.replicate (4 - (lg_sl ([.ref h0, .int 3, .int (nI n0)])).length) Slot.unset).toArray = ls at hl ⊢
  have hl : lv_has ls 4 [(0, .ref h0), (1, .int 3), (2, .int (nI n0))] := hl
  refine lv_iload_n hx hb (show decode cX1_begins 0 = .ok (.iload_n 1, 1) by decide +kernel) rfl (lv_at hl 1 rfl) ?_
  refine lv_tableOut (tgt := 58) hx hb (show decode cX1_begins 1 = .ok (.tableswitch 57 0 2 #[27, 37, 47], 27) by decide +kernel) (Or.inr (by decide)) (by decide) ?_
  refine lv_aload_n hx hb (show decode cX1_begins 58 = .ok (.aload_n 0, 1) by decide +kernel) rfl (lv_at hl 0 rfl) ?_
  refine lv_iload_n hx hb (show decode cX1_begins 59 = .ok (.iload_n 2, 1) by decide +kernel) rfl (lv_at hl 2 rfl) ?_
  refine r_newa (atype := .long) (a0 := (n0, .inr (.inl (fun _ => 0)))) hx hb (hts _ q280) rfl 3 rfl (fun _ h => by cases h) hK hP hD hS hA (fun _ => rfl) (by exact nI_pos (by omega)) (nI_clamp (by omega)) (by show n0 * 8 ≤ _; omega) (by show _ ≤ 1; first | decide | omega) (by show _ ≤ n0; first | decide | omega) (show decode cX1_begins 60 = .ok (.newarray .long, 2) by decide +kernel) (fun q1 H locs hP hD hS => ?_)
  have hP : va_P G.1 zcl [(h0, .inr (1, [r0])), (q1, .inl (G.2.2.1 3, n0, .inr (.inl (fun _ => 0))))] H := hP
  have hD : va_D A [(h0, .inr (1, [r0])), (q1, .inl (G.2.2.1 3, n0, .inr (.inl (fun _ => 0))))] := hD
  refine va_put (D := G.1) (ci := 1) (v := .ref q1) (ty := .object "java/lang/Object") (C := RX1) (T := TX1) (N := 1) hx hb hts in_X1 tyX1 tyX1_ok nmX1 hown hK.1 hP hD hS 0 rfl rfl 0 (by decide) (hts _ q388) (fun _ h9 => h9) rfl (by decide +kernel) rfl rfl (Nat.le_of_ble_eq_true rfl) (show decode cX1_begins 62 = .ok (.putfield 9, 3) by decide +kernel) (fun H locs hP hD hS => ?_)
  have hP : va_P G.1 zcl [(h0, .inr (1, [.ref q1])), (q1, .inl (G.2.2.1 3, n0, .inr (.inl (fun _ => 0))))] H := hP
  have hD : va_D A [(h0, .inr (1, [.ref q1])), (q1, .inl (G.2.2.1 3, n0, .inr (.inl (fun _ => 0))))] := hD
  refine lv_goto (tgt := 71) hx hb (show decode cX1_begins 65 = .ok (.goto 6, 3) by decide +kernel) (by decide) ?_
  refine lv_iconst (v := 1) hx hb (show decode cX1_begins 71 = .ok (.iconst 1, 1) by decide +kernel) (by decide) ?_
  have hP9 := hP.sub (ws' := [(h0, .inr (1, [.ref q1])), (q1, .inl (G.2.2.1 3, n0, .inr (.inl (fun _ => 0))))]) [0, 1] rfl
  have hD9 := hD.sub (ws' := [(h0, .inr (1, [.ref q1])), (q1, .inl (G.2.2.1 3, n0, .inr (.inl (fun _ => 0))))]) [0, 1] (by decide) rfl
  refine vx_ret ?_
  refine W.widen (k := 1) (n := n0) (by first | decide | omega) (by first | decide | omega) ?_
  exact W.zret (v := 1) hx hb hr rfl (fun t ht hW => ⟨⟨1, q1, rfl, rfl, by rw [ht]; exact hP9, hD9⟩, hS.F ht⟩) hS.2.2 (show decode cX1_begins 72 = .ok (.ireturn, 1) by decide +kernel)

