/-! RAW CONTRACTS: lists of cells by address, free of any world's table -/
def rPc (G : zG) (av : List Value) (ws : va_W) (sz : Nat) : Array Value → State → Prop := va_Pc av (fun U => U.heap.size = sz ∧ va_P G.1 zcl ws U.heap ∧ zK zcl G U ∧ zST (va_A ws sz) G U ∧ va_D (fun _ => True) ws)
def rPcO (G : zG) (av : List Value) (ws : va_W) (sz : Nat) : Array Value → State → Prop := va_Pc av (fun U => U.heap.size = sz ∧ va_P G.1 zcl ws U.heap ∧ zK zcl G U ∧ zST (va_A ws sz) G U ∧ va_D (fun _ => True) ws ∧ (va_AO "ObligingPosts$Slot" U ∧ va_AO "ObligingPosts$Heath" U))
/-- with a fact that rides along -/
def rPx (G : zG) (av : List Value) (ws : va_W) (sz : Nat) (E : (Nat → Prop) → State → Prop) : Array Value → State → Prop := va_Pc av (fun U => U.heap.size = sz ∧ va_P G.1 zcl ws U.heap ∧ zK zcl G U ∧ zST (va_A ws sz) G U ∧ va_D (fun _ => True) ws ∧ E (va_A ws sz) U)
def rSt (E : (Nat → Prop) → State → Prop) : Prop := ∀ (A B : Nat → Prop) (u U : State), u.vm.Alike U.vm → (∀ a : Nat, a < u.heap.size → ¬ A a → U.heap[a]? = u.heap[a]?) → (∀ q, B q → A q) → E A u → E B U
/-- the elements of a list: cells of a class, that aren't written; the class object of arrays of objects -/
def rEl (G : zG) (f : Nat → Option Nat) (n ci mi : Nat) (A : Nat → Prop) (U : State) : Prop := va_Mi "[Ljava/lang/Object;" mi U ∧ ∀ i, i < n → ∀ y, f i = some y → ¬ A y ∧ ∃ cell : Cell, U.heap[y]? = some cell ∧ cell.vm.isStatics = false ∧ cell.cls = G.1.1 ci
theorem rEl_st {G : zG} {f : Nat → Option Nat} {n ci mi : Nat} : rSt (rEl G f n ci mi) := by
  intro A B u U hv hq hBA h
  refine ⟨va_Mi.moved hv h.1, fun i hi y hy => ?_⟩
  obtain ⟨h1, cell, h2, h3⟩ := h.2 i hi y hy
  exact ⟨fun z => h1 (hBA y z), cell, by rw [hq y (Array.getElem?_eq_some_iff.mp h2).1 h1]; exact h2, h3⟩
/-- a shared empty array, that nobody writes -/
def rEe (G : zG) (e : Nat) (A : Nat → Prop) (U : State) : Prop := ¬ A e ∧ U.heap[e]? = some (arrV (G.2.2.1 6) 0 (fun _ => .null))
theorem rEe_st {G : zG} {e : Nat} : rSt (rEe G e) := fun _ _ _ _ _ hq hBA h => ⟨fun z => h.1 (hBA e z), by rw [hq e (Array.getElem?_eq_some_iff.mp h.2).1 h.1]; exact h.2⟩
theorem rEe_T {G : zG} {e : Nat} {A : Nat → Prop} {s : State} (hK : zK zcl G s) (h : rEe G e A s) : va_T (.object "java/lang/Object") e 0 (fun _ => .null) A s s.heap :=
  ⟨_, h.2, (hK.1.2 6 _ rfl).1 0 (fun _ => .null), (fun q => by cases q), Nat.zero_le _, (by rw [arrV_size]), fun j hj => absurd hj (Nat.not_lt_zero j), h.1⟩
def rEm (G : zG) (e mi : Nat) (A : Nat → Prop) (U : State) : Prop := va_Mi "[Ljava/lang/Object;" mi U ∧ rEe G e A U
theorem rEm_st {G : zG} {e mi : Nat} : rSt (rEm G e mi) := fun A B u U hv hq hBA h => ⟨va_Mi.moved hv h.1, rEe_st A B u U hv hq hBA h.2⟩
def rE2 (G : zG) (e : Nat) (f : Nat → Option Nat) (n ci mi : Nat) (A : Nat → Prop) (U : State) : Prop := rEl G f n ci mi A U ∧ rEe G e A U
theorem rE2_st {G : zG} {e : Nat} {f : Nat → Option Nat} {n ci mi : Nat} : rSt (rE2 G e f n ci mi) := fun A B u U hv hq hBA h => ⟨rEl_st A B u U hv hq hBA h.1, rEe_st A B u U hv hq hBA h.2⟩
theorem r_recvE {G : zG} {s : State} {A : Nat → Prop} {H : Heap} {locs : List Loc} {e : Nat} (hK : zK zcl G s) (hS : va_S A s.heap H locs) (h : rEe G e A s) : ∃ cell : Cell, H[e]? = some cell ∧ cell.vm.isStatics = false ∧ s.vm.findClass "[Ljava/lang/Object;" = some cell.cls := by
  obtain ⟨_, _, _, _, _, e2⟩ := (hK.1.2 6 _ rfl).2
  refine ⟨arrV (G.2.2.1 6) 0 (fun _ => .null), ?_, rfl, e2⟩
  rw [hS.2.1 e (Array.getElem?_eq_some_iff.mp h.2).1 h.1]; exact h.2
theorem rmax10 {n : Nat} (hn : n < 2 ^ 31) : (if (10 : Int32) < nI n then nI n else 10) = nI (max 10 n) := by
  by_cases c : 10 < n
  · rw [if_pos (show (10 : Int32) < nI n from (nI_ltI (a := 10) (by decide) hn).mpr c)]; congr 1; omega
  · rw [if_neg (show ¬ (10 : Int32) < nI n from fun z => c ((nI_ltI (a := 10) (by decide) hn).mp z))]; show nI 10 = _; congr 1; omega
def rB {S : Type} (G : zG) (w1 : S → va_W) (A : Nat → Prop) : S → State → Prop := fun u t => va_P G.1 zcl (w1 u) t.heap ∧ va_D A (w1 u)
theorem rblind {G : zG} {av : List Value} {ws : va_W} {sz : Nat} : FrameBlind (rPc G av ws sz) := fun a U g mk q => ⟨q.1, q.2.1, q.2.2.1, zK.same (u := U) (U := U.calling g mk a) rfl q.2.2.2.1, zST.go (U := U.calling g mk a) q.2.2.2.2.1 (State.WarmedH.refl U) (fun _ _ _ => rfl) (fun _ h => h), q.2.2.2.2.2⟩
theorem rpc {G : zG} {s : State} {A : Nat → Prop} {H : Heap} {locs : List Loc} {wc : va_W} (hK : zK zcl G s) (hST : zST A G s) (hS : va_S A s.heap H locs) (hPc : va_P G.1 zcl wc H) (hDc : va_D A wc) (hFc : ∀ q, va_A wc H.size q → A q) (av : List Value) : ∀ U : State, U.heap = H → s.WarmedH U.vm → rPc G av wc H.size av.toArray U :=
  fun U hU hW => ⟨rfl, by rw [hU], by rw [hU]; exact hPc, hK.warm hW, hST.go hW (fun a q1 q2 => by rw [hU]; exact hS.2.1 a q1 q2) hFc, hDc.weaken (fun _ _ _ _ => trivial)⟩
theorem rxblind {G : zG} {av : List Value} {ws : va_W} {sz : Nat} {E : (Nat → Prop) → State → Prop} (st : rSt E) : FrameBlind (rPx G av ws sz E) := fun a U g mk q => ⟨q.1, q.2.1, q.2.2.1, zK.same (u := U) (U := U.calling g mk a) rfl q.2.2.2.1, zST.go (U := U.calling g mk a) q.2.2.2.2.1 (State.WarmedH.refl U) (fun _ _ _ => rfl) (fun _ h => h), q.2.2.2.2.2.1, st _ _ U (U.calling g mk a) (Vm.Alike.refl U.vm) (fun _ _ _ => rfl) (fun _ h => h) q.2.2.2.2.2.2⟩
theorem rpx {G : zG} {s : State} {A : Nat → Prop} {H : Heap} {locs : List Loc} {wc : va_W} {E : (Nat → Prop) → State → Prop} (st : rSt E) (hE : E A s) (hK : zK zcl G s) (hST : zST A G s) (hS : va_S A s.heap H locs) (hPc : va_P G.1 zcl wc H) (hDc : va_D A wc) (hFc : ∀ q, va_A wc H.size q → A q) (av : List Value) : ∀ U : State, U.heap = H → s.WarmedH U.vm → rPx G av wc H.size E av.toArray U :=
  fun U hU hW => ⟨rfl, by rw [hU], by rw [hU]; exact hPc, hK.warm hW, hST.go hW (fun a q1 q2 => by rw [hU]; exact hS.2.1 a q1 q2) hFc, hDc.weaken (fun _ _ _ _ => trivial), st _ _ s U hW.alike (fun a q1 q2 => by rw [hU]; exact hS.2.1 a q1 q2) hFc hE⟩
/-- an array of objects receives -/
theorem r_recvA {G : zG} {s : State} {ws : va_W} {H : Heap} {a i : Nat} {x : vp_A} (hK : zK zcl G s) (hP : va_P G.1 zcl ws H) (h : ws[i]? = some (a, .inl (G.2.2.1 6, x))) : ∃ cell : Cell, H[a]? = some cell ∧ cell.vm.isStatics = false ∧ s.vm.findClass "[Ljava/lang/Object;" = some cell.cls := by
  obtain ⟨_, _, _, _, _, e2⟩ := (hK.1.2 6 _ rfl).2
  refine ⟨_, hP i _ h, ?_, ?_⟩
  · obtain ⟨n, f | f | f | f | f⟩ := x <;> rfl
  · obtain ⟨n, f | f | f | f | f⟩ := x <;> exact e2
theorem r_recvT {G : zG} {s : State} {ws : va_W} {H : Heap} {a i : Nat} {x : vp_A} {nm : String} {ty : FieldType} (t : Nat) (hK : zK zcl G s) (hP : va_P G.1 zcl ws H) (h : ws[i]? = some (a, .inl (G.2.2.1 t, x))) (ht : (ztys G)[t]? = some (G.2.2.1 t, ty)) (hp : ∀ C, ty ≠ .object C) (hnm : "[" ++ ty.toString = nm) : ∃ cell : Cell, H[a]? = some cell ∧ cell.vm.isStatics = false ∧ s.vm.findClass nm = some cell.cls := by
  have e2 := (hK.1.2 t _ ht).2
  subst hnm
  have e3 : s.vm.findClass ("[" ++ ty.toString) = some (G.2.2.1 t) := by
    cases ty with
    | object C => exact absurd rfl (hp C)
    | _ => exact e2
  refine ⟨_, hP i _ h, ?_, ?_⟩
  · obtain ⟨n, f | f | f | f | f⟩ := x <;> rfl
  · obtain ⟨n, f | f | f | f | f⟩ := x <;> exact e3
theorem rmin {a b : Nat} (ha : a < 2 ^ 31) (hb : b < 2 ^ 31) : (if nI b < nI a then nI b else nI a) = nI (min a b) := by
  by_cases c : b < a
  · rw [if_pos ((nI_ltI hb ha).mpr c)]; congr 1; omega
  · rw [if_neg (fun z => c ((nI_ltI hb ha).mp z))]; congr 1; omega
theorem rmax1 {p : Nat} (h1 : 1 ≤ p) (hp : p < 2 ^ 31) : (if nI 1 < nI p then nI p else nI 1) = nI p := by
  by_cases c : 1 < p
  · rw [if_pos ((nI_ltI (by decide) hp).mpr c)]
  · rw [if_neg (fun z => c ((nI_ltI (by decide) hp).mp z))]; congr 1; omega
theorem rhalf {c : Nat} (hc : c < 2 ^ 31) : nI c >>> ((1 : Int32) &&& 31) = nI (c / 2) := pk_shrN hc ((1 : Int32) &&& 31) 1 (sh31 1 (by decide))
theorem rsub1 {c : Nat} : nI (c + 1) - nI c = nI 1 := by rw [pk_sub (by omega)]; congr 1; omega
theorem rcpy0 {f g : Nat → Option Nat} {n i : Nat} (h : i < n) : va_cpy f g 0 0 n i = f i := by
  unfold va_cpy; rw [if_pos ⟨Nat.zero_le _, by omega⟩]; congr 1; omega
theorem rroom {d mL mc ms mc' ms' : Nat} (h : mL ≤ 29) : (eRoom d mc' ms').frames + 1 ≤ (eRoom (d + 1) mc ms).frames ∧ 8 + (mL + 11) + (eRoom d mc' ms').locals ≤ (eRoom (d + 1) mc ms).locals := by
  constructor
  · exact Nat.le_refl _
  · show 8 + (mL + 11) + 48 * (d + 1) ≤ 48 * (d + 1 + 1)
    omega
section RV
variable {p : Program} {l : Launch} {e : Env} {R : Room} {s : State} {m : MethodId} {args : Array Value} {below : List Frame} {meth : Method} {c : Code} {H : Heap} {locs : List Loc} {cells slots : Nat} {Q : State → Prop}
variable {cc : ByteArray} {pc : Nat} {ls : Array Slot} {rest : List Value} {A : Nat → Prop} {ws : va_W} {H0 : Heap} {G : zG}
/-- a new array of ints, bytes, longs .. is of the array class that the world names -/
theorem r_newa (hexec : p.tables.exec = Jvm.exec) (hb : c.code = cc) {atype : ArrayType} (harr : (Cond.arrayClass (newarray.typeOf atype)).before args s = true) {ty : FieldType} (hty : newarray.typeOf atype = ty) (t : Nat) (ht : (ztys G)[t]? = some (G.2.2.1 t, ty)) (hpr : ∀ C, ty ≠ .object C) (hK : zK zcl G s) (hP : va_P G.1 zcl ws H) (hD : va_D A ws) (hS : va_S A H0 H locs) (hA : ∀ q, H0.size ≤ q → A q)
    {n : Int32} {N' : Nat} {a0 : vp_A} (ha : ∀ cA : ClassId, vp_cell cA a0 = arrV cA N' (fun _ => defaultValue ty)) (hn : ¬ n < 0) (hN : n.toNatClampNeg = N') (hbytes : N' * componentBytes ty ≤ 536870912) (hcells : cells + 1 ≤ R.cells) (hslots : slots + N' ≤ R.slots) (hdg : decode cc pc = .ok (.newarray atype, 2))
    (kk : ∀ (q : Nat) (H1 : Heap) (locs1 : List Loc), va_P G.1 zcl (ws ++ [(q, .inl (G.2.2.1 t, a0))]) H1 → va_D A (ws ++ [(q, .inl (G.2.2.1 t, a0))]) → va_S A H0 H1 locs1 →
      W p l e R s m args below meth c H1 locs1 (cells + 1) (slots + N') Q (F0 m (pc + 2) ls (.ref q :: rest))) : W p l e R s m args below meth c H locs cells slots Q (F0 m pc ls (.int n :: rest)) := by
  refine va_newa hexec hb harr hty hK.1 hP hD hS hA ha hn hN hbytes hcells hslots hdg fun q cA H1 k1 k2 k3 k4 => ?_
  have e1 := (k1.2 (ztys G).length (cA, ty) (by simp)).2
  have e2 := (hK.1.2 t _ ht).2
  have e : cA = G.2.2.1 t := by
    subst hty
    cases atype <;> exact Option.some.inj (e1.symm.trans e2)
  subst e
  exact kk q H1 _ k2 k3 k4
/-- a new array of objects -/
theorem r_newq (hexec : p.tables.exec = Jvm.exec) (hb : c.code = cc) {own C : String} {index : Nat} (hown : s.vm.findClass own = some m.cls) (hclink : (Cond.classLink own index C).before args s = true) (hover : va_AO C s) (t : Nat) (ht : (ztys G)[t]? = some (G.2.2.1 t, .object C)) (hK : zK zcl G s) (hP : va_P G.1 zcl ws H) (hD : va_D A ws) (hS : va_S A H0 H locs) (hA : ∀ q, H0.size ≤ q → A q)
    {n : Int32} {N' : Nat} (hn : ¬ n < 0) (hN : n.toNatClampNeg = N') (hbytes : N' * 4 ≤ 536870912) (hcells : cells + 1 ≤ R.cells) (hslots : slots + N' ≤ R.slots) (hdg : decode cc pc = .ok (.anewarray index, 3))
    (kk : ∀ (q : Nat) (H1 : Heap) (locs1 : List Loc), va_P G.1 zcl (ws ++ [(q, .inl (G.2.2.1 t, N', .inr (.inr (.inr (.inr (fun _ => none))))))]) H1 → va_D A (ws ++ [(q, .inl (G.2.2.1 t, N', .inr (.inr (.inr (.inr (fun _ => none))))))]) → va_S A H0 H1 locs1 →
      W p l e R s m args below meth c H1 locs1 (cells + 1) (slots + N') Q (F0 m (pc + 3) ls (.ref q :: rest))) : W p l e R s m args below meth c H locs cells slots Q (F0 m pc ls (.int n :: rest)) := by
  refine va_newq hexec hb hown hclink hover hK.1 hP hD hS hA hn hN hbytes hcells hslots hdg fun q cA H1 k1 k2 k3 k4 => ?_
  obtain ⟨_, _, _, _, _, e1⟩ := (k1.2 (ztys G).length (cA, .object C) (by simp)).2
  obtain ⟨_, _, _, _, _, e2⟩ := (hK.1.2 t _ ht).2
  have e : cA = G.2.2.1 t := Option.some.inj (e1.symm.trans e2)
  subst e
  exact kk q H1 _ k2 k3 k4
end RV
