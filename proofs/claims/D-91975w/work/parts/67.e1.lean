/-! METHODS THAT MAKE OBJECTS OR THROW: the world moves -/
/-- a world behind a beginning: the same classes, the names of kept kinds that lived at the beginning stay, what may be written is free -/
def eOk (Z : zZ) (kp : Nat → Bool) (G0 : zG) (C0 : Nat → Nat) (A : Nat → Prop) (G : zG) (C : Nat → Nat) : Prop := (G.1 = G0.1 ∧ G.2.2.1 = G0.2.2.1 ∧ ∀ j, G.2.1 95 j = G0.2.1 95 j ∧ G.2.1 97 j = G0.2.1 97 j) ∧ (∀ k i, kp k = true → zlv Z C0 k i → G.2.1 k i = G0.2.1 k i) ∧ ∀ q, zfoot Z G C q → A q
def eAW (p : Program) (l : Launch) (e : Env) (s : State) (m : MethodId) (args : Array Value) (below : List Frame) (meth : Method) (c : Code) (cl : List vw_C) (Z : zZ) (kp : Nat → Bool) (G0 : zG) (C0 : Nat → Nat) (A : Nat → Prop) (nL : Nat) (R : Room) (mc ms : Nat) (QQ : State → Prop) : zG → (Nat → Nat) → Nat → Nat → zAW := fun G C nc ns pc ls st σ =>
  eOk Z kp G0 C0 A G C → nc ≤ mc → ns ≤ ms → zAWr p l e s m args below meth c cl Z G A nL C R nc ns QQ pc ls st σ
def eQc (cl : List vw_C) (Z : zZ) (kp : Nat → Bool) (G0 : zG) (C0 : Nat → Nat) (A : Nat → Prop) (PQ : Option zV → zG → zS → Prop) : Array Value → State → Outcome → State → Prop := fun _ st o t => (∃ (r : Option zV) (G' : zG) (σ' : zS), o = .returned (r.map (zC G'.2.1)) ∧ eOk Z kp G0 C0 A G' σ'.2.2.2.2 ∧ zRel cl Z G' σ' t.heap ∧ PQ r G' σ') ∧ va_F A st t
def eXC (cl : List vw_C) (Z : zZ) (kp : Nat → Bool) (G0 : zG) (C0 : Nat → Nat) (A : Nat → Prop) (PX : zG → zS → Nat → Prop) : String → Addr → State → State → Prop := fun E q st t => (∃ (G' : zG) (σ' : zS), E = RX8 ∧ eOk Z kp G0 C0 A G' σ'.2.2.2.2 ∧ zRel cl Z G' σ' t.heap ∧ PX G' σ' q) ∧ va_F A st t
abbrev eRoom (d mc ms : Nat) : Room := { frames := d + 1, cells := mc, slots := ms, locals := 48 * (d + 1) }
/-- a method at depth d, called with these arguments in this world, makes mc cells of ms slots and comes back with PQ, or throws a Fault with PX -/
def eMet (cl : List vw_C) (Z : zZ) (kp : Nat → Bool) (d : Nat) (y : MethodName) (ws : List Cond) (as : List zV) (G : zG) (σ : zS) (mc ms : Nat) (PQ : Option zV → zG → zS → Prop) (PX : zG → zS → Nat → Prop) : Prop :=
  ∀ (l : Launch) (_ : l.stackTraces = false) (sz : Nat), vx_Met l y ws (eRoom d mc ms) (va_Pc (as.map (zC G.2.1)) (fun U => U.heap.size = sz ∧ zRel cl Z G σ U.heap ∧ zK cl G U ∧ zST (zfoot Z G σ.2.2.2.2) G U)) (eQc cl Z kp G σ.2.2.2.2 (zA Z G σ.2.2.2.2 sz) PQ) (eXC cl Z kp G σ.2.2.2.2 (zA Z G σ.2.2.2.2 sz) PX) mc ms (zA Z G σ.2.2.2.2 sz)
abbrev wsM (mm : zM) : List Cond := ws_ mm.1 mm.2.1 mm.2.2.1 mm.2.2.2
def eEnv (cl : List vw_C) (own : String) (cc : ByteArray) (nL : Nat) (rt : Option FieldType) (Z : zZ) (kp : Nat → Bool) (G0 : zG) (C0 : Nat → Nat) (d mc ms : Nat) (tb : List ExceptionTableEntry) (PQ : Option zV → zG → zS → Prop) (PX : zG → zS → Nat → Prop) (AW : zG → (Nat → Nat) → Nat → Nat → zAW) : Prop :=
  ∃ (p : Program) (l : Launch) (e : Env) (s : State) (m : MethodId) (args : Array Value) (below : List Frame) (meth : Method) (c : Code) (A : Nat → Prop),
    ((p.tables.exec = Jvm.exec ∧ c.code = cc ∧ c.maxLocals = nL ∧ s.vm.findClass own = some m.cls ∧ ∀ w ∈ lw_all, w.before args s = true) ∧ zK cl G0 s ∧ (meth.sig.returnType = rt ∧ meth.locks = false) ∧ (∀ q, s.heap.size ≤ q → A q) ∧ zST A G0 s ∧ l.stackTraces = false ∧ c.exceptionTable.toList = tb) ∧
    AW = eAW p l e s m args below meth c cl Z kp G0 C0 A nL (eRoom d mc ms) mc ms (vx_MQ below (eQc cl Z kp G0 C0 A PQ) (eXC cl Z kp G0 C0 A PX) args s mc ms A)
theorem zK.eq {cl : List vw_C} {G G' : zG} {U : State} (h : zK cl G U) (h1 : G'.1 = G.1) (h2 : G'.2.2.1 = G.2.2.1) : zK cl G' U := by
  unfold zK ztys at h ⊢
  rw [h1, h2]
  exact h
theorem zST.eq {F : Nat → Prop} {G G' : zG} {U : State} (h : zST F G U) (h1 : ∀ j, G'.2.1 95 j = G.2.1 95 j ∧ G'.2.1 97 j = G.2.1 97 j) : zST F G' U := by
  obtain ⟨q1, q2, q3⟩ := h
  refine ⟨fun q hq => ?_, fun q hq => by rw [(h1 _).2]; exact q2 q hq, q3⟩
  obtain ⟨v, a, b⟩ := q1 q hq
  refine ⟨v, ?_, b⟩
  unfold zsv at a ⊢
  split at a
  · exact a
  · rw [(h1 _).1]; exact a
  · rw [(h1 _).1]; exact a
theorem eClo {cl : List vw_C} {own : String} {cc : ByteArray} {nL : Nat} {rt : Option FieldType} {Z : zZ} {kp : Nat → Bool} {G0 : zG} {C0 : Nat → Nat} {d mc ms : Nat} {tb : List ExceptionTableEntry} {PQ : Option zV → zG → zS → Prop} {PX : zG → zS → Nat → Prop} {AW : zG → (Nat → Nat) → Nat → Nat → zAW} {V : zRes} {g : zP} (E : eEnv cl own cc nL rt Z kp G0 C0 d mc ms tb PQ PX AW) (hV : zVok cl own V) (hg : zprog cc nL g) {G : zG} {C : Nat → Nat} {nc ns : Nat} : zClo cl V rt g Z G d (fun r σ' => PQ r G σ') (AW G C nc ns) := by
  obtain ⟨p, l, e, s, m, args, below, meth, c, A, ⟨⟨hx, hb, hml, hown, hts⟩, hK, ⟨hr, hlocks⟩, hA2, hST, hl, htb⟩, rfl⟩ := E
  intro AW1 h1 pc ins tg ls st σ hf ht hok hc hs
  obtain ⟨len, hmem⟩ := zfind_mem hf
  obtain ⟨hd, hw⟩ := hg _ hmem
  refine zop_ok (AW := AW1) (W' := zAWr p l e s m args below meth c cl Z G A nL C (eRoom d mc ms) nc ns (vx_MQ below (eQc cl Z kp G0 C0 A PQ) (eXC cl Z kp G0 C0 A PX) args s mc ms A)) ⟨p, l, e, s, m, args, below, meth, c, A, eRoom d mc ms, nc, ns, (vx_MQ below (eQc cl Z kp G0 C0 A PQ) (eXC cl Z kp G0 C0 A PX) args s mc ms A), ⟨hx, hb, hml, hown, hts, hK.eq hok.1.1 hok.1.2.1, hr, hlocks, hok.2.2, hA2, hST.eq hok.1.2.2, ⟨Nat.le_refl _, Nat.le_refl _, hc, hs⟩, ?_⟩, rfl⟩ (fun pc ls st σ q => h1 pc ls st σ q hok hc hs) hV hw hd ht
  intro H locs g k T hT X
  obtain ⟨t, a1, o, b1, b2, ⟨⟨r, σ', e1, e2, e3, e4⟩, e5⟩, L, ⟨f1, f2, f3⟩, f4⟩ := k T hT X
  exact ⟨t, a1, o, b1, b2, Or.inl ⟨⟨⟨r, G, σ', e1, by rw [e3]; exact hok, e2, e4⟩, e5⟩, L, ⟨f1, f2, f3.mono hc hs⟩, f4⟩⟩
theorem eblind {cl : List vw_C} {Z : zZ} {G : zG} {σ : zS} {av : List Value} {sz : Nat} : FrameBlind (va_Pc av (fun U => U.heap.size = sz ∧ zRel cl Z G σ U.heap ∧ zK cl G U ∧ zST (zfoot Z G σ.2.2.2.2) G U)) := zblind
/-- a method that makes objects, or throws, has no handlers -/
theorem eMethod {cl : List vw_C} {mm : zM} (hpl : plainName mm.1.cls = true) {Z : zZ} {kp : Nat → Bool} {d : Nat} {as : List zV} {G : zG} {σ : zS} {mc ms : Nat} {PQ : Option zV → zG → zS → Prop} {PX : zG → zS → Nat → Prop} (hlen : (zent as).length ≤ mm.2.2.1)
    (body : ∀ AW, eEnv cl mm.1.cls mm.2.1 mm.2.2.1 mm.2.2.2 Z kp G σ.2.2.2.2 d mc ms [] PQ PX AW → AW G σ.2.2.2.2 0 0 0 (zentry as mm.2.2.1) [] σ) : eMet cl Z kp d mm.1 (wsM mm) as G σ mc ms PQ PX := by
  intro l hl sz
  refine vx_ofW (cc := mm.2.1) (maxL := mm.2.2.1) (ret := mm.2.2.2) hpl rfl ?_
  intro p e s m args below meth c s₁ B hml htb hv
  obtain ⟨rfl, hsz, hR, hK, hST⟩ := hv
  have hts := atoms_spec (ws := wsM mm) B.pre
  have hts : ∀ w ∈ lw_all, w.before _ s = true := fun w h => hts w (List.mem_cons_of_mem _ h)
  have hown2 : s.vm.findClass mm.1.cls = some m.cls := findClass_of_methodNamed B.named
  subst hsz
  have key := body _ ⟨p, l, e, s, m, _, below, meth, c, zA Z G σ.2.2.2.2 s.heap.size, ⟨⟨B.exec, B.bytes, hml, hown2, hts⟩, hK, ⟨B.returns, B.notSynchronized⟩, fun q h => Or.inr h, hST.avoid (Nat.le_refl _), hl, List.eq_nil_iff_forall_not_mem.mpr htb⟩, rfl⟩
  rw [lg_entry_eq]
  have hl' := lv_entry (as.map (zC G.2.1)) (n := mm.2.2.1) (by rw [← zent_len]; exact hlen)
  exact key ⟨⟨rfl, rfl, fun _ => ⟨rfl, rfl⟩⟩, fun _ _ _ _ => rfl, fun q h => Or.inl h⟩ (Nat.zero_le _) (Nat.zero_le _) s.heap [] _ hR rfl va_S.rf (zentry_has hlen hl')
/-- names that live -/
def eLv (Z : zZ) (kp : Nat → Bool) (C : Nat → Nat) : zV → Prop
  | .inr (.inr (.inl q)) => kp q.1 = true ∧ zlv Z C q.1 q.2
  | _ => True
def eLvL (Z : zZ) (kp : Nat → Bool) (C : Nat → Nat) : List (Option zV) → Prop
  | [] => True
  | some v :: l => eLv Z kp C v ∧ eLvL Z kp C l
  | none :: l => eLvL Z kp C l
def eLvS (Z : zZ) (kp : Nat → Bool) (C : Nat → Nat) : List zV → Prop
  | [] => True
  | v :: l => eLv Z kp C v ∧ eLvS Z kp C l
theorem eLv.same {Z : zZ} {kp : Nat → Bool} {C : Nat → Nat} {ρ ρ' : Nat → Nat → Nat} (hr : ∀ k i, kp k = true → zlv Z C k i → ρ' k i = ρ k i) {v : zV} (h : eLv Z kp C v) : zC ρ' v = zC ρ v := by
  rcases v with x | x | x | x
  · rfl
  · rfl
  · show Value.ref (ρ' x.1 x.2) = Value.ref (ρ x.1 x.2)
    rw [hr _ _ h.1 h.2]
  · rfl
theorem eLvS.same {Z : zZ} {kp : Nat → Bool} {C : Nat → Nat} {ρ ρ' : Nat → Nat → Nat} (hr : ∀ k i, kp k = true → zlv Z C k i → ρ' k i = ρ k i) {st : List zV} (h : eLvS Z kp C st) : st.map (zC ρ') = st.map (zC ρ) := by
  induction st with
  | nil => rfl
  | cons v st ih => rw [List.map_cons, List.map_cons, h.1.same hr, ih h.2]
theorem eLvL.nth {Z : zZ} {kp : Nat → Bool} {C : Nat → Nat} {ls : List (Option zV)} (h : eLvL Z kp C ls) {i : Nat} {v : zV} (hi : znth ls i = some (some v)) : eLv Z kp C v := by
  induction ls generalizing i with
  | nil => cases hi
  | cons a ls ih =>
    cases i with
    | zero =>
      simp only [znth, Option.some.injEq] at hi
      subst hi
      exact h.1
    | succ i =>
      simp only [znth] at hi
      cases a with
      | none => exact ih h hi
      | some w => exact ih h.2 hi
theorem zLs.names {la : Array Slot} {nL : Nat} {ρ ρ' : Nat → Nat → Nat} {ls ls' : List (Option zV)} (h : zLs la nL ρ ls) (hlen : ls'.length ≤ nL) (hn : ∀ i v', znth ls' i = some (some v') → ∃ v, znth ls i = some (some v) ∧ zC ρ' v' = zC ρ v) : zLs la nL ρ' ls' := by
  refine ⟨h.1, h.2.1, hlen, fun i v' hi => ?_⟩
  obtain ⟨v, h1, h2⟩ := hn i v' hi
  rw [h2]
  exact h.2.2.2 _ _ h1
theorem eLvL.zLs {Z : zZ} {kp : Nat → Bool} {C : Nat → Nat} {ρ ρ' : Nat → Nat → Nat} (hr : ∀ k i, kp k = true → zlv Z C k i → ρ' k i = ρ k i) {la : Array Slot} {nL : Nat} {ls : List (Option zV)} (hL : zLs la nL ρ ls) (h : eLvL Z kp C ls) : zLs la nL ρ' ls :=
  hL.names hL.2.2.1 (fun _ v hi => ⟨v, hi, (h.nth hi).same hr⟩)
/-- the other world seen from this method's beginning -/
theorem eOk.trans {Z : zZ} {kp kp' : Nat → Bool} {G0 G G' : zG} {C0 C C' : Nat → Nat} {A : Nat → Prop} {sz : Nat} (h : eOk Z kp G0 C0 A G C) (h' : eOk Z kp' G C (zA Z G C sz) G' C') (hA : ∀ q, sz ≤ q → A q) (hk : ∀ k i, kp k = true → zlv Z C0 k i → kp' k = true ∧ zlv Z C k i) : eOk Z kp G0 C0 A G' C' := by
  obtain ⟨⟨a1, a2, a3⟩, a4, a5⟩ := h
  obtain ⟨⟨b1, b2, b3⟩, b4, b5⟩ := h'
  refine ⟨⟨b1.trans a1, b2.trans a2, fun j => ⟨(b3 j).1.trans (a3 j).1, (b3 j).2.trans (a3 j).2⟩⟩, fun k i q1 q2 => ?_, fun q hq => ?_⟩
  · obtain ⟨q3, q4⟩ := hk k i q1 q2
    exact (b4 k i q3 q4).trans (a4 k i q1 q2)
  · rcases b5 q hq with z | z
    · exact a5 q z
    · exact hA q z
/-- a call (three bytes or five) of a method that makes objects or throws; the caller has no handler here -/
theorem eW_call {p : Program} {l : Launch} {e : Env} {s : State} {m : MethodId} {args : Array Value} {below : List Frame} {meth : Method} {c : Code} {R : Room} {cl : List vw_C} {Z : zZ} {kp' : Nat → Bool} {G : zG} {σ : zS} {A : Nat → Prop} {QQ : State → Prop} {PQ' : Option zV → zG → zS → Prop} {PX' : zG → zS → Nat → Prop} {H : Heap} {locs : List Loc} {pc nc ns mc' ms' : Nat} {la : Array Slot} {st0 rest : List Value} {a : Array Value}
    (hr : vx_Run p l e R s m args below meth c H locs nc ns mc' ms' (F0 m pc la st0) rest (eQc cl Z kp' G σ.2.2.2.2 (zA Z G σ.2.2.2.2 H.size) PQ' a) (eXC cl Z kp' G σ.2.2.2.2 (zA Z G σ.2.2.2.2 H.size) PX') (zA Z G σ.2.2.2.2 H.size)) (hA1 : ∀ q, zfoot Z G σ.2.2.2.2 q → A q) (hA2 : ∀ q, s.heap.size ≤ q → A q) (hS : va_S A s.heap H locs)
    (kk : ∀ (r : Option zV) (G' : zG) (σ1 : zS) (H1 : Heap) (locs1 : List Loc), PQ' r G' σ1 → eOk Z kp' G σ.2.2.2.2 (zA Z G σ.2.2.2.2 H.size) G' σ1.2.2.2.2 → zRel cl Z G' σ1 H1 → va_S A s.heap H1 locs1 → W p l e R s m args below meth c H1 locs1 (nc + mc') (ns + ms') QQ (F0 m (pc + 3) la ((r.map (zC G'.2.1)).toList ++ rest)))
    (kx : ∀ (G' : zG) (σ1 : zS) (H1 : Heap) (locs1 : List Loc) (q : Nat) (ce : Cell), PX' G' σ1 q → eOk Z kp' G σ.2.2.2.2 (zA Z G σ.2.2.2.2 H.size) G' σ1.2.2.2.2 → zRel cl Z G' σ1 H1 → va_S A s.heap H1 locs1 → H1[q]? = some ce → ce.vm = .none → s.vm.findClass RX8 = some ce.cls → vx_W p l e R s m args below meth c H1 locs1 (nc + mc') (ns + ms') QQ (F0 m pc la rest) q) : W p l e R s m args below meth c H locs nc ns QQ (F0 m pc la st0) := by
  have hfree : ∀ q, zA Z G σ.2.2.2.2 H.size q → A q := fun q h => by
    rcases h with h | h
    · exact hA1 q h
    · exact hA2 q (Nat.le_trans hS.1 h)
  intro T hT X
  rcases hr T hT X with ⟨v, st₀, t, T', L, h0, X', hL, e1, e2, ⟨⟨r, G', σ1, hv, hok, hR1, hq⟩, hF⟩, st⟩ | ⟨q, st₀, t, T', L, E, ce, h0, X', hL, e1, e2, ⟨⟨G', σ1, hE, hok, hR1, hq⟩, hF⟩, hce, hcv, hcl, st⟩
  · have hv : v = r.map (zC G'.2.1) := by injection hv
    subst hv
    obtain ⟨k1, k2, k3⟩ := vx_keep h0 e1 hS (fun q _ h => hfree q h) hfree hL hF
    obtain ⟨t2, a1, b1⟩ := kk r G' σ1 T'.heap (locs ++ L) hq hok (by rw [e1]; exact hR1) k3 T' rfl X'
    exact ⟨t2, st t2 a1, b1⟩
  · subst hE
    obtain ⟨k1, k2, k3⟩ := vx_keep h0 e1 hS (fun q _ h => hfree q h) hfree hL hF
    obtain ⟨t2, a1, b1⟩ := kx G' σ1 T'.heap (locs ++ L) q ce hq hok (by rw [e1]; exact hR1) k3 (by rw [e1]; exact hce) hcv hcl T' rfl X'
    exact ⟨t2, st.trans a1, b1⟩
theorem eW_call5 {p : Program} {l : Launch} {e : Env} {s : State} {m : MethodId} {args : Array Value} {below : List Frame} {meth : Method} {c : Code} {R : Room} {cl : List vw_C} {Z : zZ} {kp' : Nat → Bool} {G : zG} {σ : zS} {A : Nat → Prop} {QQ : State → Prop} {PQ' : Option zV → zG → zS → Prop} {PX' : zG → zS → Nat → Prop} {H : Heap} {locs : List Loc} {pc nc ns mc' ms' : Nat} {la : Array Slot} {st0 rest : List Value} {a : Array Value}
    (hr : vx_Run5 p l e R s m args below meth c H locs nc ns mc' ms' (F0 m pc la st0) rest (eQc cl Z kp' G σ.2.2.2.2 (zA Z G σ.2.2.2.2 H.size) PQ' a) (eXC cl Z kp' G σ.2.2.2.2 (zA Z G σ.2.2.2.2 H.size) PX') (zA Z G σ.2.2.2.2 H.size)) (hA1 : ∀ q, zfoot Z G σ.2.2.2.2 q → A q) (hA2 : ∀ q, s.heap.size ≤ q → A q) (hS : va_S A s.heap H locs)
    (kk : ∀ (r : Option zV) (G' : zG) (σ1 : zS) (H1 : Heap) (locs1 : List Loc), PQ' r G' σ1 → eOk Z kp' G σ.2.2.2.2 (zA Z G σ.2.2.2.2 H.size) G' σ1.2.2.2.2 → zRel cl Z G' σ1 H1 → va_S A s.heap H1 locs1 → W p l e R s m args below meth c H1 locs1 (nc + mc') (ns + ms') QQ (F0 m (pc + 5) la ((r.map (zC G'.2.1)).toList ++ rest)))
    (kx : ∀ (G' : zG) (σ1 : zS) (H1 : Heap) (locs1 : List Loc) (q : Nat) (ce : Cell), PX' G' σ1 q → eOk Z kp' G σ.2.2.2.2 (zA Z G σ.2.2.2.2 H.size) G' σ1.2.2.2.2 → zRel cl Z G' σ1 H1 → va_S A s.heap H1 locs1 → H1[q]? = some ce → ce.vm = .none → s.vm.findClass RX8 = some ce.cls → vx_W p l e R s m args below meth c H1 locs1 (nc + mc') (ns + ms') QQ (F0 m pc la rest) q) : W p l e R s m args below meth c H locs nc ns QQ (F0 m pc la st0) := by
  have hfree : ∀ q, zA Z G σ.2.2.2.2 H.size q → A q := fun q h => by
    rcases h with h | h
    · exact hA1 q h
    · exact hA2 q (Nat.le_trans hS.1 h)
  intro T hT X
  rcases hr T hT X with ⟨v, st₀, t, T', L, h0, X', hL, e1, e2, ⟨⟨r, G', σ1, hv, hok, hR1, hq⟩, hF⟩, st⟩ | ⟨q, st₀, t, T', L, E, ce, h0, X', hL, e1, e2, ⟨⟨G', σ1, hE, hok, hR1, hq⟩, hF⟩, hce, hcv, hcl, st⟩
  · have hv : v = r.map (zC G'.2.1) := by injection hv
    subst hv
    obtain ⟨k1, k2, k3⟩ := vx_keep h0 e1 hS (fun q _ h => hfree q h) hfree hL hF
    obtain ⟨t2, a1, b1⟩ := kk r G' σ1 T'.heap (locs ++ L) hq hok (by rw [e1]; exact hR1) k3 T' rfl X'
    exact ⟨t2, st t2 a1, b1⟩
  · subst hE
    obtain ⟨k1, k2, k3⟩ := vx_keep h0 e1 hS (fun q _ h => hfree q h) hfree hL hF
    obtain ⟨t2, a1, b1⟩ := kx G' σ1 T'.heap (locs ++ L) q ce hq hok (by rw [e1]; exact hR1) k3 (by rw [e1]; exact hce) hcv hcl T' rfl X'
    exact ⟨t2, st.trans a1, b1⟩
