/-! THE ABSTRACT MACHINE: values with names for addresses, a state of scalars and arrays by key and instance -/
abbrev zV : Type := Int32 ⊕ (Int64 ⊕ ((Nat × Nat) ⊕ Unit))
abbrev zI (x : Int32) : zV := .inl x
abbrev zL (x : Int64) : zV := .inr (.inl x)
abbrev zR (k i : Nat) : zV := .inr (.inr (.inl (k, i)))
abbrev zN : zV := .inr (.inr (.inr ()))
def zC (ρ : Nat → Nat → Nat) : zV → Value
  | .inl x => .int x
  | .inr (.inl x) => .long x
  | .inr (.inr (.inl q)) => .ref (ρ q.1 q.2)
  | .inr (.inr (.inr _)) => .null
/-- int scalars, long scalars (by kind, field, instance), int arrays, long arrays (by kind, instance), counts of instances -/
abbrev zS : Type := (Nat → Nat → Nat → Int32) × (Nat → Nat → Nat → Int64) × (Nat → Nat → Nat → Int32) × (Nat → Nat → Nat → Int64) × (Nat → Nat)
abbrev gI (σ : zS) (k f i : Nat) : Int32 := σ.1 k f i
abbrev gL (σ : zS) (k f i : Nat) : Int64 := σ.2.1 k f i
abbrev gA (σ : zS) (k i : Nat) : Nat → Int32 := σ.2.2.1 k i
abbrev gB (σ : zS) (k i : Nat) : Nat → Int64 := σ.2.2.2.1 k i
abbrev gC (σ : zS) : Nat → Nat := σ.2.2.2.2
def uI (σ : zS) (k f i : Nat) (v : Int32) : zS := (fun a b c => bif Nat.beq a k && (Nat.beq b f && Nat.beq c i) then v else σ.1 a b c, σ.2.1, σ.2.2.1, σ.2.2.2.1, σ.2.2.2.2)
def uL (σ : zS) (k f i : Nat) (v : Int64) : zS := (σ.1, fun a b c => bif Nat.beq a k && (Nat.beq b f && Nat.beq c i) then v else σ.2.1 a b c, σ.2.2.1, σ.2.2.2.1, σ.2.2.2.2)
def uA (σ : zS) (k i : Nat) (f : Nat → Int32) : zS := (σ.1, σ.2.1, fun a b => bif Nat.beq a k && Nat.beq b i then f else σ.2.2.1 a b, σ.2.2.2.1, σ.2.2.2.2)
def uB (σ : zS) (k i : Nat) (f : Nat → Int64) : zS := (σ.1, σ.2.1, σ.2.2.1, fun a b => bif Nat.beq a k && Nat.beq b i then f else σ.2.2.2.1 a b, σ.2.2.2.2)
/-- tables: a kind's class; a kind's field: 0 an int, 1 a long, t + 2 the cell of kind t (same instance); a kind that is an array: (element, length, kind of what it holds); a kind of many instances: where their number stands; a kind that nobody writes -/
abbrev zZ : Type := (Nat → Option Nat) × (Nat → Nat → Nat) × (Nat → Option (Nat × Nat × Nat)) × (Nat → Option Nat) × (Nat → Bool)
/-- the world: numbers of classes and slots, addresses by names, numbers of array classes, what else holds of the heap -/
abbrev zG : Type := va_G × (Nat → Nat → Nat) × (Nat → ClassId) × (Heap → Prop)
def zlv (Z : zZ) (C : Nat → Nat) (k i : Nat) : Prop := match Z.2.2.2.1 k with
  | none => i = 0
  | some c => i < C c
def zdom (Z : zZ) (C : Nat → Nat) (k i : Nat) : Prop := zlv Z C k i ∧ ((Z.1 k).isSome || (Z.2.2.1 k).isSome) = true
/-- a kind that may be written (an empty list's room may not: it may be shared) -/
def zwr (Z : zZ) (C : Nat → Nat) (k : Nat) : Prop := Z.2.2.2.2 k = false ∧ ∀ q, Z.1 k = none → Z.2.2.1 k = some q → q.1 = 6 → 0 < C q.2.1
theorem zwr_obj {Z : zZ} {C : Nat → Nat} {k ci : Nat} (h : Z.2.2.2.2 k = false) (hc : Z.1 k = some ci) : zwr Z C k := ⟨h, fun q e => by rw [hc] at e; cases e⟩
theorem zwr_arr {Z : zZ} {C : Nat → Nat} {k : Nat} {q : Nat × Nat × Nat} (h : Z.2.2.2.2 k = false) (ha : Z.2.2.1 k = some q) (ht : q.1 = 6 → 0 < C q.2.1) : zwr Z C k := ⟨h, fun q' _ e2 e3 => by rw [ha] at e2; cases e2; exact ht e3⟩
def zfoot (Z : zZ) (G : zG) (C : Nat → Nat) (q : Nat) : Prop := ∃ k i, zdom Z C k i ∧ zwr Z C k ∧ q = G.2.1 k i
/-- null, or the row of a slot, by a number -/
def zsel (x : Int32) (i : Nat) : zV := if x = 0 then zN else zR 90 i
def zfv (t k f i : Nat) (σ : zS) : zV := match t with
  | 0 => zI (σ.1 k f i)
  | 1 => zL (σ.2.1 k f i)
  | t + 2 => bif Nat.blt t 1000 then zR t i else zsel (σ.1 k f i) i
abbrev ztys (G : zG) : List (ClassId × FieldType) := [(G.2.2.1 0, .int), (G.2.2.1 1, .byte), (G.2.2.1 2, .boolean), (G.2.2.1 3, .long), (G.2.2.1 4, .short), (G.2.2.1 5, .object "ObligingPosts$Slot"), (G.2.2.1 6, .object "java/lang/Object"), (G.2.2.1 7, .object "ObligingPosts$Heath")]
/-- an array's cell: its element's kind 0 int, 1 byte, 2 boolean, 3 long, 4 short; 5 references to all of a kind; 6 a list's: room by the count at q.2.1, references to the living of a kind (their count ten places lower), null behind; 8 bytes, their number the count at q.2.1 and the instance -/
def zcell (G : zG) (q : Nat × Nat × Nat) (σ : zS) (k i : Nat) : Cell := match q.1 with
  | 3 => arrV (G.2.2.1 3) q.2.1 (fun j => .long (σ.2.2.2.1 k i j))
  | 5 => arrV (G.2.2.1 5) q.2.1 (fun j => .ref (G.2.1 q.2.2 j))
  | 6 => arrV (G.2.2.1 6) (σ.2.2.2.2 q.2.1) (fun j => va_rf (if j < σ.2.2.2.2 (q.2.1 - 10) then some (G.2.1 q.2.2 j) else none))
  | 8 => arrV (G.2.2.1 1) (σ.2.2.2.2 (q.2.1 + i)) (fun j => .int (σ.2.2.1 k i j))
  | t => arrV (G.2.2.1 t) q.2.1 (fun j => .int (σ.2.2.1 k i j))
/-- what stands at a name's address -/
def zat (cl : List vw_C) (Z : zZ) (G : zG) (σ : zS) (k i : Nat) (H : Heap) : Prop := match Z.1 k with
  | some ci => ∃ r : vw_C, cl[ci]? = some r ∧ t_OB (G.2.1 k i) (G.1.1 ci) r.2.2 (G.1.2 ci) H (fun f => zC G.2.1 (zfv (Z.2.1 k f) k f i σ))
  | none => match Z.2.2.1 k with
    | some q => H[G.2.1 k i]? = some (zcell G q σ k i)
    | none => True
def zHp (cl : List vw_C) (Z : zZ) (G : zG) (σ : zS) (H : Heap) : Prop := (∀ k i, zlv Z σ.2.2.2.2 k i → zat cl Z G σ k i H) ∧ ∀ k i k' i', zdom Z σ.2.2.2.2 k i → zdom Z σ.2.2.2.2 k' i' → G.2.1 k i = G.2.1 k' i' → k = k' ∧ i = i'
def zRel (cl : List vw_C) (Z : zZ) (G : zG) (σ : zS) (H : Heap) : Prop := zHp cl Z G σ H ∧ G.2.2.2 H ∧ ∀ H1 H2 : Heap, G.2.2.2 H1 → H1.size ≤ H2.size → (∀ q : Nat, q < H1.size → ¬ zfoot Z G σ.2.2.2.2 q → H2[q]? = H1[q]?) → G.2.2.2 H2
/-- the words that don't ride in the list -/
def zNWok : Cond → Bool
  | .fieldLinkNest .. => true
  | .methodLinkNest .. => true
  | .castable .. => true
  | .declares .. => true
  | _ => false
def zNW (U : State) : Prop := ∀ w ∈ lw_tbl, zNWok w = true → va_Nw w U
theorem zNW.warm {s U : State} (hW : s.WarmedH U.vm) (h : zNW s) : zNW U := by
  intro w hw hk
  have h0 := h w hw hk
  cases w <;> first | exact va_Nw.warmF hW h0 | exact va_Nw.warmM hW h0 | exact va_Nw.warmC hW h0 | exact va_Nw.warmD hW h0 | (cases hk)
theorem zNWok_tables {w : Cond} (h : zNWok w = true) : w.onTables = true := by
  cases w <;> first | rfl | (cases h)
theorem zNW.same {u U : State} (h : u.vm = U.vm) (hz : zNW u) : zNW U := fun w hw hk => va_Nw.same (zNWok_tables hk) h (hz w hw hk)
/-- what calls through interfaces ask -/
def zFA (U : State) : Prop := ∀ (C : String) (x y : MethodName), (x.cls ≠ "java/lang/invoke/MethodHandle" ∧ x.cls ≠ "java/lang/invoke/VarHandle") → Cond.declares x ∈ lw_tbl → Cond.interfaceMethod x.cls x.cls x.name x.desc ∈ lw_tbl → Cond.publicMethod y ∈ lw_tbl → Cond.unhidden C x.name x.desc ∈ lw_tbl → Cond.castable C x.cls ∈ lw_tbl → va_Fw C x y U
theorem zFA.moved {u U : State} (hvm : u.vm.Alike U.vm) (h : zFA u) : zFA U := fun C x y hx h1 h2 h3 h4 h5 => va_Fw.moved hx hvm (h C x y hx h1 h2 h3 h4 h5)
def zK (cl : List vw_C) (G : zG) (U : State) : Prop := va_K G.1 cl (ztys G) U ∧ zNW U ∧ zFA U
theorem zK.warm {cl : List vw_C} {G : zG} {s U : State} (hW : s.WarmedH U.vm) (h : zK cl G s) : zK cl G U := ⟨va_K.moved hW.alike h.1, h.2.1.warm hW, h.2.2.moved hW.alike⟩
theorem zK.same {cl : List vw_C} {G : zG} {u U : State} (hv : u.vm = U.vm) (h : zK cl G u) : zK cl G U := ⟨va_K.moved (by rw [hv]; exact Vm.Alike.refl _) h.1, h.2.1.same hv, h.2.2.moved (by rw [hv]; exact Vm.Alike.refl _)⟩
/-- statics that nobody writes: class, name, type, an int or a reference (may it be null?); string constants: class, place, text, which -/
abbrev zSts : List (String × String × String × (Int32 ⊕ (Nat × Bool))) := [("java/lang/String", "COMPACT_STRINGS", "Z", .inl 1), ("jdk/internal/util/Preconditions", "SIOOBE_FORMATTER", "Ljava/util/function/BiFunction;", .inr (1, false)), ("java/util/ArrayList", "DEFAULTCAPACITY_EMPTY_ELEMENTDATA", "[Ljava/lang/Object;", .inr (0, true))]
def zsv (G : zG) (q : Int32 ⊕ (Nat × Bool)) (v : Value) : Prop := match q with
  | .inl x => v = .int x
  | .inr (j, true) => v = .ref (G.2.1 95 j)
  | .inr (j, false) => v = .null ∨ v = .ref (G.2.1 95 j)
abbrev zStr : List (String × Nat × String × Nat) := [("ObligingPostsModel", 194, "heath", 0), ("ObligingPostsModel", 196, "hours", 1), ("ObligingPostsModel", 201, "law", 2), ("ObligingPostsModel", 203, "odds", 3), ("ObligingPostsModel", 212, "inn", 4), ("ObligingPostsModel", 214, "post", 5), ("ObligingPostsModel", 216, "road", 6), ("ObligingPostsModel", 218, "arm", 7), ("ObligingPostsModel", 220, "walker", 8), ("ObligingPostsModel", 225, "room", 9), ("ObligingPostsModel", 208, "to", 10), ("ObligingPostsModel", 210, "in", 11), ("ObligingPostsModel", 211, "at", 12), ("ObligingPosts$Reader", 157, "heath", 0), ("ObligingPosts$Reader", 159, "hours", 1), ("ObligingPosts$Reader", 163, "law", 2), ("ObligingPosts$Reader", 167, "odds", 3), ("ObligingPosts$Reader", 116, "inn", 4), ("ObligingPosts$Reader", 129, "post", 5), ("ObligingPosts$Reader", 136, "road", 6), ("ObligingPosts$Reader", 141, "arm", 7), ("ObligingPosts$Reader", 148, "walker", 8), ("ObligingPosts$Reader", 125, "room", 9), ("ObligingPosts$Reader", 112, "to", 10), ("ObligingPosts$Reader", 104, "in", 11), ("ObligingPosts$Reader", 155, "at", 12)]
/-- classes that aren't of another -/
abbrev zNcs : List (String × String) := [("[B", "[S"), ("[B", "[I"), ("[B", "[J"), ("[S", "[B"), ("[S", "[I"), ("[S", "[J"), ("[I", "[B"), ("[I", "[S"), ("[I", "[J"), ("[J", "[B"), ("[J", "[S"), ("[J", "[I"), ("java/lang/ArrayIndexOutOfBoundsException", "java/lang/NullPointerException")]
theorem modules_alike {u U : State} (h : u.vm.Alike U.vm) : modulesRight_1 U = modulesRight_1 u := by
  have e : U.vm.modules = u.vm.modules := by rw [h.1]
  unfold modulesRight_1
  rw [e]
def zST (F : Nat → Prop) (G : zG) (U : State) : Prop := (∀ q ∈ zSts, ∃ v, zsv G q.2.2.2 v ∧ va_Z q.1 q.2.1 q.2.2.1 v F U U.heap) ∧ (∀ q ∈ zStr, vk_R q.1 q.2.1 q.2.2.1 (G.2.1 97 q.2.2.2) U) ∧ va_AO "java/lang/Object" U ∧ vx_Zq Bundle.tN "UNASSIGNED_STACK" Bundle.steD F U U.heap ∧ vx_Zq Bundle.tN "SUPPRESSED_SENTINEL" Bundle.listD F U U.heap ∧ (∃ mi, va_Mi "[Ljava/lang/Object;" mi U) ∧ va_Dc U ∧ (∀ q ∈ zNcs, va_Nc q.1 q.2 U) ∧ modulesRight_1 U = true
theorem zST.go {F F' : Nat → Prop} {G : zG} {s U : State} (h : zST F G s) (hW : s.WarmedH U.vm) (hq : ∀ a : Nat, a < s.heap.size → ¬ F a → U.heap[a]? = s.heap[a]?) (hF : ∀ a, F' a → F a) : zST F' G U := by
  obtain ⟨h1, h2, h3, h4, h5, ⟨mi, h6⟩, h7, h8, h9⟩ := h
  refine ⟨fun q hq' => ?_, fun q hq' => (h2 q hq').warm hW, va_AO.moved hW.alike h3, vx_Zq.narrow ((vx_Zq.moved hW.alike h4).kept hq) hF, vx_Zq.narrow ((vx_Zq.moved hW.alike h5).kept hq) hF, ⟨mi, va_Mi.moved hW.alike h6⟩, va_Dc.moved hW.alike h7, fun q hq' => va_Nc.moved hW.alike (h8 q hq'), (modules_alike hW.alike).trans h9⟩
  obtain ⟨v, a, b⟩ := h1 q hq'
  exact ⟨v, a, va_Z.narrow ((va_Z.moved hW.alike b).kept hq) hF⟩
theorem va_Z.avoid {C n d : String} {v : Value} {F : Nat → Prop} {U : State} {sz : Nat} (h : va_Z C n d v F U U.heap) (hs : U.heap.size ≤ sz) : va_Z C n d v (fun q => F q ∨ sz ≤ q) U U.heap := by
  obtain ⟨cf, kf, fi, f, a, cell, h1, h2, h3, h4, h5, h6, h7, h8⟩ := h
  exact ⟨cf, kf, fi, f, a, cell, h1, h2, h3, h4, h5, h6, h7, fun z => z.elim h8 (fun z => absurd (Array.getElem?_eq_some_iff.mp h5).1 (by omega))⟩
theorem vx_L.avoid {C n d : String} {F : Nat → Prop} {U : State} {sz : Nat} (h : vx_L C n d F U U.heap) (hs : U.heap.size ≤ sz) : vx_L C n d (fun q => F q ∨ sz ≤ q) U U.heap := by
  obtain ⟨c, k, i, f, a, cell, h1, h2, h3, h4, h5, h6, h7, h8, h9, h10⟩ := h
  exact ⟨c, k, i, f, a, cell, h1, h2, h3, h4, h5, h6, h7, h8, h9, fun z => z.elim h10 (fun z => absurd (Array.getElem?_eq_some_iff.mp h5).1 (by omega))⟩
theorem vx_Zq.avoid {C n d : String} {F : Nat → Prop} {U : State} {sz : Nat} (h : vx_Zq C n d F U U.heap) (hs : U.heap.size ≤ sz) : vx_Zq C n d (fun q => F q ∨ sz ≤ q) U U.heap := ⟨h.1.elim (fun z => Or.inl (z.avoid hs)) (fun ⟨t, z⟩ => Or.inr ⟨t, z.avoid hs⟩), h.2.avoid hs⟩
theorem zST.avoid {F : Nat → Prop} {G : zG} {U : State} {sz : Nat} (h : zST F G U) (hs : U.heap.size ≤ sz) : zST (fun q => F q ∨ sz ≤ q) G U := by
  obtain ⟨h1, h2, h3, h4, h5, h6⟩ := h
  refine ⟨fun q hq => ?_, h2, h3, h4.avoid hs, h5.avoid hs, h6⟩
  obtain ⟨v, a, b⟩ := h1 q hq
  exact ⟨v, a, b.avoid hs⟩
/-- which cells a method may change -/
def zA (Z : zZ) (G : zG) (C : Nat → Nat) (sz : Nat) : Nat → Prop := fun q => zfoot Z G C q ∨ sz ≤ q
def zRoom (d : Nat) : Room := { frames := d + 1, cells := 0, slots := 0, locals := 48 * (d + 1) }
def zQc (cl : List vw_C) (Z : zZ) (G : zG) (C0 : Nat → Nat) (A : Nat → Prop) (Q : Option zV → zS → Prop) : Array Value → State → Outcome → State → Prop := fun _ st o t => (∃ (r : Option zV) (σ' : zS), o = .returned (r.map (zC G.2.1)) ∧ zRel cl Z G σ' t.heap ∧ σ'.2.2.2.2 = C0 ∧ Q r σ') ∧ va_F A st t
/-- a method: name, code, locals, answer -/
abbrev zM : Type := MethodName × ByteArray × Nat × Option FieldType
/-- a method called at depth d with these arguments in this state comes back with Q -/
def zCall (cl : List vw_C) (Z : zZ) (G : zG) (d : Nat) (mm : zM) (as : List zV) (σ : zS) (Q : Option zV → zS → Prop) : Prop :=
  ∀ (l : Launch) (sz : Nat), Met l mm.1 (ws_ mm.1 mm.2.1 mm.2.2.1 mm.2.2.2) (zRoom d) (va_Pc (as.map (zC G.2.1)) (fun U => U.heap.size = sz ∧ zRel cl Z G σ U.heap ∧ zK cl G U ∧ zST (zfoot Z G σ.2.2.2.2) G U)) (zQc cl Z G σ.2.2.2.2 (zA Z G σ.2.2.2.2 sz) Q) 0 0 (zA Z G σ.2.2.2.2 sz)
abbrev zCallI (cl : List vw_C) (Z : zZ) (G : zG) (d : Nat) (mm : zM) (as : List zV) (σ : zS) (K : Int32 → zS → Prop) : Prop := zCall cl Z G d mm as σ (fun r σ1 => ∃ x, r = some (zI x) ∧ K x σ1)
abbrev zCallL (cl : List vw_C) (Z : zZ) (G : zG) (d : Nat) (mm : zM) (as : List zV) (σ : zS) (K : Int64 → zS → Prop) : Prop := zCall cl Z G d mm as σ (fun r σ1 => ∃ x, r = some (zL x) ∧ K x σ1)
abbrev zCallV (cl : List vw_C) (Z : zZ) (G : zG) (d : Nat) (mm : zM) (as : List zV) (σ : zS) (K : zS → Prop) : Prop := zCall cl Z G d mm as σ (fun r σ1 => r = none ∧ K σ1)
abbrev zCallR (cl : List vw_C) (Z : zZ) (G : zG) (d : Nat) (mm : zM) (as : List zV) (σ : zS) (ak : Nat) (K : Nat → zS → Prop) : Prop := zCall cl Z G d mm as σ (fun r σ1 => ∃ i, r = some (zR ak i) ∧ K i σ1)
/-- the locals -/
def znth {α : Type} : List α → Nat → Option α
  | [], _ => none
  | a :: _, 0 => some a
  | _ :: l, n + 1 => znth l n
def zput {α : Type} : List α → Nat → α → List α
  | [], _, _ => []
  | _ :: l, 0, x => x :: l
  | a :: l, n + 1, x => a :: zput l n x
def zLs (la : Array Slot) (nL : Nat) (ρ : Nat → Nat → Nat) (ls : List (Option zV)) : Prop := la.size = nL ∧ lv_wf la ∧ ls.length ≤ nL ∧ ∀ i v, znth ls i = some (some v) → la[i]? = some (.val (zC ρ v))
def zcat : zV → Nat
  | .inr (.inl _) => 2
  | _ => 1
/-- a long that stands just before place i goes -/
def zcut (ls : List (Option zV)) (i : Nat) : List (Option zV) := match i with
  | 0 => ls
  | j + 1 => match znth ls j with
    | some (some (.inr (.inl _))) => zput ls j none
    | _ => ls
def zst1 (ls : List (Option zV)) (i : Nat) (v : zV) : List (Option zV) := zput (zcut ls i) i (some v)
def zst2 (ls : List (Option zV)) (i : Nat) (v : zV) : List (Option zV) := zput (zput (zcut ls i) i (some v)) (i + 1) none
theorem znth_put {α : Type} (l : List α) (i : Nat) (x : α) (j : Nat) : znth (zput l i x) j = if j = i then (if i < l.length then some x else none) else znth l j := by
  induction l generalizing i j with
  | nil => simp [zput, znth]
  | cons a l ih =>
    cases i with
    | zero => cases j <;> simp [zput, znth]
    | succ i =>
      cases j with
      | zero => simp [zput, znth]
      | succ j =>
        simp only [zput, znth, ih, List.length_cons, Nat.add_right_cancel_iff, Nat.add_lt_add_iff_right]
theorem zput_len {α : Type} (l : List α) (i : Nat) (x : α) : (zput l i x).length = l.length := by
  induction l generalizing i with
  | nil => rfl
  | cons a l ih => cases i <;> simp [zput, ih]
theorem zcut_len (ls : List (Option zV)) (i : Nat) : (zcut ls i).length = ls.length := by
  unfold zcut
  split
  · rfl
  · split
    · exact zput_len _ _ _
    · rfl
theorem znth_lt {α : Type} {l : List α} {i : Nat} {x : α} (h : znth l i = some x) : i < l.length := by
  induction l generalizing i with
  | nil => simp [znth] at h
  | cons a l ih =>
    cases i with
    | zero => simp
    | succ i => simp only [znth] at h; have := ih h; simp; omega
theorem zcat_C (ρ : Nat → Nat → Nat) (v : zV) : (zC ρ v).category = zcat v := by
  rcases v with x | x | x | x <;> rfl
/-- as the kit's list of locals -/
def zpairs (ρ : Nat → Nat → Nat) (ls : List (Option zV)) : List (Nat × Value) := (List.range ls.length).filterMap (fun i => match znth ls i with
  | some (some v) => some (i, zC ρ v)
  | _ => none)
theorem zpairs_mem {ρ : Nat → Nat → Nat} {ls : List (Option zV)} {q : Nat × Value} : q ∈ zpairs ρ ls ↔ ∃ v, znth ls q.1 = some (some v) ∧ q.2 = zC ρ v := by
  unfold zpairs
  rw [List.mem_filterMap]
  constructor
  · rintro ⟨i, -, h⟩
    split at h
    · rename_i v hv
      cases h
      exact ⟨v, hv, rfl⟩
    · cases h
  · rintro ⟨v, h1, h2⟩
    refine ⟨q.1, List.mem_range.mpr (znth_lt h1), ?_⟩
    rw [h1]
    show some (q.1, zC ρ v) = some q
    rw [← h2]
theorem zLs.has {la : Array Slot} {nL : Nat} {ρ : Nat → Nat → Nat} {ls : List (Option zV)} (h : zLs la nL ρ ls) : lv_has la nL (zpairs ρ ls) := by
  refine ⟨h.1, h.2.1, fun q hq => ?_⟩
  obtain ⟨v, h1, h2⟩ := zpairs_mem.mp hq
  rw [h2]
  exact h.2.2.2 _ _ h1
theorem zLs.at {la : Array Slot} {nL : Nat} {ρ : Nat → Nat → Nat} {ls : List (Option zV)} (h : zLs la nL ρ ls) {i : Nat} {v : zV} (hi : znth ls i = some (some v)) : la[i]? = some (.val (zC ρ v)) := h.2.2.2 _ _ hi
theorem zcut_nth {ls : List (Option zV)} {i j : Nat} {v : zV} (h : znth (zcut ls i) j = some (some v)) : znth ls j = some (some v) ∧ ¬ (j + 1 = i ∧ zcat v = 2) := by
  unfold zcut at h
  split at h
  · exact ⟨h, fun q => by omega⟩
  · rename_i i0
    split at h
    · rename_i w hw
      rw [znth_put] at h
      by_cases hj : j = i0
      · rw [if_pos hj] at h
        split at h
        · cases h
        · cases h
      · rw [if_neg hj] at h
        exact ⟨h, fun q => hj (by omega)⟩
    · rename_i hne
      refine ⟨h, fun q => ?_⟩
      obtain ⟨q1, q2⟩ := q
      have : j = i0 := by omega
      subst this
      rcases v with x | x | x | x
      · exact absurd q2 (by simp [zcat])
      · exact hne x h
      · exact absurd q2 (by simp [zcat])
      · exact absurd q2 (by simp [zcat])
theorem zLs.st1 {la' : Array Slot} {nL : Nat} {ρ : Nat → Nat → Nat} {ls : List (Option zV)} {i : Nat} {v : zV} (hle : ls.length ≤ nL) (h : lv_has la' nL ((i, zC ρ v) :: (zpairs ρ ls).filter (fun q => !(q.1 == i) && !(q.1 + 1 == i && q.2.category == 2)))) : zLs la' nL ρ (zst1 ls i v) := by
  refine ⟨h.1, h.2.1, by unfold zst1; rw [zput_len, zcut_len]; exact hle, fun j w hj => ?_⟩
  unfold zst1 at hj
  rw [znth_put] at hj
  by_cases hji : j = i
  · rw [if_pos hji] at hj
    split at hj
    · cases hj
      subst hji
      exact h.2.2 (j, zC ρ v) List.mem_cons_self
    · cases hj
  · rw [if_neg hji] at hj
    obtain ⟨h1, h2⟩ := zcut_nth hj
    refine h.2.2 (j, zC ρ w) (List.mem_cons_of_mem _ (List.mem_filter.mpr ⟨zpairs_mem.mpr ⟨w, h1, rfl⟩, ?_⟩))
    have e1 : (j == i) = false := by simp [hji]
    simp only [e1, zcat_C]
    by_cases e2 : j + 1 = i
    · have : ¬ zcat w = 2 := fun q => h2 ⟨e2, q⟩
      simp [this]
    · simp [e2]
theorem zLs.st2 {la' : Array Slot} {nL : Nat} {ρ : Nat → Nat → Nat} {ls : List (Option zV)} {i : Nat} {v : zV} (hle : ls.length ≤ nL) (h : lv_has la' nL ((i, zC ρ v) :: (zpairs ρ ls).filter (fun q => !(q.1 == i) && (!(q.1 == i + 1) && !(q.1 + 1 == i && q.2.category == 2))))) : zLs la' nL ρ (zst2 ls i v) := by
  refine ⟨h.1, h.2.1, by unfold zst2; rw [zput_len, zput_len, zcut_len]; exact hle, fun j w hj => ?_⟩
  unfold zst2 at hj
  rw [znth_put] at hj
  by_cases hj1 : j = i + 1
  · rw [if_pos hj1] at hj
    split at hj <;> cases hj
  · rw [if_neg hj1, znth_put] at hj
    by_cases hji : j = i
    · rw [if_pos hji] at hj
      split at hj
      · cases hj
        subst hji
        exact h.2.2 (j, zC ρ v) List.mem_cons_self
      · cases hj
    · rw [if_neg hji] at hj
      obtain ⟨h1, h2⟩ := zcut_nth hj
      refine h.2.2 (j, zC ρ w) (List.mem_cons_of_mem _ (List.mem_filter.mpr ⟨zpairs_mem.mpr ⟨w, h1, rfl⟩, ?_⟩))
      have e1 : (j == i) = false := by simp [hji]
      have e3 : (j == i + 1) = false := by simp [hj1]
      simp only [e1, e3, zcat_C]
      by_cases e2 : j + 1 = i
      · have : ¬ zcat w = 2 := fun q => h2 ⟨e2, q⟩
        simp [this]
      · simp [e2]
/-- the locals at a method's entry -/
def zent : List zV → List (Option zV)
  | [] => []
  | .inr (.inl x) :: vs => some (zL x) :: none :: zent vs
  | v :: vs => some v :: zent vs
theorem zent_args (ρ : Nat → Nat → Nat) (vs : List zV) : ∀ (n j : Nat) (w : zV), znth (zent vs) j = some (some w) → (n + j, zC ρ w) ∈ lv_args n (vs.map (zC ρ)) := by
  induction vs with
  | nil => intro n j w h; simp [zent, znth] at h
  | cons v vs ih =>
    intro n j w h
    rcases v with x | x | x | x
    · cases j with
      | zero => simp only [zent, znth, Option.some.injEq] at h; subst h; exact List.mem_cons_self
      | succ j => simp only [zent, znth] at h; have := ih (n + 1) j w h; rw [show n + (j + 1) = n + 1 + j by omega]; exact List.mem_cons_of_mem _ this
    · cases j with
      | zero => simp only [zent, znth, Option.some.injEq] at h; subst h; exact List.mem_cons_self
      | succ j =>
        cases j with
        | zero => simp only [zent, znth] at h; cases h
        | succ j => simp only [zent, znth] at h; have := ih (n + 2) j w h; rw [show n + (j + 1 + 1) = n + 2 + j by omega]; exact List.mem_cons_of_mem _ this
    · cases j with
      | zero => simp only [zent, znth, Option.some.injEq] at h; subst h; exact List.mem_cons_self
      | succ j => simp only [zent, znth] at h; have := ih (n + 1) j w h; rw [show n + (j + 1) = n + 1 + j by omega]; exact List.mem_cons_of_mem _ this
    · cases j with
      | zero => simp only [zent, znth, Option.some.injEq] at h; subst h; exact List.mem_cons_self
      | succ j => simp only [zent, znth] at h; have := ih (n + 1) j w h; rw [show n + (j + 1) = n + 1 + j by omega]; exact List.mem_cons_of_mem _ this
theorem zent_len (ρ : Nat → Nat → Nat) (vs : List zV) : (zent vs).length = (lg_sl (vs.map (zC ρ))).length := by
  induction vs with
  | nil => rfl
  | cons v vs ih =>
    have e : ∀ (a : Value) (l : List Value), lg_sl (a :: l) = (if a.category = 2 then [.val a, .second] else [.val a]) ++ lg_sl l := fun a l => rfl
    rcases v with x | x | x | x <;> simp only [zent, List.map_cons, e, List.length_append, List.length_cons, ih] <;> simp [zC, Value.category] <;> omega
theorem znth_app {α : Type} (l : List α) (n : Nat) (x : α) (j : Nat) (w : α) (h : znth (l ++ List.replicate n x) j = some w) : znth l j = some w ∨ w = x := by
  induction l generalizing j with
  | nil =>
    right
    rw [List.nil_append] at h
    induction n generalizing j with
    | zero => simp [znth] at h
    | succ n ih =>
      rw [List.replicate_succ] at h
      cases j with
      | zero => simp only [znth, Option.some.injEq] at h; exact h.symm
      | succ j => exact ih j h
  | cons a l ih =>
    cases j with
    | zero => left; exact h
    | succ j => exact ih j h
def zentry (vs : List zV) (nL : Nat) : List (Option zV) := zent vs ++ List.replicate (nL - (zent vs).length) none
theorem zentry_has {ρ : Nat → Nat → Nat} {vs : List zV} {nL : Nat} {la : Array Slot} (hn : (zent vs).length ≤ nL) (h : lv_has la nL (lv_args 0 (vs.map (zC ρ)))) : zLs la nL ρ (zentry vs nL) := by
  refine ⟨h.1, h.2.1, by unfold zentry; rw [List.length_append, List.length_replicate]; omega, fun j w hj => ?_⟩
  rcases znth_app _ _ _ _ _ hj with h1 | h1
  · have := zent_args ρ vs 0 j w h1
    rw [Nat.zero_add] at this
    exact h.2.2 _ this
  · cases h1
