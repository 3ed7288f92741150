/-! FROM THE MACHINE TO THE ROWS AND BACK -/
/-- a step that the rows take: all that is known here, and the way back -/
theorem es_enter {cl : List vw_C} {own : String} {cc : ByteArray} {nL : Nat} {rt : Option FieldType} {Z : zZ} {kp : Nat → Bool} {G0 : zG} {C0 : Nat → Nat} {d mc ms : Nat} {tb : List ExceptionTableEntry} {PQ : Option zV → zG → zS → Prop} {PX : zG → zS → Nat → Prop} {AW : zG → (Nat → Nat) → Nat → Nat → zAW} {G : zG} {C : Nat → Nat} {nc ns pc : Nat} {ls : List (Option zV)} {st : List zV} {σ : zS}
    (E : eEnv cl own cc nL rt Z kp G0 C0 d mc ms tb PQ PX AW)
    (h : ∀ (p : Program) (l : Launch) (e : Env) (s : State) (m : MethodId) (args : Array Value) (below : List Frame) (meth : Method) (c : Code) (A : Nat → Prop) (QQ : State → Prop),
      (p.tables.exec = Jvm.exec ∧ c.code = cc ∧ c.maxLocals = nL ∧ s.vm.findClass own = some m.cls ∧ ∀ w ∈ lw_all, w.before args s = true) → l.stackTraces = false → zK cl G s → zST A G s → (∀ q, zfoot Z G C q → A q) → (∀ q, s.heap.size ≤ q → A q) →
      (∀ (G' : zG) (C' : Nat → Nat) (nc' ns' pc' : Nat) (ls' : List (Option zV)) (st' : List zV) (σ' : zS) (H1 : Heap) (locs1 : List Loc) (la1 : Array Slot), AW G' C' nc' ns' pc' ls' st' σ' → eOk Z kp G0 C0 A G' C' → nc' ≤ mc → ns' ≤ ms → zRel cl Z G' σ' H1 → σ'.2.2.2.2 = C' → va_S A s.heap H1 locs1 → zLs la1 nL G'.2.1 ls' → W p l e (eRoom d mc ms) s m args below meth c H1 locs1 nc' ns' QQ (F0 m pc' la1 (st'.map (zC G'.2.1)))) →
      eOk Z kp G0 C0 A G C → nc ≤ mc → ns ≤ ms →
      ∀ (H : Heap) (locs : List Loc) (la : Array Slot), zRel cl Z G σ H → σ.2.2.2.2 = C → va_S A s.heap H locs → zLs la nL G.2.1 ls → W p l e (eRoom d mc ms) s m args below meth c H locs nc ns QQ (F0 m pc la (st.map (zC G.2.1)))) : AW G C nc ns pc ls st σ := by
  obtain ⟨p, l, e, s, m, args, below, meth, c, A, ⟨hfix, hK, ⟨hr, hlocks⟩, hA2, hST, hl, htb⟩, rfl⟩ := E
  intro hok hcc hss H locs la hR hC hS hL
  exact h p l e s m args below meth c A _ hfix hl (hK.eq hok.1.1 hok.1.2.1) (hST.eq hok.1.2.2) hok.2.2 hA2 (fun G' C' nc' ns' pc' ls' st' σ' H1 locs1 la1 q1 q2 q3 q4 q5 q6 q7 q8 => q1 q2 q3 q4 H1 locs1 la1 q5 q6 q7 q8) hok hcc hss H locs la hR hC hS hL
/-- what stays of a name -/
def zKp (Z : zZ) (G G' : zG) (σ σ' : zS) (k i : Nat) : Prop := G'.2.1 k i = G.2.1 k i ∧ (∀ ci, Z.1 k = some ci → ∀ f, zC G'.2.1 (zfv (Z.2.1 k f) k f i σ') = zC G.2.1 (zfv (Z.2.1 k f) k f i σ)) ∧ ∀ q, Z.1 k = none → Z.2.2.1 k = some q → zcell G' q σ' k i = zcell G q σ k i
/-- the heap has changed at some addresses: the same picture by other names -/
theorem zRel.next {cl : List vw_C} {Z : zZ} {G G' : zG} {σ σ' : zS} {H H1 : Heap} (h : zRel cl Z G σ H) (hcls : G'.1 = G.1) (D : Nat → Prop) (hfr : ∀ q : Nat, q < H.size → ¬ D q → H1[q]? = H[q]?)
    (hat : ∀ k i, zlv Z σ'.2.2.2.2 k i → (zlv Z σ.2.2.2.2 k i ∧ (((Z.1 k).isSome || (Z.2.2.1 k).isSome) = true → ¬ D (G.2.1 k i)) ∧ zKp Z G G' σ σ' k i) ∨ zat cl Z G' σ' k i H1)
    (hinj : ∀ k i k' i', zdom Z σ'.2.2.2.2 k i → zdom Z σ'.2.2.2.2 k' i' → G'.2.1 k i = G'.2.1 k' i' → k = k' ∧ i = i')
    (hX : G'.2.2.2 H1) (hXf : ∀ H1 H2 : Heap, G'.2.2.2 H1 → H1.size ≤ H2.size → (∀ q : Nat, q < H1.size → ¬ zfoot Z G' σ'.2.2.2.2 q → H2[q]? = H1[q]?) → G'.2.2.2 H2) : zRel cl Z G' σ' H1 := by
  refine ⟨⟨fun k i hl => ?_, hinj⟩, hX, hXf⟩
  rcases hat k i hl with ⟨h1, h2, h3, h4, h5⟩ | h1
  · have hold := h.1.1 k i h1
    unfold zat at hold ⊢
    cases hc : Z.1 k with
    | some ci =>
      simp only [hc] at hold h2 ⊢
      obtain ⟨r, g1, cell, q1, q2, q3, q4⟩ := hold
      refine ⟨r, g1, cell, ?_, ?_, q3, fun j hj => ?_⟩
      · rw [h3, hfr _ (Array.getElem?_eq_some_iff.mp q1).1 (h2 rfl)]; exact q1
      · rw [hcls]; exact q2
      · rw [hcls]; exact (q4 j hj).trans (congrArg some (h4 ci hc j).symm)
    | none =>
      simp only [hc] at hold h2 ⊢
      cases ha : Z.2.2.1 k with
      | some q =>
        simp only [ha] at hold h2 ⊢
        rw [h3, hfr _ (Array.getElem?_eq_some_iff.mp hold).1 (h2 rfl), h5 q hc ha]
        exact hold
      | none => trivial
  · exact h1
