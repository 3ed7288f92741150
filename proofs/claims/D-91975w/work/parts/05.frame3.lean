/-! SOUNDNESS of the micro-operations over the machine -/
def zAWr (p : Program) (l : Launch) (e : Env) (s : State) (m : MethodId) (args : Array Value) (below : List Frame) (meth : Method) (c : Code) (cl : List vw_C) (Z : zZ) (G : zG) (A : Nat → Prop) (nL : Nat) (C0 : Nat → Nat) (R : Room) (nc ns : Nat) (QQ : State → Prop) : zAW := fun pc ls st σ =>
  ∀ (H : Heap) (locs : List Loc) (la : Array Slot), zRel cl Z G σ H → σ.2.2.2.2 = C0 → va_S A s.heap H locs → zLs la nL G.2.1 ls →
    W p l e R s m args below meth c H locs nc ns QQ (F0 m pc la (st.map (zC G.2.1)))
def zEnv (cl : List vw_C) (own : String) (cc : ByteArray) (nL : Nat) (rt : Option FieldType) (Z : zZ) (G : zG) (d : Nat) (C0 : Nat → Nat) (Q : Option zV → zS → Prop) (W' : zAW) : Prop :=
  ∃ (p : Program) (l : Launch) (e : Env) (s : State) (m : MethodId) (args : Array Value) (below : List Frame) (meth : Method) (c : Code) (A : Nat → Prop) (R : Room) (nc ns : Nat) (QQ : State → Prop),
    (p.tables.exec = Jvm.exec ∧ c.code = cc ∧ c.maxLocals = nL ∧ s.vm.findClass own = some m.cls ∧ (∀ w ∈ lw_all, w.before args s = true) ∧ zK cl G s ∧ meth.sig.returnType = rt ∧ meth.locks = false ∧ (∀ q, zfoot Z G C0 q → A q) ∧ (∀ q, s.heap.size ≤ q → A q) ∧ zST A G s ∧ ((zRoom d).frames ≤ R.frames ∧ (zRoom d).locals ≤ R.locals ∧ nc ≤ R.cells ∧ ns ≤ R.slots) ∧ (∀ H locs g, W p l e R s m args below meth c H locs nc ns (MQ below (zQc cl Z G C0 A Q) args s nc ns A) g → W p l e R s m args below meth c H locs nc ns QQ g)) ∧
    W' = zAWr p l e s m args below meth c cl Z G A nL C0 R nc ns QQ
theorem zlo_inv {ls : List (Option zV)} {i : Nat} {K : zV → Prop} (h : zlo ls i K) : ∃ v, znth ls i = some (some v) ∧ K v := by
  unfold zlo at h
  split at h
  · exact ⟨_, by assumption, h⟩
  · exact h.elim
theorem zi1_inv {v : zV} {K : Int32 → Prop} (h : zi1 v K) : ∃ x, v = zI x ∧ K x := by
  rcases v with x | x | x | x
  · exact ⟨x, rfl, h⟩
  all_goals exact False.elim h
theorem zl1_inv {v : zV} {K : Int64 → Prop} (h : zl1 v K) : ∃ x, v = zL x ∧ K x := by
  rcases v with x | x | x | x
  · exact False.elim h
  · exact ⟨x, rfl, h⟩
  all_goals exact False.elim h
theorem zi_inv {st : List zV} {K : Int32 → List zV → Prop} (h : zi st K) : ∃ x r, st = zI x :: r ∧ K x r := by
  rcases st with _ | ⟨v, r⟩
  · exact False.elim h
  · rcases v with x | x | x | x
    · exact ⟨x, r, rfl, h⟩
    all_goals exact False.elim h
theorem zl_inv {st : List zV} {K : Int64 → List zV → Prop} (h : zl st K) : ∃ x r, st = zL x :: r ∧ K x r := by
  rcases st with _ | ⟨v, r⟩
  · exact False.elim h
  · rcases v with x | x | x | x
    · exact False.elim h
    · exact ⟨x, r, rfl, h⟩
    all_goals exact False.elim h
theorem zr_inv {st : List zV} {K : Nat → Nat → List zV → Prop} (h : zr st K) : ∃ k i r, st = zR k i :: r ∧ K k i r := by
  rcases st with _ | ⟨v, r⟩
  · exact False.elim h
  · rcases v with x | x | x | x
    · exact False.elim h
    · exact False.elim h
    · exact ⟨x.1, x.2, r, rfl, h⟩
    · exact False.elim h
theorem zb_inv {b : Bool} {P : Prop} (h : zb b P) : b = true ∧ P := by
  cases b
  · exact h.elim
  · exact ⟨rfl, h⟩
theorem zliv_inv {Z : zZ} {C : Nat → Nat} {k i : Nat} {P : Prop} (h : zliv Z C k i P) : zlv Z C k i ∧ P := by
  unfold zliv at h
  unfold zlv
  split at h
  · rename_i hz
    split at h
    · rw [hz]; exact ⟨rfl, h⟩
    · exact h.elim
  · rename_i c hz
    rw [hz]; exact h
theorem zpop_inv : ∀ (n : Nat) (acc st : List zV) (K : List zV → List zV → Prop), zpop n acc st K → ∃ as rest, st = as ++ rest ∧ as.length = n ∧ K (as.reverse ++ acc) rest := by
  intro n
  induction n with
  | zero => intro acc st K h; exact ⟨[], st, rfl, rfl, h⟩
  | succ n ih =>
    intro acc st K h
    cases st with
    | nil => exact h.elim
    | cons v st =>
      obtain ⟨as, rest, e1, e2, h⟩ := ih (v :: acc) st K h
      refine ⟨v :: as, rest, by rw [e1]; rfl, by rw [List.length_cons, e2], ?_⟩
      rw [List.reverse_cons, List.append_assoc]
      exact h
theorem zsum_C (ρ : Nat → Nat → Nat) (st : List zV) : ((st.map (zC ρ)).map fun v => v.category).sum = zsum st := by
  induction st with
  | nil => rfl
  | cons v st ih => simp only [List.map_cons, List.sum_cons, ih, zsum, zcat_C]
/-- what stands at a name stays where its cell stays -/
theorem zat.kept {cl : List vw_C} {Z : zZ} {G : zG} {σ : zS} {k i : Nat} {H H1 : Heap} (h : zat cl Z G σ k i H) (hq : H1[G.2.1 k i]? = H[G.2.1 k i]?) : zat cl Z G σ k i H1 := by
  unfold zat at h ⊢
  cases hc : Z.1 k with
  | some ci =>
    simp only [hc] at h ⊢
    obtain ⟨r, h1, h2⟩ := h
    exact ⟨r, h1, h2.kept hq⟩
  | none =>
    simp only [hc] at h ⊢
    cases ha : Z.2.2.1 k with
    | some q => simp only [ha] at h ⊢; exact hq.trans h
    | none => trivial
theorem zHp.step {cl : List vw_C} {Z : zZ} {G : zG} {σ σ' : zS} {H H1 : Heap} {k i : Nat} (hR : zRel cl Z G σ H) (hd : zdom Z σ.2.2.2.2 k i) (hwr : zwr Z σ.2.2.2.2 k) (hC : σ'.2.2.2.2 = σ.2.2.2.2) (hz : H1.size = H.size) (ho : ∀ q : Nat, q ≠ G.2.1 k i → H1[q]? = H[q]?) (hn : zat cl Z G σ' k i H1) (hs : ∀ k' i', ¬ (k' = k ∧ i' = i) → zat cl Z G σ k' i' H → zat cl Z G σ' k' i' H) : zRel cl Z G σ' H1 := by
  obtain ⟨⟨h1, h2⟩, hx, hst⟩ := hR
  refine ⟨⟨fun k' i' hl => ?_, by rw [hC]; exact h2⟩, hst H H1 hx (by rw [hz]; exact Nat.le_refl _) (fun q _ hq => ho q (fun e => hq ⟨k, i, hd, hwr, e⟩)), by rw [hC]; exact hst⟩
  rw [hC] at hl
  by_cases he : k' = k ∧ i' = i
  · obtain ⟨rfl, rfl⟩ := he
    exact hn
  · have hold := hs k' i' he (h1 k' i' hl)
    by_cases hdm : ((Z.1 k').isSome || (Z.2.2.1 k').isSome) = true
    · exact hold.kept (ho _ (fun e => he (h2 k' i' k i ⟨hl, hdm⟩ hd e)))
    · unfold zat
      cases hc : Z.1 k' with
      | some ci => exact absurd (by rw [hc]; rfl) hdm
      | none =>
        cases ha : Z.2.2.1 k' with
        | some q => exact absurd (by rw [ha]; simp) hdm
        | none => trivial
theorem zfv_uI {t k f i k' f' i' : Nat} {σ : zS} {x : Int32} (h : ¬ (k' = k ∧ f' = f ∧ i' = i)) : zfv t k' f' i' (uI σ k f i x) = zfv t k' f' i' σ := by
  unfold zfv
  split
  · show zI (bif Nat.beq k' k && (Nat.beq f' f && Nat.beq i' i) then x else σ.1 k' f' i') = _
    cases hb : (Nat.beq k' k && (Nat.beq f' f && Nat.beq i' i)) with
    | true =>
      simp only [Bool.and_eq_true] at hb
      exact absurd ⟨Nat.eq_of_beq_eq_true hb.1, Nat.eq_of_beq_eq_true hb.2.1, Nat.eq_of_beq_eq_true hb.2.2⟩ h
    | false => rfl
  · rfl
  · show (bif Nat.blt _ 1000 then _ else zsel ((uI σ k f i x).1 k' f' i') i') = _
    have : (uI σ k f i x).1 k' f' i' = σ.1 k' f' i' := by
      show (bif Nat.beq k' k && (Nat.beq f' f && Nat.beq i' i) then x else σ.1 k' f' i') = _
      cases hb : (Nat.beq k' k && (Nat.beq f' f && Nat.beq i' i)) with
      | true =>
        simp only [Bool.and_eq_true] at hb
        exact absurd ⟨Nat.eq_of_beq_eq_true hb.1, Nat.eq_of_beq_eq_true hb.2.1, Nat.eq_of_beq_eq_true hb.2.2⟩ h
      | false => rfl
    rw [this]
theorem zfv_uL {t k f i k' f' i' : Nat} {σ : zS} {x : Int64} (h : ¬ (k' = k ∧ f' = f ∧ i' = i)) : zfv t k' f' i' (uL σ k f i x) = zfv t k' f' i' σ := by
  unfold zfv
  split
  · rfl
  · show zL (bif Nat.beq k' k && (Nat.beq f' f && Nat.beq i' i) then x else σ.2.1 k' f' i') = _
    cases hb : (Nat.beq k' k && (Nat.beq f' f && Nat.beq i' i)) with
    | true =>
      simp only [Bool.and_eq_true] at hb
      exact absurd ⟨Nat.eq_of_beq_eq_true hb.1, Nat.eq_of_beq_eq_true hb.2.1, Nat.eq_of_beq_eq_true hb.2.2⟩ h
    | false => rfl
  · rfl
theorem zself3 (k f i : Nat) : (Nat.beq k k && (Nat.beq f f && Nat.beq i i)) = true := by simp
theorem zself2 (k i : Nat) : (Nat.beq k k && Nat.beq i i) = true := by simp
theorem zne2 {k i k' i' : Nat} (h : ¬ (k' = k ∧ i' = i)) : (Nat.beq k' k && Nat.beq i' i) = false := by
  cases hb : (Nat.beq k' k && Nat.beq i' i) with
  | true =>
    simp only [Bool.and_eq_true] at hb
    exact absurd ⟨Nat.eq_of_beq_eq_true hb.1, Nat.eq_of_beq_eq_true hb.2⟩ h
  | false => rfl
theorem zat_obj {cl : List vw_C} {Z : zZ} {G : zG} {σ σ' : zS} {k i : Nat} {H : Heap} (hC : σ'.2.2.2.2 = σ.2.2.2.2) (ha : σ'.2.2.1 k i = σ.2.2.1 k i) (hb : σ'.2.2.2.1 k i = σ.2.2.2.1 k i) (hf : ∀ f, zfv (Z.2.1 k f) k f i σ' = zfv (Z.2.1 k f) k f i σ) (h : zat cl Z G σ k i H) : zat cl Z G σ' k i H := by
  unfold zat at h ⊢
  cases hc : Z.1 k with
  | some ci =>
    simp only [hc] at h ⊢
    obtain ⟨r, h1, h2⟩ := h
    exact ⟨r, h1, h2.to (fun f _ => by rw [hf f])⟩
  | none =>
    simp only [hc] at h ⊢
    cases hq : Z.2.2.1 k with
    | some q =>
      simp only [hq] at h ⊢
      have : zcell G q σ' k i = zcell G q σ k i := by unfold zcell; split <;> simp only [ha, hb, hC]
      rw [this]
      exact h
    | none => trivial
