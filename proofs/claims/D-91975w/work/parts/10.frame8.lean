/-! THE CLASSES; look-ups -/
abbrev zcl : List vw_C := [(RX0, TX0, 10), (RX1, TX1, 1), (RX2, TX2, 11), (RX3, TX3, 14), (RX4, TX4, 3), (RX5, TX5, 5), (RX6, TX6, 41), (RX7, TX7, 7), (RX8, TX8, 8), (RX9, TX9, 3), (RX10, TX10, 2), (RX11, TX11, 3), (RJ2, TJ2, 3), (RJ15, TJ15, 4), (RJ16, TJ16, 6), (RJ17, TJ17, 8), (RJ19, TJ19, 6), (RJ20, TJ20, 6), (RJ4, TJ4, 2), (RJ8, TJ8, 5)]
def zfnd {α : Type} : List (Nat × α) → Nat → Option α
  | [], _ => none
  | a :: l, n => bif Nat.beq a.1 n then some a.2 else zfnd l n
theorem zfnd_mem {α : Type} {l : List (Nat × α)} {n : Nat} {x : α} (h : zfnd l n = some x) : (n, x) ∈ l := by
  induction l with
  | nil => cases h
  | cons a l ih =>
    unfold zfnd at h
    cases hb : Nat.beq a.1 n with
    | true =>
      rw [hb] at h
      have e := Nat.eq_of_beq_eq_true hb
      have h := Option.some.inj h
      subst h
      subst e
      exact List.mem_cons_self
    | false =>
      rw [hb] at h
      exact List.mem_cons_of_mem _ (ih h)
def zchk (cc : ByteArray) (nL : Nat) (g : zP) : Bool := g.all (fun q => decide (decode cc q.1 = .ok (q.2.1, q.2.2.1)) && zwell nL q)
theorem zprog_of {cc : ByteArray} {nL : Nat} {g : zP} (h : zchk cc nL g = true) : zprog cc nL g := by
  intro q hq
  have := List.all_eq_true.mp h q hq
  obtain ⟨a, b⟩ := zand this
  exact ⟨of_decide_eq_true a, b⟩
def zprogM (mm : zM) (g : zP) : Prop := zprog mm.2.1 mm.2.2.1 g
theorem zprogM_of {mm : zM} {g : zP} (h : zchk mm.2.1 mm.2.2.1 g = true) : zprogM mm g := zprog_of h
/-- A METHOD of the class own, its depth's bound and its entry given -/
theorem zmeth {own : String} {V : zRes} {g : zP} {mm : zM} (hV : zVok zcl own V) (hg : zprogM mm g) (hown : mm.1.cls = own) (hpl : plainName mm.1.cls = true) {Z : zZ} {G : zG} {d : Nat} {as : List zV} {σ : zS} {Q : Option zV → zS → Prop} (hlen : (zent as).length ≤ mm.2.2.1)
    (body : ∀ AW : zAW, zClo zcl V mm.2.2.2 g Z G d Q AW → AW 0 (zentry as mm.2.2.1) [] σ) : zCall zcl Z G d mm as σ Q := zmethod hV hg hown hpl hlen body
theorem lw_in4 {a b c d : Cond} (h1 : a ∈ lw_all) (h2 : b ∈ lw_all) (h3 : c ∈ lw_all) (h4 : d ∈ lw_all) : ∀ w ∈ ([a, b, c, d] : List Cond), w ∈ lw_all := by
  intro w hw
  simp only [List.mem_cons, List.not_mem_nil, or_false] at hw
  rcases hw with e | e | e | e <;> rw [e] <;> assumption
