/-! READING: what holds on the way -/
def xSt (n b : Nat) (P : (Nat → Nat) → Prop) : pX → Prop
  | .inl s => pOk n s ∧ b ≤ s.1.2.1 ∧ P s.2
  | .inr f => f.1 = 1 ∨ f.1 = 2 ∨ f.1 = 3
theorem rInv.b {w : Nat → Nat} (h : rInv w) : w 0 ≤ 16 ∧ w 1 ≤ 3 ∧ w 2 ≤ 10 ∧ w 3 ≤ 4 ∧ w 4 ≤ 7 ∧ w 5 ≤ 16 ∧ w 6 ≤ 8 ∧ w 7 ≤ 8 ∧ w 8 = 0 := h.1
section XS
variable {T : Nat → Int32} {n b : Nat} {P P' : (Nat → Nat) → Prop} {x : pX}
theorem xSt.wk (h : xSt n b P x) (hp : ∀ w, P w → P' w) : xSt n b P' x := by
  rcases x with s | f
  · exact ⟨h.1, h.2.1, hp _ h.2.2⟩
  · exact h
theorem xSt.set {g : (Nat → Nat) → (Nat → Nat)} (h : xSt n b P x) (hp : ∀ w, P w → P' (g w)) : xSt n b P' (xSet g x) := by
  rcases x with s | f
  · exact ⟨h.1, h.2.1, hp _ h.2.2⟩
  · exact h
theorem xSt.adv (h : xSt n b P x) : xSt n b P (xAdv T n x) := by
  rcases x with s | f
  · obtain ⟨h1, h2, h3⟩ := h
    have a := pTok_ok (T := T) (w := s.2) h1.1
    have b1 := h1.2.1
    exact ⟨a.1, by show b ≤ (pTok T n s.1.1).2.1; omega, h3⟩
  · exact h
theorem xSt.err {k : Nat} (hk : k = 1 ∨ k = 2 ∨ k = 3) (h : xSt n b P x) : xSt n b P (xErr k x) := by
  rcases x with s | f
  · exact hk
  · exact h
theorem xSt.exp {j : Nat} (h : xSt n b P x) : xSt n b P (xExp T n j x) := by
  unfold xExp; split
  · exact h.adv
  · exact h.err (Or.inl rfl)
theorem xSt.num {lo hi : Int} (h : xSt n b P x) : xSt n b (fun w => P w ∧ lo ≤ ((xNum T n lo hi x).1 : Int) ∧ ((xNum T n lo hi x).1 : Int) ≤ hi) (xNum T n lo hi x).2 := by
  rcases x with s | f
  · unfold xNum
    dsimp only
    by_cases c : s.1.2.2.1 = 2
    · rw [if_pos c]
      by_cases c2 : lo ≤ (s.1.2.2.2 : Int) ∧ (s.1.2.2.2 : Int) ≤ hi
      · rw [if_pos c2]
        have := xSt.adv (T := T) h
        exact ⟨this.1, this.2.1, this.2.2, c2⟩
      · rw [if_neg c2]; exact Or.inr (Or.inl rfl)
    · rw [if_neg c]; exact Or.inl rfl
  · exact h
theorem xSt.told {j : Nat} {lo hi : Int} (h : xSt n b P x) : xSt n b (fun w => P w ∧ lo ≤ ((xTold T n j lo hi x).1 : Int) ∧ ((xTold T n j lo hi x).1 : Int) ≤ hi) (xTold T n j lo hi x).2 := (h.exp (T := T) (j := j)).num
theorem xSt.post (h : xSt n b P x) : xSt n b (fun w => P w ∧ (xPost T n x).1 < w 4) (xPost T n x).2 := by
  rcases x with s | f
  · have h' : xSt n b (fun w => P w ∧ w 4 = s.2 4) (.inl s) := ⟨h.1, h.2.1, h.2.2, rfl⟩
    refine (h'.num (T := T) (lo := 0) (hi := (xGet 4 (.inl s) : Int) - 1)).wk (fun w q => ⟨q.1.1, ?_⟩)
    have q3 := q.2.2
    have q4 := q.1.2
    show (xNum T n 0 ((xGet 4 (.inl s) : Int) - 1) (.inl s)).1 < w 4
    rw [show (xGet 4 (.inl s) : Int) = (s.2 4 : Int) from rfl] at q3 ⊢
    omega
  · exact h
theorem xSt.row {s : pS} (h : xSt n b P (.inl s)) : P s.2 := h.2.2
/-- the row while it is read: with its hours and lines told -/
def rP (c0 c9 : Nat) (w : Nat → Nat) : Prop := rInv w ∧ w 0 = c0 ∧ w 9 = c9
theorem xSt.first (h : xSt n b (rP 0 0) x) : xSt n b (fun w => rInv w ∧ 1 ≤ w 0 ∧ w 9 = 0) (xFirst T n x) := by
  unfold xFirst
  have h1 := (h.exp (T := T) (j := 0)).told (T := T) (j := 1) (lo := 1) (hi := 16)
  generalize xTold T n 1 1 16 (xExp T n 0 x) = a at h1 ⊢
  have h2 := h1.set (P' := fun w => rInv w ∧ 1 ≤ w 0 ∧ w 9 = 0) (g := fun w => fU w 0 a.1) (fun w q => ⟨q.1.1.small (Or.inl (by decide)) (fun _ => by omega) (fun z => absurd z (by decide)) (fun z => absurd z (by decide)), by show 1 ≤ fU w 0 a.1 0; rw [fU_s]; omega, by show fU w 0 a.1 9 = 0; rw [fU_n (by decide)]; exact q.1.2.2⟩)
  have h3 := h2.told (T := T) (j := 2) (lo := 0) (hi := 3)
  dsimp only
  generalize xTold T n 2 0 3 (xSet (fun w => fU w 0 a.1) a.2) = b1 at h3 ⊢
  have h4 := h3.set (P' := fun w => rInv w ∧ 1 ≤ w 0 ∧ w 9 = 0) (g := fun w => fU w 1 b1.1) (fun w q => ⟨q.1.1.small (Or.inl (by decide)) (fun z => absurd z (by decide)) (fun _ => by omega) (fun z => absurd z (by decide)), by show 1 ≤ fU w 1 b1.1 0; rw [fU_n (by decide)]; exact q.1.2.1, by show fU w 1 b1.1 9 = 0; rw [fU_n (by decide)]; exact q.1.2.2⟩)
  have h5 := h4.told (T := T) (j := 3) (lo := 0) (hi := 10)
  generalize xTold T n 3 0 10 (xSet (fun w => fU w 1 b1.1) b1.2) = c at h5 ⊢
  exact h5.set (fun w q => ⟨q.1.1.small (Or.inl (by decide)) (fun z => absurd z (by decide)) (fun z => absurd z (by decide)) (fun _ => by omega), by show 1 ≤ fU w 2 c.1 0; rw [fU_n (by decide)]; exact q.1.2.1, by show fU w 2 c.1 9 = 0; rw [fU_n (by decide)]; exact q.1.2.2⟩)
theorem xSt.road0 (h : xSt n b P x) : xSt n b P (xRoad0 x) := by
  rcases x with s | f
  · unfold xRoad0; dsimp only; split
    · exact Or.inr (Or.inr rfl)
    · exact h
  · exact h
theorem xSt.road1 {p : Nat} (h : xSt n b P x) : xSt n b P (xRoad1 p x) := by
  rcases x with s | f
  · unfold xRoad1; dsimp only; split
    · exact Or.inr (Or.inl rfl)
    · exact h
  · exact h
/-- behind the first post of a road, its ways aren't full -/
theorem xSt.roadP (h : xSt n b P x) : xSt n b (fun w => (P w ∧ (xPost T n (xRoad0 x)).1 < w 4) ∧ w (14 + 6 * (xPost T n (xRoad0 x)).1) ≠ 4) (xPost T n (xRoad0 x)).2 := by
  rcases x with s | f
  · by_cases c : s.1.2.2.1 = 2 ∧ s.1.2.2.2 < s.2 4 ∧ s.2 (14 + 6 * s.1.2.2.2) = 4
    · have e : xRoad0 (.inl s) = .inr (3, s.1.2.1) := if_pos c
      rw [e]
      exact Or.inr (Or.inr rfl)
    · have e : xRoad0 (.inl s) = .inl s := if_neg c
      rw [e]
      have h1 := xSt.post (T := T) h
      unfold xPost xNum at h1 ⊢
      dsimp only at h1 ⊢
      by_cases c1 : s.1.2.2.1 = 2
      · rw [if_pos c1] at h1 ⊢
        by_cases c2 : (0 : Int) ≤ (s.1.2.2.2 : Int) ∧ (s.1.2.2.2 : Int) ≤ (xGet 4 (.inl s) : Int) - 1
        · rw [if_pos c2] at h1 ⊢
          refine ⟨h1.1, h1.2.1, h1.2.2, fun z => c ⟨c1, ?_, z⟩⟩
          have c3 := c2.2
          rw [show (xGet 4 (.inl s) : Int) = (s.2 4 : Int) from rfl] at c3
          omega
        · rw [if_neg c2]; exact Or.inr (Or.inl rfl)
      · rw [if_neg c1]; exact Or.inl rfl
  · exact h
theorem roadW_far {p to : Nat} {w : Nat → Nat} (j : Nat) (hj : j ≠ 5 ∧ j < 14) : roadW p to w j = w j := by
  unfold roadW
  rw [fU_n hj.1, fU_n (by omega), fU_n (by omega)]
theorem xSt.road {c0 c9 : Nat} (h : xSt n b (fun w => rP c0 c9 w ∧ w 5 < 16) x) : xSt n b (rP c0 c9) (xRoad T n x) := by
  have h1 := xSt.roadP (T := T) h
  unfold xRoad
  generalize xPost T n (xRoad0 x) = a at h1 ⊢
  dsimp only
  have fin : ∀ (q : Nat) (y : pX) (Q : (Nat → Nat) → Prop), (∀ w, Q w → q < w 4 ∨ (10 ≤ q ∧ q < 10 + w 3)) → xSt n b (fun w => (((rP c0 c9 w ∧ w 5 < 16) ∧ a.1 < w 4) ∧ w (14 + 6 * a.1) ≠ 4) ∧ Q w) y → xSt n b (rP c0 c9) (xSet (roadW a.1 q) y) := fun q y Q hq hy => hy.set (fun w z => by
    obtain ⟨⟨⟨⟨⟨z1, z2, z3⟩, z4⟩, z5⟩, z6⟩, z7⟩ := z
    have zb := z1.b
    have zm := (z1.2.2.1 a.1 (by omega)).1
    refine ⟨z1.road z5 (by unfold obMany at zm ⊢; omega) z4 (hq w z7), ?_, ?_⟩
    · rw [roadW_far 0 (by decide)]; exact z2
    · rw [roadW_far 9 (by decide)]; exact z3)
  by_cases c : xIs T 10 a.2 = true
  · rw [if_pos c]
    have h2 := xSt.post (T := T) ((h1.adv (T := T)).road1 (p := a.1))
    generalize xPost T n (xRoad1 a.1 (xAdv T n a.2)) = e at h2 ⊢
    exact fin e.1 e.2 _ (fun w z => Or.inl z) h2
  · rw [if_neg c]
    rcases ha : a.2 with s | f
    · rw [ha] at h1
      have h1' : xSt n b (fun w => ((((rP c0 c9 w ∧ w 5 < 16) ∧ a.1 < w 4) ∧ w (14 + 6 * a.1) ≠ 4)) ∧ w 3 = s.2 3) (.inl s) := ⟨h1.1, h1.2.1, h1.2.2, rfl⟩
      have h2 := h1'.told (T := T) (j := 11) (lo := 0) (hi := (xGet 3 (.inl s) : Int) - 1)
      generalize xTold T n 11 0 ((xGet 3 (.inl s) : Int) - 1) (.inl s) = e at h2 ⊢
      refine fin (10 + e.1) e.2 (fun w => w 3 = s.2 3 ∧ (e.1 : Int) ≤ (xGet 3 (.inl s) : Int) - 1) (fun w z => Or.inr ⟨by omega, ?_⟩) (h2.wk (fun w z => ⟨z.1.1, z.1.2, z.2.2⟩))
      have z2 := z.2
      rw [show (xGet 3 (.inl s) : Int) = (s.2 3 : Int) from rfl] at z2
      omega
    · rw [ha] at h1
      exact h1
theorem armW_far {p r : Nat} {w : Nat → Nat} (j : Nat) (hj : j ≠ 6 ∧ j < 14) : armW p r w j = w j := by
  unfold armW
  rw [fU_n hj.1, fU_n (by omega)]
theorem xSt.arm {c0 c9 : Nat} (h : xSt n b (fun w => rP c0 c9 w ∧ w 6 < 8) x) : xSt n b (rP c0 c9) (xArm T n x) := by
  have h1 := xSt.post (T := T) h
  unfold xArm
  generalize xPost T n x = a at h1 ⊢
  dsimp only
  rcases ha : a.2 with s | f
  · rw [ha] at h1
    have h1' : xSt n b (fun w => ((rP c0 c9 w ∧ w 6 < 8) ∧ a.1 < w 4) ∧ w (14 + 6 * a.1) = s.2 (14 + 6 * a.1)) (.inl s) := ⟨h1.1, h1.2.1, h1.2.2, rfl⟩
    have h2 := h1'.num (T := T) (lo := 0) (hi := (xGet (14 + 6 * a.1) (.inl s) : Int) - 1)
    generalize xNum T n 0 ((xGet (14 + 6 * a.1) (.inl s) : Int) - 1) (.inl s) = e at h2 ⊢
    refine h2.set (fun w z => ?_)
    obtain ⟨⟨⟨⟨⟨z1, z2, z3⟩, z4⟩, z5⟩, z6⟩, z7, z8⟩ := z
    rw [show (xGet (14 + 6 * a.1) (.inl s) : Int) = (s.2 (14 + 6 * a.1) : Int) from rfl] at z8
    refine ⟨z1.arm z5 (by unfold obMany; omega) z4, ?_, ?_⟩
    · rw [armW_far 0 (by decide)]; exact z2
    · rw [armW_far 9 (by decide)]; exact z3
  · rw [ha] at h1
    exact h1
theorem walkW_far {p t : Nat} {w : Nat → Nat} (j : Nat) (hj : j ≠ 7 ∧ j < 14) : walkW p t w j = w j := by
  unfold walkW
  rw [fU_n hj.1, fU_n (by omega), fU_n (by omega)]
theorem xSt.walk {c0 c9 : Nat} (h : xSt n b (fun w => rP c0 c9 w ∧ w 7 < 8) x) : xSt n b (rP c0 c9) (xWalk T n x) := by
  have h1 := xSt.post (T := T) h
  unfold xWalk
  generalize xPost T n x = a at h1 ⊢
  dsimp only
  have h2 := h1.told (T := T) (j := 12) (lo := 0) (hi := 15)
  generalize xTold T n 12 0 15 a.2 = e at h2 ⊢
  refine h2.set (fun w z => ?_)
  obtain ⟨⟨⟨⟨z1, z2, z3⟩, z4⟩, z5⟩, z7, z8⟩ := z
  refine ⟨z1.walk z5 (by omega) z4, ?_, ?_⟩
  · rw [walkW_far 0 (by decide)]; exact z2
  · rw [walkW_far 9 (by decide)]; exact z3
theorem innW_far {v : Nat} {w : Nat → Nat} (j : Nat) (hj : j ≠ 3 ∧ j < 10) : innW v w j = w j := by
  unfold innW
  rw [fU_n hj.1, fU_n (by omega)]
theorem xSt.inn {c0 c9 : Nat} (h : xSt n b (fun w => rP c0 c9 w ∧ w 3 < 4) x) : xSt n b (rP c0 c9) (xInn T n x) := by
  unfold xInn
  have h2 := h.told (T := T) (j := 9) (lo := 0) (hi := 9)
  dsimp only
  generalize xTold T n 9 0 9 x = e at h2 ⊢
  refine h2.set (fun w z => ?_)
  obtain ⟨⟨⟨z1, z2, z3⟩, z4⟩, z7, z8⟩ := z
  refine ⟨z1.inn z4 (by omega), ?_, ?_⟩
  · rw [innW_far 0 (by decide)]; exact z2
  · rw [innW_far 9 (by decide)]; exact z3
theorem xSt.next {c0 c9 : Nat} (h : xSt n b (rP c0 c9) x) : xSt n b (rP c0 c9) (xNext T n x) := by
  rcases x with s | f
  · have hr := h.2.2.1.b
    have up : ∀ i B, s.2 i ≤ B → ¬ s.2 i = B → xSt n b (fun w => rP c0 c9 w ∧ w i < B) (.inl s) := fun i B h1 h2 => ⟨h.1, h.2.1, h.2.2, by omega⟩
    unfold xNext
    by_cases c4 : xIs T 4 (.inl s) = true
    · rw [if_pos c4]
      by_cases q : xGet 3 (.inl s) = 4
      · rw [if_pos q]; exact h.err (Or.inr (Or.inr rfl))
      · rw [if_neg q]; exact ((up 3 4 hr.2.2.2.1 q).adv).inn
    · rw [if_neg c4]
      by_cases c5 : xIs T 5 (.inl s) = true
      · rw [if_pos c5]
        by_cases q : xGet 4 (.inl s) = 7
        · rw [if_pos q]; exact h.err (Or.inr (Or.inr rfl))
        · rw [if_neg q]
          refine ((up 4 7 hr.2.2.2.2.1 q).adv (T := T)).set (fun w z => ⟨z.1.1.post z.2, ?_, ?_⟩)
          · rw [fU_n (by decide)]; exact z.1.2.1
          · rw [fU_n (by decide)]; exact z.1.2.2
      · rw [if_neg c5]
        by_cases c6 : xIs T 6 (.inl s) = true
        · rw [if_pos c6]
          by_cases q : xGet 5 (.inl s) = 16
          · rw [if_pos q]; exact h.err (Or.inr (Or.inr rfl))
          · rw [if_neg q]; exact ((up 5 16 hr.2.2.2.2.2.1 q).adv).road
        · rw [if_neg c6]
          by_cases c7 : xIs T 7 (.inl s) = true
          · rw [if_pos c7]
            by_cases q : xGet 6 (.inl s) = 8
            · rw [if_pos q]; exact h.err (Or.inr (Or.inr rfl))
            · rw [if_neg q]; exact ((up 6 8 hr.2.2.2.2.2.2.1 q).adv).arm
          · rw [if_neg c7]
            by_cases c8 : xIs T 8 (.inl s) = true
            · rw [if_pos c8]
              by_cases q : xGet 7 (.inl s) = 8
              · rw [if_pos q]; exact h.err (Or.inr (Or.inr rfl))
              · rw [if_neg q]; exact ((up 7 8 hr.2.2.2.2.2.2.2.1 q).adv).walk
            · rw [if_neg c8]; exact h.err (Or.inl rfl)
  · exact h
/-- a whole line: it begins farther on -/
theorem xSt.sign (h : xSt n b P x) : xSt n (b + 1) P (xAdv T n (xSign x)) := by
  rcases x with s | f
  · unfold xSign
    dsimp only
    by_cases c : s.1.2.2.1 = 3
    · rw [if_pos c]
      obtain ⟨h1, h2, h3⟩ := h
      have a := pTok_ok (T := T) (w := s.2) h1.1
      have b1 := h1.2.2.2.2 (by omega)
      exact ⟨a.1, by show b + 1 ≤ (pTok T n s.1.1).2.1; omega, h3⟩
    · rw [if_neg c]; exact Or.inl rfl
  · exact h
/-- the row between lines -/
def rL (b : Nat) (w : Nat → Nat) : Prop := rInv w ∧ (w 9 = 0 → ∀ j, w j = 0) ∧ (w 9 ≠ 0 → 1 ≤ w 0) ∧ w 9 ≤ b
theorem xSt.line {s : pS} (h1 : pOk n s) (h2 : rL s.1.2.1 s.2) : ∀ s', xLine T n (.inl s) = .inl s' → pOk n s' ∧ rL s'.1.2.1 s'.2 ∧ s.1.2.1 < s'.1.2.1 := by
  intro s' e
  obtain ⟨q1, q2, q3, q4⟩ := h2
  have key : xSt n s.1.2.1 (fun w => rInv w ∧ 1 ≤ w 0 ∧ w 9 = s.2 9) (if xGet 9 (.inl s) = 0 then xFirst T n (.inl s) else xNext T n (.inl s)) := by
    by_cases c : s.2 9 = 0
    · rw [if_pos (show xGet 9 (.inl s) = 0 from c)]
      refine (xSt.first (T := T) (x := .inl s) ⟨h1, Nat.le_refl _, q1, q2 c 0, c⟩).wk (fun w z => ⟨z.1, z.2.1, by rw [z.2.2, c]⟩)
    · rw [if_neg (show ¬ xGet 9 (.inl s) = 0 from c)]
      refine (xSt.next (T := T) (c0 := s.2 0) (c9 := s.2 9) (x := .inl s) ⟨h1, Nat.le_refl _, q1, rfl, rfl⟩).wk (fun w z => ⟨z.1, by rw [z.2.1]; exact q3 c, z.2.2⟩)
  have k2 := (key.sign (T := T)).set (P' := fun w => rInv w ∧ 1 ≤ w 0 ∧ w 9 = s.2 9 + 1) (g := fun w => fU w 9 (w 9 + 1)) (fun w z => ⟨z.1.small (Or.inr rfl) (fun z => absurd z (by decide)) (fun z => absurd z (by decide)) (fun z => absurd z (by decide)), by rw [fU_n (by decide)]; exact z.2.1, by rw [fU_s, z.2.2]⟩)
  have k3 : xSt n (s.1.2.1 + 1) (fun w => rInv w ∧ 1 ≤ w 0 ∧ w 9 = s.2 9 + 1) (xLine T n (.inl s)) := k2
  rw [e] at k3
  obtain ⟨a1, a2, a3, a4, a5⟩ := k3
  exact ⟨a1, ⟨a3, fun z => by omega, fun _ => a4, by omega⟩, by omega⟩
end XS
