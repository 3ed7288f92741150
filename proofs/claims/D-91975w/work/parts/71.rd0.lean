/-! READING: a tape of n bytes T; tokens (0 end, 1 word, 2 number, 3 sign, 4 bad); a state: (where it reads on, where the token begins, the token, its number), the row so far; or a fault (kind, place) -/
abbrev pS : Type := (Nat × Nat × Nat × Nat) × (Nat → Nat)
abbrev pX : Type := pS ⊕ (Nat × Nat)
def tpC (T : Nat → Int32) (n : Nat) (lo hi : Int) (a : Nat) : Bool := decide (a < n ∧ lo ≤ (T a).toInt ∧ (T a).toInt ≤ hi)
def tpB (T : Nat → Int32) (n : Nat) (a : Nat) : Bool := tpC T n 32 32 a || tpC T n 10 10 a
def skp (p : Nat → Bool) : Nat → Nat → Nat
  | 0, a => a
  | f + 1, a => if p a = true then skp p f (a + 1) else a
def numP (T : Nat → Int32) (p : Nat → Bool) : Nat → Nat → Nat → Nat
  | 0, _, v => v
  | f + 1, a, v => if p a = true then numP T p f (a + 1) (min 99999 (10 * v + ((T a).toInt - 48).toNat)) else v
def pTok (T : Nat → Int32) (n a : Nat) : Nat × Nat × Nat × Nat :=
  if skp (tpB T n) (n - a) a = n then (skp (tpB T n) (n - a) a, skp (tpB T n) (n - a) a, 0, 0)
  else if tpC T n 97 122 (skp (tpB T n) (n - a) a) = true then (skp (tpC T n 97 122) (n - skp (tpB T n) (n - a) a) (skp (tpB T n) (n - a) a), skp (tpB T n) (n - a) a, 1, 0)
  else if tpC T n 48 57 (skp (tpB T n) (n - a) a) = true then (skp (tpC T n 48 57) (n - skp (tpB T n) (n - a) a) (skp (tpB T n) (n - a) a), skp (tpB T n) (n - a) a, 2, numP T (tpC T n 48 57) (n - skp (tpB T n) (n - a) a) (skp (tpB T n) (n - a) a) 0)
  else (skp (tpB T n) (n - a) a + 1, skp (tpB T n) (n - a) a, (if (T (skp (tpB T n) (n - a) a)).toInt = 59 then 3 else 4), 0)
def pAdv (T : Nat → Int32) (n : Nat) (s : pS) : pS := (pTok T n s.1.1, s.2)
def pIs (T : Nat → Int32) (j : Nat) (s : pS) : Bool := decide (s.1.2.2.1 = 1 ∧ s.1.1 - s.1.2.1 = zLn j ∧ ∀ k, k < zLn j → T (s.1.2.1 + k) = nI (zCh j k))
def xIs (T : Nat → Int32) (j : Nat) : pX → Bool
  | .inl s => pIs T j s
  | .inr _ => false
def xErr (k : Nat) : pX → pX
  | .inl s => .inr (k, s.1.2.1)
  | .inr f => .inr f
def xAdv (T : Nat → Int32) (n : Nat) : pX → pX
  | .inl s => .inl (pAdv T n s)
  | .inr f => .inr f
def xTakes (T : Nat → Int32) (n j : Nat) (x : pX) : pX := if xIs T j x = true then xAdv T n x else x
def xExp (T : Nat → Int32) (n j : Nat) (x : pX) : pX := if xIs T j x = true then xAdv T n x else xErr 1 x
def xNum (T : Nat → Int32) (n : Nat) (lo hi : Int) : pX → Nat × pX
  | .inl s => if s.1.2.2.1 = 2 then (if lo ≤ (s.1.2.2.2 : Int) ∧ (s.1.2.2.2 : Int) ≤ hi then (s.1.2.2.2, .inl (pAdv T n s)) else (0, .inr (2, s.1.2.1))) else (0, .inr (1, s.1.2.1))
  | .inr f => (0, .inr f)
def xTold (T : Nat → Int32) (n j : Nat) (lo hi : Int) (x : pX) : Nat × pX := xNum T n lo hi (xExp T n j x)
def xSet (f : (Nat → Nat) → (Nat → Nat)) : pX → pX
  | .inl s => .inl (s.1, f s.2)
  | .inr f => .inr f
def xGet (i : Nat) : pX → Nat
  | .inl s => s.2 i
  | .inr _ => 0
def xFirst (T : Nat → Int32) (n : Nat) (x : pX) : pX :=
  let a := xTold T n 1 1 16 (xExp T n 0 x)
  let b := xTold T n 2 0 3 (xSet (fun w => fU w 0 a.1) a.2)
  let c := xTold T n 3 0 10 (xSet (fun w => fU w 1 b.1) b.2)
  xSet (fun w => fU w 2 c.1) c.2
def xPost (T : Nat → Int32) (n : Nat) (x : pX) : Nat × pX := xNum T n 0 ((xGet 4 x : Int) - 1) x
def xRoad0 (x : pX) : pX := match x with
  | .inl s => if s.1.2.2.1 = 2 ∧ s.1.2.2.2 < s.2 4 ∧ s.2 (14 + 6 * s.1.2.2.2) = 4 then .inr (3, s.1.2.1) else .inl s
  | .inr f => .inr f
def xRoad1 (p : Nat) (x : pX) : pX := match x with
  | .inl s => if s.1.2.2.1 = 2 ∧ s.1.2.2.2 = p then .inr (2, s.1.2.1) else .inl s
  | .inr f => .inr f
def roadW (p to : Nat) (w : Nat → Nat) : Nat → Nat := fU (fU (fU w (15 + 6 * p + w (14 + 6 * p)) to) (14 + 6 * p) (w (14 + 6 * p) + 1)) 5 (w 5 + 1)
def xRoad (T : Nat → Int32) (n : Nat) (x : pX) : pX :=
  let a := xPost T n (xRoad0 x)
  if xIs T 10 a.2 = true then (let b := xPost T n (xRoad1 a.1 (xAdv T n a.2)); xSet (roadW a.1 b.1) b.2)
  else (let b := xTold T n 11 0 ((xGet 3 a.2 : Int) - 1) a.2; xSet (roadW a.1 (10 + b.1)) b.2)
def armW (p r : Nat) (w : Nat → Nat) : Nat → Nat := fU (fU w (19 + 6 * p) r) 6 (w 6 + 1)
def xArm (T : Nat → Int32) (n : Nat) (x : pX) : pX :=
  let a := xPost T n x
  let b := xNum T n 0 ((xGet (14 + 6 * a.1) a.2 : Int) - 1) a.2
  xSet (armW a.1 b.1) b.2
def walkW (p t : Nat) (w : Nat → Nat) : Nat → Nat := fU (fU (fU w (56 + 2 * w 7) p) (57 + 2 * w 7) t) 7 (w 7 + 1)
def xWalk (T : Nat → Int32) (n : Nat) (x : pX) : pX :=
  let a := xPost T n x
  let b := xTold T n 12 0 15 a.2
  xSet (walkW a.1 b.1) b.2
def innW (v : Nat) (w : Nat → Nat) : Nat → Nat := fU (fU w (10 + w 3) v) 3 (w 3 + 1)
def xInn (T : Nat → Int32) (n : Nat) (x : pX) : pX :=
  let a := xTold T n 9 0 9 x
  xSet (innW a.1) a.2
def xNext (T : Nat → Int32) (n : Nat) (x : pX) : pX :=
  if xIs T 4 x = true then (if xGet 3 x = 4 then xErr 3 x else xInn T n (xAdv T n x))
  else if xIs T 5 x = true then (if xGet 4 x = 7 then xErr 3 x else xSet (fun w => fU w 4 (w 4 + 1)) (xAdv T n x))
  else if xIs T 6 x = true then (if xGet 5 x = 16 then xErr 3 x else xRoad T n (xAdv T n x))
  else if xIs T 7 x = true then (if xGet 6 x = 8 then xErr 3 x else xArm T n (xAdv T n x))
  else if xIs T 8 x = true then (if xGet 7 x = 8 then xErr 3 x else xWalk T n (xAdv T n x))
  else xErr 1 x
def xSign (x : pX) : pX := match x with
  | .inl s => if s.1.2.2.1 = 3 then .inl s else .inr (1, s.1.2.1)
  | .inr f => .inr f
def xLine (T : Nat → Int32) (n : Nat) (x : pX) : pX := xSet (fun w => fU w 9 (w 9 + 1)) (xAdv T n (xSign (if xGet 9 x = 0 then xFirst T n x else xNext T n x)))
def xLines (T : Nat → Int32) (n : Nat) : Nat → pX → pX
  | 0, x => x
  | f + 1, .inl s => if s.1.2.2.1 = 0 then .inl s else xLines T n f (xLine T n (.inl s))
  | _ + 1, .inr f => .inr f
/-- what a tape says -/
def xRead (T : Nat → Int32) (n : Nat) : pX := xLines T n (n + 2) (.inl (pTok T n 0, fun _ => 0))
/-! the words are apart -/
theorem pIs_ne {T : Nat → Int32} {s : pS} {i j : Nat} (hi : pIs T i s = true) (hne : zWd.getD i [] ≠ zWd.getD j []) (hi13 : i < 13) (hj13 : j < 13) : pIs T j s = false := by
  cases hj : pIs T j s with
  | false => rfl
  | true =>
    obtain ⟨-, l1, c1⟩ := of_decide_eq_true hi
    obtain ⟨-, l2, c2⟩ := of_decide_eq_true hj
    refine absurd (List.ext_getElem ?_ (fun k h1 h2 => ?_)) hne
    · exact l1.symm.trans l2
    · have h1' : k < zLn i := h1
      have h2' : k < zLn j := h2
      have e := (c1 k h1').symm.trans (c2 k h2')
      have a1 := zCh_lt i hi13 k h1'
      have a2 := zCh_lt j hj13 k h2'
      have e := (nI_eq (by omega) (by omega)).mp e
      have b1 : zCh i k = (zWd.getD i [])[k] := by unfold zCh; rw [List.getD_eq_getElem?_getD, List.getElem?_eq_getElem h1]; rfl
      have b2 : zCh j k = (zWd.getD j [])[k] := by unfold zCh; rw [List.getD_eq_getElem?_getD, List.getElem?_eq_getElem h2]; rfl
      exact b1.symm.trans (e.trans b2)
/-! where it reads -/
theorem skp_le {p : Nat → Bool} {n : Nat} (hp : ∀ a, p a = true → a < n) : ∀ f a, a ≤ n → a ≤ skp p f a ∧ skp p f a ≤ n := by
  intro f
  induction f with
  | zero => intro a ha; exact ⟨Nat.le_refl _, ha⟩
  | succ f ih =>
    intro a ha
    unfold skp
    split
    · rename_i h
      have := ih (a + 1) (by have := hp a h; omega)
      omega
    · omega
theorem skp_end {p : Nat → Bool} {n : Nat} (hp : ∀ a, p a = true → a < n) : ∀ f a, a ≤ n → n - a ≤ f → p (skp p f a) = false := by
  intro f
  induction f with
  | zero =>
    intro a ha hf
    cases h : p a with
    | false => exact h
    | true => have := hp a h; omega
  | succ f ih =>
    intro a ha hf
    unfold skp
    split
    · rename_i h
      have := hp a h
      exact ih (a + 1) (by omega) (by omega)
    · rename_i h; simpa using h
theorem skp_t {p : Nat → Bool} {n a : Nat} (hp : ∀ a, p a = true → a < n) (h : p a = true) : skp p (n - a) a = skp p (n - (a + 1)) (a + 1) := by
  have := hp a h
  rw [show n - a = (n - (a + 1)) + 1 by omega]
  show (if p a = true then _ else _) = _
  rw [if_pos h]
theorem skp_f {p : Nat → Bool} {a : Nat} (h : p a = false) : ∀ f, skp p f a = a := by
  intro f
  cases f with
  | zero => rfl
  | succ f => show (if p a = true then _ else _) = _; rw [if_neg (by rw [h]; decide)]
theorem tpC_lt {T : Nat → Int32} {n : Nat} {lo hi : Int} : ∀ a, tpC T n lo hi a = true → a < n := fun a h => (of_decide_eq_true h).1
theorem tpB_lt {T : Nat → Int32} {n : Nat} : ∀ a, tpB T n a = true → a < n := fun a h => by
  rcases (Bool.or_eq_true _ _).mp h with h | h <;> exact tpC_lt a h
theorem numP_t {T : Nat → Int32} {p : Nat → Bool} {n a v : Nat} (hp : ∀ a, p a = true → a < n) (h : p a = true) : numP T p (n - a) a v = numP T p (n - (a + 1)) (a + 1) (min 99999 (10 * v + ((T a).toInt - 48).toNat)) := by
  have := hp a h
  rw [show n - a = (n - (a + 1)) + 1 by omega]
  show (if p a = true then _ else _) = _
  rw [if_pos h]
theorem numP_f {T : Nat → Int32} {p : Nat → Bool} {a v : Nat} (h : p a = false) : ∀ f, numP T p f a v = v := by
  intro f
  cases f with
  | zero => rfl
  | succ f => show (if p a = true then _ else _) = _; rw [if_neg (by rw [h]; decide)]
/-- what holds of a state: it reads within, behind its token's beginning; a word or a number within -/
def pOk (n : Nat) (s : pS) : Prop := s.1.1 ≤ n ∧ s.1.2.1 ≤ s.1.1 ∧ s.1.2.2.1 ≤ 4 ∧ s.1.2.2.2 ≤ 99999 ∧ (s.1.2.2.1 ≠ 0 → s.1.2.1 < s.1.1)
theorem numP_le {T : Nat → Int32} {p : Nat → Bool} : ∀ f a v, v ≤ 99999 → numP T p f a v ≤ 99999 := by
  intro f
  induction f with
  | zero => intro a v h; exact h
  | succ f ih =>
    intro a v h
    unfold numP
    split
    · exact ih _ _ (Nat.min_le_left _ _)
    · exact h
theorem pTok_ok {T : Nat → Int32} {n a : Nat} {w : Nat → Nat} (ha : a ≤ n) : pOk n (pTok T n a, w) ∧ a ≤ (pTok T n a).2.1 := by
  have hb := skp_le (tpB_lt (T := T) (n := n)) (n - a) a ha
  unfold pTok pOk
  generalize hbe : skp (tpB T n) (n - a) a = b at hb ⊢
  split
  · dsimp only; omega
  · split
    · rename_i h1 h2
      have hl := tpC_lt _ h2
      have h3 := skp_le (tpC_lt (T := T) (n := n) (lo := 97) (hi := 122)) (n - b) b (by omega)
      have h4 : b < skp (tpC T n 97 122) (n - b) b := by
        rw [skp_t tpC_lt h2]
        have := skp_le (tpC_lt (T := T) (n := n) (lo := 97) (hi := 122)) (n - (b + 1)) (b + 1) (by omega)
        omega
      dsimp only; omega
    · split
      · rename_i h1 h0 h2
        have hl := tpC_lt _ h2
        have h3 := skp_le (tpC_lt (T := T) (n := n) (lo := 48) (hi := 57)) (n - b) b (by omega)
        have h4 : b < skp (tpC T n 48 57) (n - b) b := by
          rw [skp_t tpC_lt h2]
          have := skp_le (tpC_lt (T := T) (n := n) (lo := 48) (hi := 57)) (n - (b + 1)) (b + 1) (by omega)
          omega
        have h5 := numP_le (T := T) (p := tpC T n 48 57) (n - b) b 0 (by omega)
        dsimp only; omega
      · dsimp only
        split <;> omega
/-! what holds of the row while it is read -/
def rInv (w : Nat → Nat) : Prop :=
  (w 0 ≤ 16 ∧ w 1 ≤ 3 ∧ w 2 ≤ 10 ∧ w 3 ≤ 4 ∧ w 4 ≤ 7 ∧ w 5 ≤ 16 ∧ w 6 ≤ 8 ∧ w 7 ≤ 8 ∧ w 8 = 0) ∧
  (∀ i, i < 4 → obRoom w i ≤ 9 ∧ (w 3 ≤ i → obRoom w i = 0)) ∧ (∀ p, p < 7 → obMany w p ≤ 4 ∧ (0 < obMany w p → obArm w p < obMany w p ∧ p < w 4) ∧ (obMany w p = 0 → obArm w p = 0)) ∧
  (∀ p k, p < 7 → k < 4 → (k < obMany w p → obTo w p k < w 4 ∨ (10 ≤ obTo w p k ∧ obTo w p k < 10 + w 3)) ∧ (obMany w p ≤ k → obTo w p k = 0)) ∧
  (∀ i, i < w 7 → obWp w i < w 4) ∧ (∀ i, i < 8 → obWh w i ≤ 15)
def xOk (n : Nat) : pX → Prop
  | .inl s => pOk n s ∧ rInv s.2
  | .inr f => f.1 = 1 ∨ f.1 = 2 ∨ f.1 = 3
theorem pAdv_ok {T : Nat → Int32} {n : Nat} {s : pS} (h : pOk n s) : pOk n (pAdv T n s) := (pTok_ok (T := T) (w := s.2) h.1).1
theorem xAdv_ok {T : Nat → Int32} {n : Nat} {x : pX} (h : xOk n x) : xOk n (xAdv T n x) := by
  rcases x with s | f
  · exact ⟨pAdv_ok h.1, h.2⟩
  · exact h
theorem xErr_ok {n k : Nat} {x : pX} (hk : k = 1 ∨ k = 2 ∨ k = 3) (h : xOk n x) : xOk n (xErr k x) := by
  rcases x with s | f
  · exact hk
  · exact h
theorem xExp_ok {T : Nat → Int32} {n j : Nat} {x : pX} (h : xOk n x) : xOk n (xExp T n j x) := by
  unfold xExp; split
  · exact xAdv_ok h
  · exact xErr_ok (Or.inl rfl) h
/-- the row of a state, where there is one -/
theorem xNum_ok {T : Nat → Int32} {n : Nat} {lo hi : Int} {x : pX} (h : xOk n x) : xOk n (xNum T n lo hi x).2 ∧ ∀ s', (xNum T n lo hi x).2 = .inl s' → (lo ≤ ((xNum T n lo hi x).1 : Int) ∧ ((xNum T n lo hi x).1 : Int) ≤ hi) ∧ ∃ s, x = .inl s ∧ s'.2 = s.2 := by
  rcases x with s | f
  · unfold xNum
    dsimp only
    split
    · split
      · rename_i h1 h2
        exact ⟨⟨pAdv_ok h.1, h.2⟩, fun s' e => by cases e; exact ⟨h2, s, rfl, rfl⟩⟩
      · exact ⟨Or.inr (Or.inl rfl), fun s' e => by cases e⟩
    · exact ⟨Or.inl rfl, fun s' e => by cases e⟩
  · exact ⟨h, fun s' e => by cases e⟩
theorem xExp_row {T : Nat → Int32} {n j : Nat} {x : pX} {s' : pS} (h : xExp T n j x = .inl s') : ∃ s, x = .inl s ∧ s'.2 = s.2 := by
  rcases x with s | f
  · unfold xExp at h
    split at h
    · cases h; exact ⟨s, rfl, rfl⟩
    · cases h
  · unfold xExp at h
    split at h <;> cases h
theorem xTold_ok {T : Nat → Int32} {n j : Nat} {lo hi : Int} {x : pX} (h : xOk n x) : xOk n (xTold T n j lo hi x).2 ∧ ∀ s', (xTold T n j lo hi x).2 = .inl s' → (lo ≤ ((xTold T n j lo hi x).1 : Int) ∧ ((xTold T n j lo hi x).1 : Int) ≤ hi) ∧ ∃ s, x = .inl s ∧ s'.2 = s.2 := by
  have h1 := xNum_ok (T := T) (lo := lo) (hi := hi) (xExp_ok (T := T) (j := j) h)
  refine ⟨h1.1, fun s' e => ?_⟩
  obtain ⟨a, s, b, c⟩ := h1.2 s' e
  obtain ⟨s0, d, e⟩ := xExp_row b
  exact ⟨a, s0, d, c.trans e⟩
theorem xSet_ok {n : Nat} {f : (Nat → Nat) → (Nat → Nat)} {x : pX} (h : xOk n x) (hf : ∀ s, x = .inl s → rInv (f s.2)) : xOk n (xSet f x) := by
  rcases x with s | g
  · exact ⟨h.1, hf s rfl⟩
  · exact h
theorem rInv.small {w : Nat → Nat} {k v : Nat} (h : rInv w) (hk : k < 3 ∨ k = 9) (h0 : k = 0 → v ≤ 16) (h1 : k = 1 → v ≤ 3) (h2 : k = 2 → v ≤ 10) : rInv (fU w k v) := by
  have far : ∀ j, (3 ≤ j ∧ j ≠ 9) → fU w k v j = w j := fun j hj => fU_n (by omega)
  obtain ⟨⟨a0, a1, a2, a3⟩, b, c, d, e, g⟩ := h
  unfold rInv obRoom obMany obArm obTo obWp obWh at *
  have q : ∀ j B, w j ≤ B → (k = j → v ≤ B) → fU w k v j ≤ B := fun j B x y => by
    by_cases z : j = k
    · rw [z, fU_s]; exact y z.symm
    · rw [fU_n z]; exact x
  rw [far 3 (by omega), far 4 (by omega), far 5 (by omega), far 6 (by omega), far 7 (by omega), far 8 (by omega)]
  refine ⟨⟨q 0 16 a0 h0, q 1 3 a1 h1, q 2 10 a2 h2, a3⟩, fun i hi => ?_, fun p hp => ?_, fun p j hp hj => ?_, fun i hi => ?_, fun i hi => ?_⟩
  · rw [far _ (by omega)]; exact b i hi
  · rw [far _ (by omega), far _ (by omega)]; exact c p hp
  · rw [far _ (by omega), far _ (by omega)]; exact d p j hp hj
  · rw [far _ (by omega)]; exact e i hi
  · rw [far _ (by omega)]; exact g i hi
theorem rInv.inn {w : Nat → Nat} {v : Nat} (h : rInv w) (h3 : w 3 < 4) (hv : v ≤ 9) : rInv (innW v w) := by
  obtain ⟨⟨a0, a1, a2, a3, a4⟩, b, c, d, e, g⟩ := h
  have far : ∀ j, (j ≠ 3 ∧ (j < 10 ∨ 14 ≤ j)) → innW v w j = w j := fun j hj => by unfold innW; rw [fU_n (by omega), fU_n (by omega)]
  have e3 : innW v w 3 = w 3 + 1 := fU_s
  unfold rInv obRoom obMany obArm obTo obWp obWh at *
  rw [far 0 (by omega), far 1 (by omega), far 2 (by omega), e3, far 4 (by omega), far 5 (by omega), far 6 (by omega), far 7 (by omega), far 8 (by omega)]
  refine ⟨⟨a0, a1, a2, by omega, a4⟩, fun i hi => ?_, fun p hp => ?_, fun p j hp hj => ?_, fun i hi => ?_, fun i hi => ?_⟩
  · have e1 : innW v w (10 + i) = if i = w 3 then v else w (10 + i) := by
      unfold innW
      rw [fU_n (by omega)]
      by_cases z : i = w 3
      · rw [if_pos z, z, fU_s]
      · rw [if_neg z, fU_n (by omega)]
    rw [e1]
    have := b i hi
    split <;> omega
  · rw [far _ (by omega), far _ (by omega)]; exact c p hp
  · rw [far _ (by omega), far _ (by omega)]; have := d p j hp hj; omega
  · rw [far _ (by omega)]; exact e i hi
  · rw [far _ (by omega)]; exact g i hi
theorem rInv.post {w : Nat → Nat} (h : rInv w) (h4 : w 4 < 7) : rInv (fU w 4 (w 4 + 1)) := by
  obtain ⟨⟨a0, a1, a2, a3, a4, a5⟩, b, c, d, e, g⟩ := h
  have far : ∀ j, j ≠ 4 → fU w 4 (w 4 + 1) j = w j := fun j hj => fU_n hj
  have e4 : fU w 4 (w 4 + 1) 4 = w 4 + 1 := fU_s
  unfold rInv obRoom obMany obArm obTo obWp obWh at *
  rw [far 0 (by omega), far 1 (by omega), far 2 (by omega), far 3 (by omega), e4, far 5 (by omega), far 6 (by omega), far 7 (by omega), far 8 (by omega)]
  refine ⟨⟨a0, a1, a2, a3, by omega, a5⟩, fun i hi => ?_, fun p hp => ?_, fun p j hp hj => ?_, fun i hi => ?_, fun i hi => ?_⟩
  · rw [far _ (by omega)]; exact b i hi
  · rw [far _ (by omega), far _ (by omega)]; have := c p hp; omega
  · rw [far _ (by omega), far _ (by omega)]; have := d p j hp hj; omega
  · rw [far _ (by omega)]; have := e i hi; omega
  · rw [far _ (by omega)]; exact g i hi
theorem rInv.road {w : Nat → Nat} {p to : Nat} (h : rInv w) (hp : p < w 4) (hm : obMany w p < 4) (h5 : w 5 < 16) (ht : to < w 4 ∨ (10 ≤ to ∧ to < 10 + w 3)) : rInv (roadW p to w) := by
  obtain ⟨⟨a0, a1, a2, a3, a4, a5, a6⟩, b, c, d, e, g⟩ := h
  have hm' : w (14 + 6 * p) < 4 := hm
  have far : ∀ j, (j ≠ 5 ∧ (j < 14 + 6 * p ∨ 19 + 6 * p ≤ j)) → roadW p to w j = w j := fun j hj => by unfold roadW; rw [fU_n (by omega), fU_n (by omega), fU_n (by omega)]
  have e5 : roadW p to w 5 = w 5 + 1 := fU_s
  have em : roadW p to w (14 + 6 * p) = w (14 + 6 * p) + 1 := by unfold roadW; rw [fU_n (by omega), fU_s]
  have et : ∀ k, k < 4 → roadW p to w (15 + 6 * p + k) = if k = w (14 + 6 * p) then to else w (15 + 6 * p + k) := fun k hk => by
    unfold roadW
    rw [fU_n (by omega), fU_n (by omega)]
    by_cases z : k = w (14 + 6 * p)
    · rw [if_pos z, ← z, fU_s]
    · rw [if_neg z, fU_n (by omega)]
  unfold rInv obRoom obMany obArm obTo obWp obWh at *
  rw [far 0 (by omega), far 1 (by omega), far 2 (by omega), far 3 (by omega), far 4 (by omega), e5, far 6 (by omega), far 7 (by omega), far 8 (by omega)]
  refine ⟨⟨a0, a1, a2, a3, a4, by omega, a6⟩, fun i hi => ?_, fun q hq => ?_, fun q j hq hj => ?_, fun i hi => ?_, fun i hi => ?_⟩
  · rw [far _ (by omega)]; exact b i hi
  · have := c q hq
    by_cases z : q = p
    · subst z
      rw [em, far _ (by omega)]; omega
    · rw [far (14 + 6 * q) (by omega), far (19 + 6 * q) (by omega)]; exact this
  · have := d q j hq hj
    by_cases z : q = p
    · subst z
      rw [em, et j hj]
      split <;> omega
    · rw [far (14 + 6 * q) (by omega), far (15 + 6 * q + j) (by omega)]; exact this
  · rw [far _ (by omega)]; exact e i hi
  · rw [far _ (by omega)]; exact g i hi
theorem rInv.arm {w : Nat → Nat} {p r : Nat} (h : rInv w) (hp : p < w 4) (hr : r < obMany w p) (h6 : w 6 < 8) : rInv (armW p r w) := by
  obtain ⟨⟨a0, a1, a2, a3, a4, a5, a6, a7⟩, b, c, d, e, g⟩ := h
  have hr' : r < w (14 + 6 * p) := hr
  have far : ∀ j, (j ≠ 6 ∧ j ≠ 19 + 6 * p) → armW p r w j = w j := fun j hj => by unfold armW; rw [fU_n (by omega), fU_n (by omega)]
  have e6 : armW p r w 6 = w 6 + 1 := fU_s
  have ea : armW p r w (19 + 6 * p) = r := by unfold armW; rw [fU_n (by omega), fU_s]
  unfold rInv obRoom obMany obArm obTo obWp obWh at *
  rw [far 0 (by omega), far 1 (by omega), far 2 (by omega), far 3 (by omega), far 4 (by omega), far 5 (by omega), e6, far 7 (by omega), far 8 (by omega)]
  refine ⟨⟨a0, a1, a2, a3, a4, a5, by omega, a7⟩, fun i hi => ?_, fun q hq => ?_, fun q j hq hj => ?_, fun i hi => ?_, fun i hi => ?_⟩
  · rw [far _ (by omega)]; exact b i hi
  · have := c q hq
    by_cases z : q = p
    · subst z
      rw [far (14 + 6 * q) (by omega), ea]; omega
    · rw [far (14 + 6 * q) (by omega), far (19 + 6 * q) (by omega)]; exact this
  · rw [far (14 + 6 * q) (by omega), far (15 + 6 * q + j) (by omega)]; exact d q j hq hj
  · rw [far _ (by omega)]; exact e i hi
  · rw [far _ (by omega)]; exact g i hi
theorem rInv.walk {w : Nat → Nat} {p t : Nat} (h : rInv w) (hp : p < w 4) (ht : t ≤ 15) (h7 : w 7 < 8) : rInv (walkW p t w) := by
  obtain ⟨⟨a0, a1, a2, a3, a4, a5, a6, a7, a8⟩, b, c, d, e, g⟩ := h
  have far : ∀ j, (j ≠ 7 ∧ j ≠ 56 + 2 * w 7 ∧ j ≠ 57 + 2 * w 7) → walkW p t w j = w j := fun j hj => by unfold walkW; rw [fU_n (by omega), fU_n (by omega), fU_n (by omega)]
  have e7 : walkW p t w 7 = w 7 + 1 := fU_s
  have ep : walkW p t w (56 + 2 * w 7) = p := by unfold walkW; rw [fU_n (by omega), fU_n (by omega), fU_s]
  have et : walkW p t w (57 + 2 * w 7) = t := by unfold walkW; rw [fU_n (by omega), fU_s]
  unfold rInv obRoom obMany obArm obTo obWp obWh at *
  rw [far 0 (by omega), far 1 (by omega), far 2 (by omega), far 3 (by omega), far 4 (by omega), far 5 (by omega), far 6 (by omega), e7, far 8 (by omega)]
  refine ⟨⟨a0, a1, a2, a3, a4, a5, a6, by omega, a8⟩, fun i hi => ?_, fun q hq => ?_, fun q j hq hj => ?_, fun i hi => ?_, fun i hi => ?_⟩
  · rw [far _ (by omega)]; exact b i hi
  · rw [far (14 + 6 * q) (by omega), far (19 + 6 * q) (by omega)]; exact c q hq
  · rw [far (14 + 6 * q) (by omega), far (15 + 6 * q + j) (by omega)]; exact d q j hq hj
  · by_cases z : i = w 7
    · rw [z, ep]; exact hp
    · rw [far _ (by omega)]; exact e i (by omega)
  · by_cases z : i = w 7
    · rw [z, et]; exact ht
    · rw [far _ (by omega)]; exact g i hi
