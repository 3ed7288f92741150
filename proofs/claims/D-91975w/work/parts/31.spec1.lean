/-! THE HEATH AS A ROW OF NUMBERS w (the twin's layout), and what is known of it -/
def agr (N : Nat) (f : Nat → Int32) (g : Nat → Nat) : Prop := ∀ j, j < N → f j = nI (g j)
def fU {α : Type} (f : Nat → α) (k : Nat) (v : α) : Nat → α := fun j => if j = k then v else f j
theorem fU_s {α : Type} {f : Nat → α} {k : Nat} {v : α} : fU f k v k = v := if_pos rfl
theorem fU_n {α : Type} {f : Nat → α} {k j : Nat} {v : α} (h : j ≠ k) : fU f k v j = f j := if_neg h
theorem agr.upd {N k : Nat} {f : Nat → Int32} {g : Nat → Nat} {x : Int32} {v : Nat} (h : agr N f g) (hx : x = nI v) : agr N (upd f k x) (fU g k v) := by
  intro j hj
  by_cases e : j = k
  · subst e; rw [pk_us, fU_s, hx]
  · rw [pk_un e, fU_n e]; exact h j hj
/-- a place: none is -1 -/
def pI : Option Nat → Int32
  | none => -1
  | some n => nI n
def agp (N : Nat) (f : Nat → Int32) (g : Nat → Option Nat) : Prop := ∀ j, j < N → f j = pI (g j)
theorem agp.upd {N k : Nat} {f : Nat → Int32} {g : Nat → Option Nat} {x : Int32} {v : Option Nat} (h : agp N f g) (hx : x = pI v) : agp N (upd f k x) (fU g k v) := by
  intro j hj
  by_cases e : j = k
  · subst e; rw [pk_us, fU_s, hx]
  · rw [pk_un e, fU_n e]; exact h j hj
def obMany (w : Nat → Nat) (p : Nat) : Nat := w (14 + 6 * p)
def obTo (w : Nat → Nat) (p k : Nat) : Nat := w (15 + 6 * p + k)
def obArm (w : Nat → Nat) (p : Nat) : Nat := w (19 + 6 * p)
def obRoom (w : Nat → Nat) (i : Nat) : Nat := w (10 + i)
def obWp (w : Nat → Nat) (i : Nat) : Nat := w (56 + 2 * i)
def obWh (w : Nat → Nat) (i : Nat) : Nat := w (57 + 2 * i)
def obAct (w : Nat → Nat) (k : Nat) : Nat := w (72 + k)
/-- an act: an arm turned by hand (100 times the post, and the hour), or a walker held (10,000 more) -/
def obActOk (w : Nat → Nat) (a : Nat) : Prop := (a / 100 < w 4 ∧ a % 100 < w 0) ∨ (10000 ≤ a ∧ (a - 10000) / 100 < w 7 ∧ (a - 10000) % 100 < w 0)
def obInv (w : Nat → Nat) : Prop :=
  (w 0 ≤ 16 ∧ w 1 ≤ 3 ∧ w 2 ≤ 10 ∧ w 3 ≤ 4 ∧ w 4 ≤ 7 ∧ w 5 ≤ 16 ∧ w 6 ≤ 8 ∧ w 7 ≤ 8 ∧ w 8 ≤ 30 ∧ w 9 ≤ 1000) ∧
  (∀ i, i < 4 → obRoom w i ≤ 9) ∧ (∀ p, p < 7 → obMany w p ≤ 4 ∧ (0 < obMany w p → obArm w p < obMany w p ∧ p < w 4) ∧ (obMany w p = 0 → obArm w p = 0)) ∧
  (∀ p k, p < 7 → k < obMany w p → obTo w p k < w 4 ∨ (10 ≤ obTo w p k ∧ obTo w p k < 10 + w 3)) ∧
  (∀ i, i < w 7 → obWp w i < w 4) ∧ (∀ i, i < 8 → obWh w i ≤ 15) ∧ (∀ k, k < w 8 → obActOk w (obAct w k)) ∧ (w 9 = 0 → ∀ j, j < 102 → w j = 0) ∧ (w 9 ≠ 0 → 1 ≤ w 0)
theorem obInv.b {w : Nat → Nat} (h : obInv w) : w 0 ≤ 16 ∧ w 1 ≤ 3 ∧ w 2 ≤ 10 ∧ w 3 ≤ 4 ∧ w 4 ≤ 7 ∧ w 5 ≤ 16 ∧ w 6 ≤ 8 ∧ w 7 ≤ 8 ∧ w 8 ≤ 30 ∧ w 9 ≤ 1000 := h.1
theorem obInv.room {w : Nat → Nat} (h : obInv w) {i : Nat} (hi : i < 4) : obRoom w i ≤ 9 := h.2.1 i hi
theorem obInv.many {w : Nat → Nat} (h : obInv w) {p : Nat} (hp : p < 7) : obMany w p ≤ 4 := (h.2.2.1 p hp).1
theorem obInv.arm {w : Nat → Nat} (h : obInv w) {p : Nat} (hp : p < 7) (hm : 0 < obMany w p) : obArm w p < obMany w p := ((h.2.2.1 p hp).2.1 hm).1
theorem obInv.armB {w : Nat → Nat} (h : obInv w) {p : Nat} (hp : p < 7) : obArm w p < 4 := by
  rcases Nat.eq_zero_or_pos (obMany w p) with q | q
  · rw [(h.2.2.1 p hp).2.2 q]; omega
  · have := h.arm hp q; have := h.many hp; omega
theorem obInv.to {w : Nat → Nat} (h : obInv w) {p k : Nat} (hp : p < 7) (hk : k < obMany w p) : obTo w p k < w 4 ∨ (10 ≤ obTo w p k ∧ obTo w p k < 10 + w 3) := h.2.2.2.1 p k hp hk
theorem obInv.toB {w : Nat → Nat} (h : obInv w) {p k : Nat} (hp : p < 7) (hk : k < obMany w p) : obTo w p k < 14 := by
  have := h.to hp hk; have := h.b; omega
theorem obInv.wp {w : Nat → Nat} (h : obInv w) {i : Nat} (hi : i < w 7) : obWp w i < w 4 := h.2.2.2.2.1 i hi
theorem obInv.wh {w : Nat → Nat} (h : obInv w) {i : Nat} (hi : i < 8) : obWh w i ≤ 15 := h.2.2.2.2.2.1 i hi
theorem obInv.act {w : Nat → Nat} (h : obInv w) {k : Nat} (hk : k < w 8) : obActOk w (obAct w k) := h.2.2.2.2.2.2.1 k hk
theorem obInv.zero {w : Nat → Nat} (h : obInv w) (h9 : w 9 = 0) {j : Nat} (hj : j < 102) : w j = 0 := h.2.2.2.2.2.2.2.1 h9 j hj
/-- numbers as they stand in the code -/
theorem c14 : (14 : Int32) = nI 14 := rfl
theorem c6 : (6 : Int32) = nI 6 := rfl
theorem c1 : (1 : Int32) = nI 1 := rfl
theorem c4 : (4 : Int32) = nI 4 := rfl
theorem c2 : (2 : Int32) = nI 2 := rfl
theorem c3 : (3 : Int32) = nI 3 := rfl
theorem c7 : (7 : Int32) = nI 7 := rfl
theorem c8 : (8 : Int32) = nI 8 := rfl
theorem c10 : (10 : Int32) = nI 10 := rfl
theorem c56 : (56 : Int32) = nI 56 := rfl
theorem c72 : (72 : Int32) = nI 72 := rfl
theorem c100 : (100 : Int32) = nI 100 := rfl
theorem c10000 : (10000 : Int32) = nI 10000 := rfl
theorem toI_1 {n : Nat} (h : n < 2 ^ 31) : (nI n - 1).toInt = (n : Int) - 1 := by
  rcases n with _ | n
  · decide
  · rw [nI_pred, nI_toInt (by omega)]; omega
