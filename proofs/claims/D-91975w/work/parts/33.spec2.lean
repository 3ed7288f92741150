/-! FRAMES of the abstract state (kind 0's scalars, instance 0's arrays), bits, and the hours gone through -/
def zFr (I L A B : List Nat) (σ σ' : zS) : Prop := (∀ f, f ∉ I → σ'.1 0 f 0 = σ.1 0 f 0) ∧ (∀ f, f ∉ L → σ'.2.1 0 f 0 = σ.2.1 0 f 0) ∧ (∀ k, k ∉ A → σ'.2.2.1 k 0 = σ.2.2.1 k 0) ∧ ∀ k, k ∉ B → σ'.2.2.2.1 k 0 = σ.2.2.2.1 k 0
theorem zFr.refl {I L A B : List Nat} {σ : zS} : zFr I L A B σ σ := ⟨fun _ _ => rfl, fun _ _ => rfl, fun _ _ => rfl, fun _ _ => rfl⟩
theorem zFr.trans {I L A B : List Nat} {σ σ1 σ2 : zS} (h : zFr I L A B σ σ1) (h2 : zFr I L A B σ1 σ2) : zFr I L A B σ σ2 := ⟨fun f q => (h2.1 f q).trans (h.1 f q), fun f q => (h2.2.1 f q).trans (h.2.1 f q), fun f q => (h2.2.2.1 f q).trans (h.2.2.1 f q), fun f q => (h2.2.2.2 f q).trans (h.2.2.2 f q)⟩
theorem zFr.wk {I L A B I' L' A' B' : List Nat} {σ σ1 : zS} (h : zFr I L A B σ σ1) (hI : I.all (fun x => I'.contains x) = true := by decide) (hL : L.all (fun x => L'.contains x) = true := by decide) (hA : A.all (fun x => A'.contains x) = true := by decide) (hB : B.all (fun x => B'.contains x) = true := by decide) : zFr I' L' A' B' σ σ1 := by
  have sub : ∀ {X Y : List Nat}, X.all (fun x => Y.contains x) = true → ∀ x, x ∉ Y → x ∉ X := fun hX x q r => q (by have := List.all_eq_true.mp hX x r; simpa using this)
  exact ⟨fun f q => h.1 f (sub hI f q), fun f q => h.2.1 f (sub hL f q), fun f q => h.2.2.1 f (sub hA f q), fun f q => h.2.2.2 f (sub hB f q)⟩
theorem zFr.I {I L A B : List Nat} {σ σ1 : zS} (h : zFr I L A B σ σ1) (f : Nat) (hf : f ∉ I := by decide) : gI σ1 0 f 0 = gI σ 0 f 0 := h.1 f hf
theorem zFr.L {I L A B : List Nat} {σ σ1 : zS} (h : zFr I L A B σ σ1) (f : Nat) (hf : f ∉ L := by decide) : gL σ1 0 f 0 = gL σ 0 f 0 := h.2.1 f hf
theorem zFr.A {I L A B : List Nat} {σ σ1 : zS} (h : zFr I L A B σ σ1) (f : Nat) (hf : f ∉ A := by decide) : gA σ1 f 0 = gA σ f 0 := h.2.2.1 f hf
theorem zFr.B {I L A B : List Nat} {σ σ1 : zS} (h : zFr I L A B σ σ1) (f : Nat) (hf : f ∉ B := by decide) : gB σ1 f 0 = gB σ f 0 := h.2.2.2 f hf
theorem zFr.uA {I L A B : List Nat} {σ σ1 : zS} (h : zFr I L A B σ σ1) (k : Nat) (f : Nat → Int32) (hk : k ∈ A := by decide) : zFr I L A B σ (uA σ1 k 0 f) := by
  refine ⟨h.1, h.2.1, fun j q => ?_, h.2.2.2⟩
  show (bif Nat.beq j k && Nat.beq 0 0 then f else σ1.2.2.1 j 0) = _
  rw [zne2 (fun e => q (by rw [e.1]; exact hk))]
  exact h.2.2.1 j q
theorem zFr.uB {I L A B : List Nat} {σ σ1 : zS} (h : zFr I L A B σ σ1) (k : Nat) (f : Nat → Int64) (hk : k ∈ B := by decide) : zFr I L A B σ (uB σ1 k 0 f) := by
  refine ⟨h.1, h.2.1, h.2.2.1, fun j q => ?_⟩
  show (bif Nat.beq j k && Nat.beq 0 0 then f else σ1.2.2.2.1 j 0) = _
  rw [zne2 (fun e => q (by rw [e.1]; exact hk))]
  exact h.2.2.2 j q
theorem zFr.uI {I L A B : List Nat} {σ σ1 : zS} (h : zFr I L A B σ σ1) (k : Nat) (x : Int32) (hk : k ∈ I := by decide) : zFr I L A B σ (uI σ1 0 k 0 x) := by
  refine ⟨fun j q => ?_, h.2.1, h.2.2.1, h.2.2.2⟩
  show (bif Nat.beq 0 0 && (Nat.beq j k && Nat.beq 0 0) then x else σ1.1 0 j 0) = _
  have : (Nat.beq 0 0 && (Nat.beq j k && Nat.beq 0 0)) = false := by rw [zne2 (fun e => q (by rw [e.1]; exact hk))]; rfl
  rw [this]
  exact h.1 j q
theorem zFr.uL {I L A B : List Nat} {σ σ1 : zS} (h : zFr I L A B σ σ1) (k : Nat) (x : Int64) (hk : k ∈ L := by decide) : zFr I L A B σ (uL σ1 0 k 0 x) := by
  refine ⟨h.1, fun j q => ?_, h.2.2.1, h.2.2.2⟩
  show (bif Nat.beq 0 0 && (Nat.beq j k && Nat.beq 0 0) then x else σ1.2.1 0 j 0) = _
  have : (Nat.beq 0 0 && (Nat.beq j k && Nat.beq 0 0)) = false := by rw [zne2 (fun e => q (by rw [e.1]; exact hk))]; rfl
  rw [this]
  exact h.2.1 j q
/-- bits -/
theorem sh31 : ∀ k, k < 31 → ((nI k &&& 31).toBitVec.smod 32).toNat = k := by decide +kernel
theorem bitN {s k : Nat} (hs : s < 2 ^ 31) (hk : k < 31) : (nI s >>> (nI k &&& 31)) &&& 1 = nI (s / 2 ^ k % 2) := by
  rw [pk_shrN hs _ k (sh31 k hk), pk_andN (Nat.lt_of_le_of_lt (Nat.div_le_self _ _) (by omega)) 1 (by decide)]
theorem bit1 {k : Nat} (hk : k < 31) : (1 : Int32) <<< (nI k &&& 31) = nI (2 ^ k) := by
  have h := pk_shlN (n := 1) (nI k &&& 31) k (sh31 k hk) (by rw [Nat.one_mul]; exact Nat.pow_lt_pow_right (by decide) (by omega))
  rw [Nat.one_mul] at h
  exact h
theorem orN (a b : Nat) : nI a ||| nI b = nI (a ||| b) := by
  apply Int32.toBitVec_inj.mp
  rw [Int32.toBitVec_or]
  show BitVec.ofNat 32 a ||| BitVec.ofNat 32 b = BitVec.ofNat 32 (a ||| b)
  exact (BitVec.ofNat_or ..).symm
/-- how many of the first n bits are set -/
def obCnt (s : Nat) : Nat → Nat
  | 0 => 0
  | n + 1 => obCnt s n + s / 2 ^ n % 2
/-- the set of those below n of which c is told -/
def obSet (c : Nat → Bool) : Nat → Nat
  | 0 => 0
  | n + 1 => obSet c n ||| (if c n then 2 ^ n else 0)
theorem obSet_lt (c : Nat → Bool) (n : Nat) : obSet c n < 2 ^ n := by
  induction n with
  | zero => show 0 < 2 ^ 0; decide
  | succ n ih =>
    have h1 : obSet c n < 2 ^ (n + 1) := Nat.lt_of_lt_of_le ih (Nat.pow_le_pow_right (by decide) (by omega))
    refine Nat.or_lt_two_pow h1 ?_
    split
    · exact Nat.pow_lt_pow_right (by decide) (by omega)
    · exact Nat.two_pow_pos _
theorem obSet_congr {c c' : Nat → Bool} {n : Nat} (h : ∀ i, i < n → c i = c' i) : obSet c n = obSet c' n := by
  induction n with
  | zero => rfl
  | succ n ih => simp only [obSet, ih (fun i hi => h i (by omega)), h n (by omega)]
/-- THE HOURS. An arm turned on, back; the state of an hour: arms, places, roads used, walks, guests, refused, who was sent -/
def obFwd (w : Nat → Nat) (a : Nat → Nat) (p : Nat) : Nat → Nat := fU a p ((a p + 1) % obMany w p)
def obBwd (w : Nat → Nat) (a : Nat → Nat) (p : Nat) : Nat → Nat := fU a p ((a p + obMany w p - 1) % obMany w p)
abbrev obR : Type := (Nat → Nat) × (Nat → Option Nat) × (Nat → Nat) × (Nat → Nat) × (Nat → Nat) × (Nat → Nat) × Nat
/-- what is told for a question: law, fog, posts that turn, arms first, hours of coming -/
abbrev obP : Type := Nat × Nat × Nat × (Nat → Nat) × (Nat → Nat)
def obSendB (w : Nat → Nat) (law : Nat) (a : Nat → Nat) (p : Nat) : Nat → Nat := if law = 1 then obFwd w a p else a
def obSendR (w : Nat → Nat) (P : obP) (a : Nat → Nat) (p : Nat) : Nat := if P.2.2.1 / 2 ^ p % 2 = 0 then a p else obSendB w P.1 a p p
def obSendC (w : Nat → Nat) (law : Nat) (a : Nat → Nat) (p r : Nat) : Nat → Nat := if law = 0 ∨ (law = 3 ∧ obTo w p r < 10) then obFwd w a p else a
def obSendD (w : Nat → Nat) (law : Nat) (a : Nat → Nat) (p : Nat) : Nat → Nat := if law = 2 then obBwd w a p else a
def obSendA (w : Nat → Nat) (P : obP) (a : Nat → Nat) (p : Nat) : Nat → Nat := if P.2.2.1 / 2 ^ p % 2 = 0 then a else obSendD w P.1 (obSendC w P.1 (obSendB w P.1 a p) p (obSendB w P.1 a p p)) p
def obHeldN (w : Nat → Nat) (i t : Nat) : Nat → Bool
  | 0 => false
  | k + 1 => obHeldN w i t k || Nat.beq (obAct w k) (10000 + 100 * i + t)
def obHeld (w : Nat → Nat) (i t : Nat) : Bool := obHeldN w i t (w 8)
def obStep (w : Nat → Nat) (P : obP) (i p : Nat) (R : obR) : obR :=
  (obSendA w P R.1 p, (if obTo w p (obSendR w P R.1 p) < 10 ∨ R.2.2.2.2.1 (obTo w p (obSendR w P R.1 p) - 10) < obRoom w (obTo w p (obSendR w P R.1 p) - 10) then fU R.2.1 i (some (obTo w p (obSendR w P R.1 p))) else R.2.1),
   fU R.2.2.1 (4 * p + obSendR w P R.1 p) (R.2.2.1 (4 * p + obSendR w P R.1 p) + 1), fU R.2.2.2.1 i (R.2.2.2.1 i + 1),
   (if 10 ≤ obTo w p (obSendR w P R.1 p) ∧ R.2.2.2.2.1 (obTo w p (obSendR w P R.1 p) - 10) < obRoom w (obTo w p (obSendR w P R.1 p) - 10) then fU R.2.2.2.2.1 (obTo w p (obSendR w P R.1 p) - 10) (R.2.2.2.2.1 (obTo w p (obSendR w P R.1 p) - 10) + 1) else R.2.2.2.2.1),
   (if 10 ≤ obTo w p (obSendR w P R.1 p) ∧ ¬ R.2.2.2.2.1 (obTo w p (obSendR w P R.1 p) - 10) < obRoom w (obTo w p (obSendR w P R.1 p) - 10) then fU R.2.2.2.2.2.1 (obTo w p (obSendR w P R.1 p) - 10) (R.2.2.2.2.2.1 (obTo w p (obSendR w P R.1 p) - 10) + 1) else R.2.2.2.2.2.1),
   R.2.2.2.2.2.2 ||| 2 ^ i)
/-- from where one is sent in the hour t -/
def obFrom (w : Nat → Nat) (P : obP) (t i : Nat) (R : obR) : Option Nat := match R.2.1 i with
  | none => none
  | some p => if p < 10 ∧ obMany w p ≠ 0 ∧ obHeld w i t = false ∧ P.2.1 / 2 ^ t % 2 = 0 then some p else none
def obWalks (w : Nat → Nat) (P : obP) (t : Nat) (R : obR) : Nat → obR
  | 0 => R
  | i + 1 => match obFrom w P t i (obWalks w P t R i) with
    | none => obWalks w P t R i
    | some p => obStep w P i p (obWalks w P t R i)
def obActs (w : Nat → Nat) (t : Nat) (a : Nat → Nat) : Nat → (Nat → Nat)
  | 0 => a
  | k + 1 => if obAct w k < 10000 ∧ obAct w k % 100 = t ∧ 0 < obMany w (obAct w k / 100) then obFwd w (obActs w t a k) (obAct w k / 100) else obActs w t a k
def obArr (w : Nat → Nat) (P : obP) (t : Nat) (R : obR) : obR := (R.1, (fun i => if i < w 7 ∧ P.2.2.2.2 i = t then some (obWp w i) else R.2.1 i), R.2.2)
def obGo (w : Nat → Nat) (P : obP) (t : Nat) (R : obR) : obR := obWalks w P t (obActs w t R.1 (w 8), R.2.1, R.2.2.1, R.2.2.2.1, R.2.2.2.2.1, R.2.2.2.2.2.1, 0) (w 7)
def obAt (w : Nat → Nat) (P : obP) : Nat → obR
  | 0 => obArr w P 0 (P.2.2.2.1, fun _ => none, fun _ => 0, fun _ => 0, fun _ => 0, fun _ => 0, 0)
  | t + 1 => obArr w P (t + 1) (obGo w P t (obAt w P t))
/-- what holds at every hour -/
def obArmOk (w : Nat → Nat) (a : Nat → Nat) : Prop := ∀ p, p < 7 → 0 < obMany w p → a p < obMany w p
def obRok (w : Nat → Nat) (R : obR) : Prop := obArmOk w R.1 ∧ (∀ i p, R.2.1 i = some p → p < w 4 ∨ (10 ≤ p ∧ p < 10 + w 3)) ∧ ∀ j, j < 4 → R.2.2.2.2.1 j ≤ obRoom w j
def obPok (w : Nat → Nat) (P : obP) : Prop := P.1 ≤ 3 ∧ P.2.1 < 2 ^ 16 ∧ P.2.2.1 < 2 ^ 16 ∧ obArmOk w P.2.2.2.1 ∧ ∀ i, i < 8 → P.2.2.2.2 i < 2 ^ 31
theorem obFwd_ok {w a : Nat → Nat} {p : Nat} (h : obArmOk w a) (hm : 0 < obMany w p) : obArmOk w (obFwd w a p) := by
  intro q hq hmq
  unfold obFwd
  by_cases e : q = p
  · subst e; rw [fU_s]; exact Nat.mod_lt _ hm
  · rw [fU_n e]; exact h q hq hmq
theorem obBwd_ok {w a : Nat → Nat} {p : Nat} (h : obArmOk w a) (hm : 0 < obMany w p) : obArmOk w (obBwd w a p) := by
  intro q hq hmq
  unfold obBwd
  by_cases e : q = p
  · subst e; rw [fU_s]; exact Nat.mod_lt _ hm
  · rw [fU_n e]; exact h q hq hmq
theorem obSendB_ok {w a : Nat → Nat} {p law : Nat} (h : obArmOk w a) (hm : 0 < obMany w p) : obArmOk w (obSendB w law a p) := by
  unfold obSendB; split
  · exact obFwd_ok h hm
  · exact h
theorem obSendA_ok {w a : Nat → Nat} {P : obP} {p : Nat} (h : obArmOk w a) (hm : 0 < obMany w p) : obArmOk w (obSendA w P a p) := by
  unfold obSendA; split
  · exact h
  · unfold obSendD obSendC
    have h1 := obSendB_ok (law := P.1) h hm
    split <;> split <;> first | exact obBwd_ok (obFwd_ok h1 hm) hm | exact obBwd_ok h1 hm | exact obFwd_ok h1 hm | exact h1
theorem obSendR_lt {w a : Nat → Nat} {P : obP} {p : Nat} (h : obArmOk w a) (hp : p < 7) (hm : 0 < obMany w p) : obSendR w P a p < obMany w p := by
  unfold obSendR; split
  · exact h p hp hm
  · exact obSendB_ok h hm p hp hm
theorem obStep_ok {w : Nat → Nat} {P : obP} {i p : Nat} {R : obR} (hI : obInv w) (h : obRok w R) (hp : p < w 4) (hm : 0 < obMany w p) : obRok w (obStep w P i p R) := by
  have hb := hI.b
  obtain ⟨h1, h2, h3⟩ := h
  have hr := obSendR_lt (P := P) h1 (by omega) hm
  have ht := hI.to (by omega) hr
  refine ⟨obSendA_ok h1 hm, fun j q hq => ?_, fun j hj => ?_⟩
  · unfold obStep at hq
    dsimp only at hq
    split at hq
    · by_cases e : j = i
      · subst e; rw [fU_s] at hq; cases hq; exact ht
      · rw [fU_n e] at hq; exact h2 j q hq
    · exact h2 j q hq
  · unfold obStep
    dsimp only
    split
    · rename_i hc
      by_cases e : j = obTo w p (obSendR w P R.1 p) - 10
      · rw [e, fU_s]; exact hc.2
      · rw [fU_n e]; exact h3 j hj
    · exact h3 j hj
theorem obFrom_some {w : Nat → Nat} {P : obP} {t i p : Nat} {R : obR} (h : obFrom w P t i R = some p) : R.2.1 i = some p ∧ p < 10 ∧ obMany w p ≠ 0 ∧ obHeld w i t = false ∧ P.2.1 / 2 ^ t % 2 = 0 := by
  unfold obFrom at h
  split at h
  · cases h
  · rename_i q hq
    split at h
    · rename_i hc; cases h; exact ⟨hq, hc⟩
    · cases h
theorem obWalks_ok {w : Nat → Nat} {P : obP} {t : Nat} {R : obR} (hI : obInv w) (h : obRok w R) : ∀ n, obRok w (obWalks w P t R n) := by
  have hb := hI.b
  intro n
  induction n with
  | zero => exact h
  | succ n ih =>
    unfold obWalks
    split
    · exact ih
    · rename_i p hp
      obtain ⟨g1, g2, g3, -⟩ := obFrom_some hp
      have := ih.2.1 n p g1
      exact obStep_ok hI ih (by omega) (by omega)
theorem obActs_ok {w a : Nat → Nat} {t : Nat} (h : obArmOk w a) : ∀ n, obArmOk w (obActs w t a n) := by
  intro n
  induction n with
  | zero => exact h
  | succ n ih =>
    unfold obActs
    split
    · rename_i hc; exact obFwd_ok ih hc.2.2
    · exact ih
theorem obArr_ok {w : Nat → Nat} {P : obP} {t : Nat} {R : obR} (hI : obInv w) (h : obRok w R) : obRok w (obArr w P t R) := by
  refine ⟨h.1, fun i p hp => ?_, h.2.2⟩
  unfold obArr at hp
  dsimp only at hp
  split at hp
  · rename_i hc; cases hp; exact Or.inl (hI.wp hc.1)
  · exact h.2.1 i p hp
theorem obGo_ok {w : Nat → Nat} {P : obP} {t : Nat} {R : obR} (hI : obInv w) (h : obRok w R) : obRok w (obGo w P t R) := by
  unfold obGo
  refine obWalks_ok hI ?_ _
  exact ⟨obActs_ok h.1 _, h.2.1, h.2.2⟩
theorem obAt_ok {w : Nat → Nat} {P : obP} (hI : obInv w) (hP : obPok w P) : ∀ t, obRok w (obAt w P t) := by
  intro t
  induction t with
  | zero =>
    unfold obAt
    refine obArr_ok hI ⟨hP.2.2.2.1, ?_, ?_⟩
    · intro i p h; cases h
    · intro j _; exact Nat.zero_le _
  | succ t ih => exact obArr_ok hI (obGo_ok hI ih)
