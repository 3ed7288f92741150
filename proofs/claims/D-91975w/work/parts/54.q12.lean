/-! QUESTIONS: tree, ring, trees. Where the arms lead -/
theorem pigeon : ∀ (n : Nat) (f : Nat → Nat), (∀ i, i ≤ n → f i < n) → ∃ i j, i < j ∧ j ≤ n ∧ f i = f j := by
  intro n
  induction n with
  | zero => intro f h; exact absurd (h 0 (Nat.le_refl _)) (by omega)
  | succ n ih =>
    intro f h
    by_cases hx : ∃ i, i ≤ n ∧ f i = f (n + 1)
    · obtain ⟨i, hi, he⟩ := hx
      exact ⟨i, n + 1, by omega, Nat.le_refl _, he⟩
    · have hne : ∀ i, i ≤ n → f i ≠ f (n + 1) := fun i hi q => hx ⟨i, hi, q⟩
      have hv := h (n + 1) (Nat.le_refl _)
      obtain ⟨i, j, hij, hj, he⟩ := ih (fun i => if f (n + 1) < f i then f i - 1 else f i) (fun i hi => by
        have h1 := h i (by omega)
        have h2 := hne i hi
        show (if f (n + 1) < f i then f i - 1 else f i) < n
        split <;> omega)
      refine ⟨i, j, hij, by omega, ?_⟩
      have h1 := hne i (by omega)
      have h2 := hne j hj
      have he : (if f (n + 1) < f i then f i - 1 else f i) = (if f (n + 1) < f j then f j - 1 else f j) := he
      split at he <;> split at he <;> omega
def obNx (w a : Nat → Nat) (q : Nat) : Nat := if q < 10 ∧ obMany w q ≠ 0 then obTo w q (a q) else q
def obIt (w a : Nat → Nat) (p : Nat) : Nat → Nat
  | 0 => p
  | n + 1 => obNx w a (obIt w a p n)
theorem obNx_t {w a : Nat → Nat} {q : Nat} (h : q < 10) (hm : obMany w q ≠ 0) : obNx w a q = obTo w q (a q) := if_pos ⟨h, hm⟩
theorem obNx_f {w a : Nat → Nat} {q : Nat} (h : ¬ (q < 10 ∧ obMany w q ≠ 0)) : obNx w a q = q := if_neg h
theorem obIt_fix {w a : Nat → Nat} {p n : Nat} (h : obNx w a (obIt w a p n) = obIt w a p n) : ∀ m, n ≤ m → obIt w a p m = obIt w a p n := by
  intro m hm
  obtain ⟨r, rfl⟩ := Nat.exists_eq_add_of_le hm
  induction r with
  | zero => rfl
  | succ r ih =>
    show obNx w a (obIt w a p (n + r)) = _
    rw [ih (by omega)]; exact h
theorem obIt_add {w a : Nat → Nat} {p i j : Nat} (h : obIt w a p i = obIt w a p j) : ∀ m, obIt w a p (i + m) = obIt w a p (j + m) := by
  intro m
  induction m with
  | zero => exact h
  | succ m ih => show obNx w a (obIt w a p (i + m)) = obNx w a (obIt w a p (j + m)); rw [ih]
def armFit (w a : Nat → Nat) : Prop := ∀ p, p < w 4 → obMany w p ≠ 0 → a p < obMany w p
theorem obIt_ok {w a : Nat → Nat} (hI : obInv w) (hA : armFit w a) {p : Nat} (hp : p < w 4) : ∀ n, obIt w a p n < w 4 ∨ (10 ≤ obIt w a p n ∧ obIt w a p n < 10 + w 3) := by
  have hb := hI.b
  intro n
  induction n with
  | zero => exact Or.inl hp
  | succ n ih =>
    show obNx w a (obIt w a p n) < w 4 ∨ (10 ≤ obNx w a (obIt w a p n) ∧ obNx w a (obIt w a p n) < 10 + w 3)
    by_cases c : obIt w a p n < 10 ∧ obMany w (obIt w a p n) ≠ 0
    · rw [obNx_t c.1 c.2]
      have hq : obIt w a p n < w 4 := by omega
      exact hI.to (by omega) (hA _ hq c.2)
    · rw [obNx_f c]; exact ih
theorem obIt_abs {w a : Nat → Nat} {p n m : Nat} (hnm : n ≤ m) (h : 10 ≤ obIt w a p n) : obIt w a p m = obIt w a p n := obIt_fix (obNx_f (by omega)) m hnm
theorem obIt_78 {w a : Nat → Nat} (hI : obInv w) (hA : armFit w a) {p : Nat} (hp : p < w 4) : (10 ≤ obIt w a p 8) ↔ (10 ≤ obIt w a p 7) := by
  have hb := hI.b
  constructor
  · intro h8
    by_cases h7 : 10 ≤ obIt w a p 7
    · exact h7
    · exfalso
      obtain ⟨i, j, hij, hj, he⟩ := pigeon 7 (obIt w a p) (fun i hi => by
        have h1 := obIt_ok hI hA hp i
        by_cases c : 10 ≤ obIt w a p i
        · have := obIt_abs hi c; omega
        · omega)
      have e := obIt_add he (8 - j)
      rw [show j + (8 - j) = 8 by omega] at e
      have h9 : 10 ≤ obIt w a p (i + (8 - j)) := by omega
      have := obIt_abs (show i + (8 - j) ≤ 7 by omega) h9
      omega
  · intro h7
    rw [obIt_abs (show 7 ≤ 8 by omega) h7]; exact h7
theorem obIt_ring {w a : Nat → Nat} (hI : obInv w) (hA : armFit w a) {p : Nat} (hp : p < w 4) : ∀ n, 1 ≤ n → obIt w a p n = p → ∃ m, 1 ≤ m ∧ m ≤ w 4 ∧ obIt w a p m = p := by
  have hb := hI.b
  intro n
  induction n using Nat.strongRecOn with
  | _ n ih =>
    intro h1 hn
    by_cases c : n ≤ w 4
    · exact ⟨n, h1, c, hn⟩
    · obtain ⟨i, j, hij, hj, he⟩ := pigeon (w 4) (obIt w a p) (fun i hi => by
        have h1 := obIt_ok hI hA hp i
        by_cases c2 : 10 ≤ obIt w a p i
        · have := obIt_abs (show i ≤ n by omega) c2; omega
        · omega)
      have e := obIt_add he (n - j)
      rw [show j + (n - j) = n by omega] at e
      exact ih (i + (n - j)) (by omega) (by omega) (e.trans hn)
def obAny (c : Nat → Bool) : Nat → Bool
  | 0 => false
  | n + 1 => obAny c n || c n
theorem obAny_t {c : Nat → Bool} {n : Nat} : obAny c n = true ↔ ∃ k, k < n ∧ c k = true := by
  induction n with
  | zero => exact ⟨fun h => absurd h (by simp [obAny]), fun ⟨k, h, _⟩ => absurd h (by omega)⟩
  | succ n ih =>
    simp only [obAny, Bool.or_eq_true, ih]
    constructor
    · rintro (⟨k, h, e⟩ | e)
      · exact ⟨k, by omega, e⟩
      · exact ⟨n, by omega, e⟩
    · rintro ⟨k, h, e⟩
      by_cases q : k = n
      · right; rw [← q]; exact e
      · left; exact ⟨k, by omega, e⟩
theorem obAny_stop {c : Nat → Bool} {n m : Nat} (h : n ≤ m) (hf : ∀ k, n ≤ k → c k = false) : obAny c m = obAny c n := by
  obtain ⟨r, rfl⟩ := Nat.exists_eq_add_of_le h
  induction r with
  | zero => rfl
  | succ r ih => show (obAny c (n + r) || c (n + r)) = _; rw [ih (by omega), hf _ (by omega), Bool.or_false]
def ringC (w a : Nat → Nat) (p : Nat) (k : Nat) : Bool := decide (obMany w p ≠ 0) && decide (obIt w a p (k + 1) = p)
theorem ring_eq {w a : Nat → Nat} (hI : obInv w) (hA : armFit w a) {p : Nat} (hp : p < w 4) : obAny (ringC w a p) 7 = obAny (ringC w a p) (w 4) := by
  have hb := hI.b
  apply Bool.eq_iff_iff.mpr
  rw [obAny_t, obAny_t]
  constructor
  · rintro ⟨k, hk, e⟩
    simp only [ringC, Bool.and_eq_true, decide_eq_true_eq] at e
    obtain ⟨m, h1, h2, h3⟩ := obIt_ring hI hA hp (k + 1) (by omega) e.2
    refine ⟨m - 1, by omega, ?_⟩
    simp only [ringC, Bool.and_eq_true, decide_eq_true_eq]
    exact ⟨e.1, by rw [show m - 1 + 1 = m by omega]; exact h3⟩
  · rintro ⟨k, hk, e⟩
    exact ⟨k, by omega, e⟩
def badC (w a : Nat → Nat) (p : Nat) : Bool := decide (obMany w p ≠ 0) && decide (obIt w a p 7 < 10)
def obTree (w a : Nat → Nat) : Bool := !obAny (badC w a) (w 4)
/-- THE TWIN -/
abbrev armsM (w a : Nat → Nat) (σ : zS) : Prop := ∀ p, p < w 4 → obMany w p ≠ 0 → gA σ 29 0 p = nI (a p)
abbrev armsX (w a : Nat → Nat) (σ : zS) : Prop := ∀ p, p < w 4 → obMany w p ≠ 0 → gA σ 24 0 p = nI (a p)
theorem m_armGoes {G : zG} {d : Nat} {w a : Nat → Nat} {σ : zS} {q : Nat} {x : Int32} {K : Int32 → zS → Prop} (hw : wM w σ) (hI : obInv w) (hA : armFit w a) (h29 : armsM w a σ) (hx : x = nI q) (hq : q < w 4) (h0 : obMany w q = 0 → K (-1) σ) (h1 : obMany w q ≠ 0 → K (nI (obNx w a q)) σ) : zCallI zcl Zm G (d + 1) mX6_armGoes [zR 0 0, zI x] σ K := by
  refine zmeth VX6_ok pX6_armGoes rfl (by decide) (Nat.le_of_ble_eq_true rfl) (fun AW ha => ?_)
  have hb := hI.b
  have h4 := hI.many (show q < 7 by omega)
  subst hx
  refine sX6_armGoes_0 ha (m_roadMany hw rfl (by omega) ?_)
  rw [← nI_0]
  refine zeqN (by omega) (by omega) (fun c => ⟨_, rfl, h0 c⟩) (fun c => ⟨zix q rfl (by omega), ?_⟩)
  rw [zcl_n q rfl, h29 q hq c]
  have h1 := h1 c
  rw [obNx_t (by omega) c] at h1
  have := hA q hq c
  exact m_roadTo hw rfl rfl (by omega) (by omega) ⟨_, rfl, h1⟩
theorem in06 {G : zG} {d : Nat} {w : Nat → Nat} {σ : zS} {q : Nat} {K : Int32 → zS → Prop} (hb : w 4 ≤ 7 ∧ w 3 ≤ 4) (hq : q < w 4 ∨ (10 ≤ q ∧ q < 10 + w 3)) (h : K (bI (q < 10)) σ) : zCallI zcl Zm G d mX6_in [zL (nI q).toInt64, zL (0 : Int64), zL (6 : Int64)] σ K := by
  refine m_in ?_
  have e : (nI q).toInt = (q : Int) := nI_toInt (by omega)
  rw [i64, e, bI_c (show ((0 : Int64).toInt ≤ (q : Int) ∧ (q : Int) ≤ (6 : Int64).toInt) ↔ q < 10 from ?_)]
  · exact h
  · show ((0 : Int) ≤ (q : Int) ∧ (q : Int) ≤ 6) ↔ q < 10
    omega
theorem in06m {G : zG} {d : Nat} {σ : zS} {K : Int32 → zS → Prop} (h : K 0 σ) : zCallI zcl Zm G d mX6_in [zL (-1 : Int32).toInt64, zL (0 : Int64), zL (6 : Int64)] σ K := by
  refine m_in ?_
  rw [bI_f (by decide)]; exact h
theorem m_isHomeBy {G : zG} {d : Nat} {w a : Nat → Nat} {σ : zS} {p : Nat} {x : Int32} {K : Int32 → zS → Prop} (hw : wM w σ) (hI : obInv w) (hA : armFit w a) (h29 : armsM w a σ) (hx : x = nI p) (hp : p < w 4) (h : K (bI (10 ≤ obIt w a p 7)) σ) : zCallI zcl Zm G (d + 2) mX6_isHomeBy [zR 0 0, zI x] σ K := by
  refine zmeth VX6_ok pX6_isHomeBy rfl (by decide) (Nat.le_of_ble_eq_true rfl) (fun AW ha => ?_)
  have hb := hI.b
  rw [bI_c (obIt_78 hI hA hp).symm] at h
  subst hx
  have fin : ∀ q, obIt w a p 8 = q → (q < w 4 ∨ (10 ≤ q ∧ q < 10 + w 3)) → (nI q < (10 : Int32) → ((0 : Int32) = 0 ∨ (0 : Int32) = 1) ∧ ∃ y, some (zI 0) = some (zI y) ∧ K y σ) ∧ (¬ nI q < (10 : Int32) → ((1 : Int32) = 0 ∨ (1 : Int32) = 1) ∧ ∃ y, some (zI 1) = some (zI y) ∧ K y σ) := by
    intro q hq hv
    rw [hq] at h
    rw [c10]
    exact zltN (by omega) (by omega) (fun c => ⟨Or.inl rfl, _, rfl, by rw [bI_f (by omega)] at h; exact h⟩) (fun c => ⟨Or.inr rfl, _, rfl, by rw [bI_t c] at h; exact h⟩)
  have loop : ∀ r n, n + r = 8 → AW 4 [some (zR 0 0), some (zI (nI p)), some (zI (nI (obIt w a p n))), some (zI (nI n))] [] σ := by
    intro r
    induction r with
    | zero =>
      intro n hn
      have hv := obIt_ok hI hA hp n
      refine sX6_isHomeBy_4 ha ⟨fun _ => fin _ (by rw [show n = 8 by omega]) hv, fun c => absurd (show (7 : Int32) < nI n by rw [show n = 8 by omega]; decide) c⟩
    | succ r ih =>
      intro n hn
      have hv := obIt_ok hI hA hp n
      refine sX6_isHomeBy_4 ha ?_
      rw [c7]
      refine zltN (by omega) (by omega) (fun c => absurd c (by omega)) (fun _ => in06 ⟨by omega, by omega⟩ hv (zbr (fun c => fin _ (obIt_abs (by omega) (by omega)) hv) (fun c => m_armGoes hw hI hA h29 rfl (by omega) (fun c2 => ?_) (fun c2 => ?_))))
      · have hf : obIt w a p 8 < 10 := by rw [obIt_fix (n := n) (obNx_f (by omega)) 8 (by omega)]; exact c
        rw [bI_f (by omega)] at h
        rw [c1, nI_add]
        have tail : ((-1 : Int32) < (10 : Int32) → ((0 : Int32) = 0 ∨ (0 : Int32) = 1) ∧ ∃ y, some (zI 0) = some (zI y) ∧ K y σ) ∧ (¬ (-1 : Int32) < (10 : Int32) → ((1 : Int32) = 0 ∨ (1 : Int32) = 1) ∧ ∃ y, some (zI 1) = some (zI y) ∧ K y σ) :=
          ⟨fun _ => ⟨Or.inl rfl, _, rfl, h⟩, fun q => absurd (show (-1 : Int32) < 10 by decide) q⟩
        exact sX6_isHomeBy_4 ha ⟨fun _ => tail, fun _ => in06m ⟨fun _ => tail, fun q => absurd rfl q⟩⟩
      · rw [c1, nI_add]
        exact ih (n + 1) (by omega)
  have := loop 8 0 (by omega)
  rw [nI_0] at this
  exact sX6_isHomeBy_0 ha this
theorem m_isTree {G : zG} {d : Nat} {w a : Nat → Nat} {σ : zS} {K : Int32 → zS → Prop} (hw : wM w σ) (hI : obInv w) (hA : armFit w a) (h29 : armsM w a σ) (h : K (bI (obTree w a = true)) σ) : zCallI zcl Zm G (d + 3) mX6_isTree [zR 0 0] σ K := by
  refine zmeth VX6_ok pX6_isTree rfl (by decide) (Nat.le_of_ble_eq_true rfl) (fun AW ha => ?_)
  have hb := hI.b
  have start : AW 4 [some (zR 0 0), some (zI (bI (obAny (badC w a) 0 = false))), some (zI (nI 0))] [] σ := by
    refine loopN (N := w 4) (I := fun k => AW 4 [some (zR 0 0), some (zI (bI (obAny (badC w a) k = false))), some (zI (nI k))] [] σ) ?_ (fun k hk ih => ?_) 0 (Nat.zero_le _)
    · refine sX6_isTree_4 ha (m_posts hw (zltN (by omega) (by omega) (fun c => absurd c (by omega)) (fun _ => ⟨bI_01 _, _, rfl, ?_⟩)))
      rw [bI_c (show obTree w a = true ↔ obAny (badC w a) (w 4) = false by unfold obTree; cases obAny (badC w a) (w 4) <;> simp)] at h; exact h
    · have h4 := hI.many (show k < 7 by omega)
      refine sX6_isTree_4 ha (m_posts hw (zltN (by omega) (by omega) (fun _ => ?_) (fun c => absurd hk (Nat.not_lt.mpr c))))
      rw [c1, nI_add]
      refine zbr (fun c => ?_) (fun c => m_roadMany hw rfl (by omega) ?_)
      · rw [bI_f (by simp only [obAny]; cases e : obAny (badC w a) k; exact absurd e c; simp)] at ih; exact ih
      · rw [← nI_0]
        refine zeqN (by omega) (by omega) (fun c2 => ?_) (fun c2 => m_isHomeBy hw hI hA h29 rfl hk (zbr (fun c3 => ?_) (fun c3 => ?_)))
        · rw [bI_t (by simp [obAny, c, badC, c2])] at ih; exact ih
        · rw [bI_f (by simp [obAny, badC, c2]; intro _; omega)] at ih; exact ih
        · rw [bI_t (by simp [obAny, c, badC, c2]; omega)] at ih; exact ih
  rw [bI_t (show obAny (badC w a) 0 = false from rfl), nI_0] at start
  exact sX6_isTree_0 ha start
