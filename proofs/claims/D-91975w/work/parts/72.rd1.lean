/-! THE TWIN READS -/
/-- the tape as it lies: bytes -/
def isByte (T : Nat → Int32) : Prop := ∀ j, -128 ≤ (T j).toInt ∧ (T j).toInt < 128
theorem byte_all : ∀ n : Nat, n < 256 → ((Int32.ofInt ((n : Int) - 128)) &&& 255).toInt = (if 128 ≤ n then (n : Int) - 128 else (n : Int) + 128) := by decide +kernel
theorem byte_255 {x : Int32} (h : -128 ≤ x.toInt ∧ x.toInt < 128) : (x &&& 255).toInt = (if 0 ≤ x.toInt then x.toInt else x.toInt + 256) := by
  have a := byte_all (x.toInt + 128).toNat (by omega)
  rw [show (((x.toInt + 128).toNat : Nat) : Int) - 128 = x.toInt by omega, Int32.ofInt_toInt] at a
  rw [a]
  split <;> split <;> omega
def tS (T : Nat → Int32) (n a : Nat) : Int32 := if a < n then T a &&& 255 else -1
theorem tS_in {T : Nat → Int32} {n a : Nat} {lo hi : Int} (hT : isByte T) (h0 : 0 ≤ lo) (h1 : hi < 128) : (lo ≤ (tS T n a).toInt ∧ (tS T n a).toInt ≤ hi) ↔ tpC T n lo hi a = true := by
  unfold tS tpC
  rw [decide_eq_true_iff]
  by_cases c : a < n
  · rw [if_pos c, byte_255 (hT a)]
    have := hT a
    split <;> omega
  · rw [if_neg c, show (-1 : Int32).toInt = -1 from rfl]
    omega
theorem tS_eq {T : Nat → Int32} {n a c : Nat} (hT : isByte T) (hc : c < 128) : tS T n a = nI c ↔ tpC T n c c a = true := by
  rw [← tS_in hT (by omega) (by omega), ← Int32.toInt_inj, nI_toInt (by omega)]
  omega
theorem tS_end {T : Nat → Int32} {n a : Nat} (hT : isByte T) : tS T n a = -1 ↔ n ≤ a := by
  rw [← Int32.toInt_inj, show (-1 : Int32).toInt = -1 from rfl]
  unfold tS
  by_cases c : a < n
  · rw [if_pos c, byte_255 (hT a)]
    have := hT a
    split <;> omega
  · rw [if_neg c, show (-1 : Int32).toInt = -1 from rfl]
    omega
/-- what is read -/
def rC (T : Nat → Int32) (n : Nat) (σ : zS) : Prop := n ≤ 800 ∧ isByte T ∧ gI σ 0 7 0 = nI n ∧ (∀ j, j < n → gA σ 4 0 j = T j) ∧ sOk σ
theorem rC.fr {T : Nat → Int32} {n : Nat} {I : List (Nat × Nat)} {A : List Nat} {σ σ' : zS} (h : rC T n σ) (hf : xFr I A σ σ') (i1 : (0, 7) ∉ I := by decide) (i2 : (97, 1) ∉ I := by decide) (a1 : 4 ∉ A := by decide) (a2 : 98 ∉ A := by decide) : rC T n σ' := by
  obtain ⟨h1, h2, h3, h4, h5, h6⟩ := h
  refine ⟨h1, h2, by rw [hf.I 0 7 0 i1]; exact h3, fun j hj => by rw [hf.A 4 0 a1]; exact h4 j hj, by rw [hf.C]; exact h5, fun j hj => ?_⟩
  rw [hf.C, hf.I 97 1 j i2, hf.A 98 j a2]
  exact h6 j hj
/-- where it reads on, where the token begins, the token, its number -/
def rT (t : Nat × Nat × Nat × Nat) (σ : zS) : Prop := gI σ 0 8 0 = nI t.1 ∧ gI σ 0 9 0 = nI t.2.1 ∧ gI σ 0 10 0 = nI t.2.2.1 ∧ (t.2.2.1 = 2 → gI σ 0 11 0 = nI t.2.2.2)
def rdI : List (Nat × Nat) := [(0, 8), (0, 9), (0, 10), (0, 11), (0, 12), (0, 13)]
def rF (σ σ' : zS) : Prop := xFr rdI [14] σ σ'
theorem pTok_t {T : Nat → Int32} {n a : Nat} (h : tpB T n a = true) : pTok T n a = pTok T n (a + 1) := by
  unfold pTok; rw [skp_t tpB_lt h]
theorem pTok_f {T : Nat → Int32} {n a : Nat} (h : tpB T n a = false) : pTok T n a = (if a = n then (a, a, 0, 0) else if tpC T n 97 122 a = true then (skp (tpC T n 97 122) (n - a) a, a, 1, 0) else if tpC T n 48 57 a = true then (skp (tpC T n 48 57) (n - a) a, a, 2, numP T (tpC T n 48 57) (n - a) a 0) else (a + 1, a, (if (T a).toInt = 59 then 3 else 4), 0)) := by
  unfold pTok; rw [skp_f h]
theorem m_see {G : zG} {d : Nat} {T : Nat → Int32} {n a : Nat} {x : Int32} {σ : zS} {K : Int32 → zS → Prop} (hC : rC T n σ) (hx : x = nI a) (ha : a ≤ n) (h : K (tS T n a) σ) : zCallI zcl Zm G d mX6_see [zR 0 0, zI x] σ K := by
  refine zmeth VX6_ok pX6_see rfl (by decide) (Nat.le_of_ble_eq_true rfl) (fun AW hA => ?_)
  have hn := hC.1
  refine sX6_see_0 hA ?_
  rw [hC.2.2.1, hx]
  unfold tS at h
  refine zltN (by omega) (by omega) (fun c => ⟨zix a rfl (by omega), _, rfl, ?_⟩) (fun c => ⟨_, rfl, ?_⟩)
  · rw [zcl_n a rfl, hC.2.2.2.1 a c]
    rw [if_pos c] at h; exact h
  · rw [if_neg (by omega)] at h; exact h
theorem m_inC {G : zG} {d : Nat} {T : Nat → Int32} {n a : Nat} {lo hi : Int64} {l r : Int} {σ : zS} {K : Int32 → zS → Prop} (hT : isByte T) (hl : lo.toInt = l) (hr : hi.toInt = r) (h0 : 0 ≤ l) (h1 : r < 128) (h : K (bI (tpC T n l r a = true)) σ) : zCallI zcl Zm G d mX6_in [zL (tS T n a).toInt64, zL lo, zL hi] σ K := by
  refine m_in ?_
  rw [hl, hr, i64, bI_c (tS_in (T := T) (n := n) (a := a) hT h0 h1)]
  exact h
theorem pfJ3b : plainFor mJ3_min.1 = true := by decide +kernel
theorem m_min {G : zG} {d : Nat} {x y : Int32} {σ : zS} {K : Int32 → zS → Prop} (h : K (if y < x then y else x) σ) : zCallI zcl Zm G d mJ3_min [zI x, zI y] σ K := by
  refine zmethF VJ3_ok pJ3_min rfl pfJ3b (Nat.le_of_ble_eq_true rfl) (fun AW hA => ?_)
  refine sJ3_min_m_0 hA ⟨fun c => ⟨_, rfl, ?_⟩, fun c => ⟨_, rfl, ?_⟩⟩
  · rw [if_pos c] at h; exact h
  · rw [if_neg c] at h; exact h
theorem dig {T : Nat → Int32} {n a v : Nat} (hT : isByte T) (h : tpC T n 48 57 a = true) (hv : v ≤ 99999) : (if ((10 : Int32) * nI v + tS T n a) - 48 < 99999 then ((10 : Int32) * nI v + tS T n a) - 48 else 99999) = nI (min 99999 (10 * v + ((T a).toInt - 48).toNat)) := by
  have h1 := of_decide_eq_true h
  have e : tS T n a = nI ((T a).toInt - 48).toNat + 48 := by
    unfold tS
    rw [if_pos h1.1, ← Int32.toInt_inj, byte_255 (hT a), if_pos (by omega), show (48 : Int32) = nI 48 from rfl, nI_add, nI_toInt (by omega)]
    omega
  have e2 : ((10 : Int32) * nI v + tS T n a) - 48 = nI (10 * v + ((T a).toInt - 48).toNat) := by
    rw [e, c10, pk_mul, ← Int32.add_assoc, nI_add, Int32.add_sub_cancel]
  rw [e2, show (99999 : Int32) = nI 99999 from rfl]
  by_cases c : 10 * v + ((T a).toInt - 48).toNat < 99999
  · rw [if_pos ((nI_ltI (by omega) (by decide)).mpr c)]; congr 1; omega
  · rw [if_neg (fun z => c ((nI_ltI (by omega) (by decide)).mp z))]; congr 1; omega
theorem m_advance {G : zG} {d : Nat} {T : Nat → Int32} {n a : Nat} {σ : zS} {K : zS → Prop} (hC : rC T n σ) (hat : gI σ 0 8 0 = nI a) (ha : a ≤ n) (h : ∀ σ', rT (pTok T n a) σ' → xFr [(0, 8), (0, 9), (0, 10), (0, 11)] [] σ σ' → K σ') : zCallV zcl Zm G (d + 1) mX6_advance [zR 0 0] σ K := by
  refine zmeth VX6_ok pX6_advance rfl (by decide) (Nat.le_of_ble_eq_true rfl) (fun AW hA => ?_)
  have hn := hC.1
  have hT := hC.2.1
  -- letters
  have L83 : ∀ m b a0 (x : Int32) (σ2 : zS), n - a0 = m → a0 ≤ n → gI σ2 0 8 0 = nI a0 → gI σ2 0 9 0 = nI b → xFr [(0, 8), (0, 9), (0, 10), (0, 11)] [] σ σ2 → pTok T n a = (skp (tpC T n 97 122) (n - a0) a0, b, 1, 0) → AW 83 [some (zR 0 0), some (zI x)] [] σ2 := by
    intro m
    induction m with
    | zero =>
      intro b a0 x σ2 hm ha0 h8 h9 hf ht
      have hC2 := hC.fr hf
      refine sX6_advance_83 hA (m_see hC2 h8 ha0 (m_inC (l := 97) (r := 122) hT rfl rfl (by decide) (by decide) ?_))
      have c : tpC T n 97 122 a0 = false := by
        cases q : tpC T n 97 122 a0 with
        | false => rfl
        | true => have := tpC_lt _ q; omega
      refine zbr (fun _ => ⟨rfl, ?_⟩) (fun q => absurd (c.symm.trans q) (by decide))
      refine h _ ?_ (hf.uI 0 10 _)
      rw [ht, skp_f c]
      exact ⟨h8, h9, rfl, fun q => absurd (show (1 : Nat) = 2 from q) (by decide)⟩
    | succ m ih =>
      intro b a0 x σ2 hm ha0 h8 h9 hf ht
      have hC2 := hC.fr hf
      refine sX6_advance_83 hA (m_see hC2 h8 ha0 (m_inC (l := 97) (r := 122) hT rfl rfl (by decide) (by decide) ?_))
      refine zbr (fun c => ⟨rfl, ?_⟩) (fun c => ?_)
      · refine h _ ?_ (hf.uI 0 10 _)
        rw [ht, skp_f (by simpa using c)]
        exact ⟨h8, h9, rfl, fun q => absurd (show (1 : Nat) = 2 from q) (by decide)⟩
      · have hl := tpC_lt _ c
        refine ih b (a0 + 1) x _ (by omega) (by omega) ?_ h9 (hf.uI 0 8 _) (by rw [ht, skp_t tpC_lt c])
        show gI σ2 0 8 0 + (1 : Int32) = _
        rw [h8, c1, nI_add]
  -- figures
  have L144 : ∀ m b a0 v (x : Int32) (σ2 : zS), n - a0 = m → a0 ≤ n → v ≤ 99999 → gI σ2 0 8 0 = nI a0 → gI σ2 0 9 0 = nI b → gI σ2 0 11 0 = nI v → xFr [(0, 8), (0, 9), (0, 10), (0, 11)] [] σ σ2 → pTok T n a = (skp (tpC T n 48 57) (n - a0) a0, b, 2, numP T (tpC T n 48 57) (n - a0) a0 v) → AW 144 [some (zR 0 0), some (zI x)] [] σ2 := by
    intro m
    induction m with
    | zero =>
      intro b a0 v x σ2 hm ha0 hv h8 h9 h11 hf ht
      have hC2 := hC.fr hf
      refine sX6_advance_144 hA (m_see hC2 h8 ha0 (m_inC (l := 48) (r := 57) hT rfl rfl (by decide) (by decide) ?_))
      have c : tpC T n 48 57 a0 = false := by
        cases q : tpC T n 48 57 a0 with
        | false => rfl
        | true => have := tpC_lt _ q; omega
      refine zbr (fun _ => ⟨rfl, ?_⟩) (fun q => absurd (c.symm.trans q) (by decide))
      refine h _ ?_ (hf.uI 0 10 _)
      rw [ht, skp_f c, numP_f c]
      exact ⟨h8, h9, rfl, fun _ => h11⟩
    | succ m ih =>
      intro b a0 v x σ2 hm ha0 hv h8 h9 h11 hf ht
      have hC2 := hC.fr hf
      refine sX6_advance_144 hA (m_see hC2 h8 ha0 (m_inC (l := 48) (r := 57) hT rfl rfl (by decide) (by decide) ?_))
      refine zbr (fun c => ⟨rfl, ?_⟩) (fun c => m_see hC2 h8 ha0 (m_min ?_))
      · have c : tpC T n 48 57 a0 = false := by simpa using c
        refine h _ ?_ (hf.uI 0 10 _)
        rw [ht, skp_f c, numP_f c]
        exact ⟨h8, h9, rfl, fun _ => h11⟩
      · have hl := tpC_lt _ c
        rw [h11, dig hT c hv]
        refine ih b (a0 + 1) _ x _ (by omega) (by omega) (Nat.min_le_left _ _) ?_ h9 rfl ((hf.uI 0 11 _).uI 0 8 _) (by rw [ht, skp_t tpC_lt c, numP_t tpC_lt c])
        show gI σ2 0 8 0 + (1 : Int32) = _
        rw [h8, c1, nI_add]
  -- blanks
  have L0 : ∀ m a0 (σ2 : zS), n - a0 = m → a0 ≤ n → gI σ2 0 8 0 = nI a0 → xFr [(0, 8), (0, 9), (0, 10), (0, 11)] [] σ σ2 → pTok T n a = pTok T n a0 → AW 0 [some (zR 0 0), none] [] σ2 := by
    intro m
    induction m with
    | zero =>
      intro a0 σ2 hm ha0 h8 hf ht
      have hC2 := hC.fr hf
      obtain rfl : a0 = n := by omega
      have s1 : tS T a0 a0 = -1 := (tS_end hT).mpr (Nat.le_refl _)
      have hb : tpB T a0 a0 = false := by
        cases q : tpB T a0 a0 with
        | false => rfl
        | true => have := tpB_lt _ q; omega
      refine sX6_advance_0 hA (m_see hC2 h8 ha0 ?_)
      rw [s1]
      refine ⟨fun q => absurd q (by decide), fun _ => m_see hC2 h8 ha0 ?_⟩
      rw [s1]
      refine ⟨fun q => absurd q (by decide), fun _ => m_see (hC2.fr (xFr.refl.uI (I := [(0, 9)]) (A := []) 0 9 _)) h8 ha0 ?_⟩
      rw [s1]
      refine ⟨fun _ => ⟨rfl, h _ ?_ ((hf.uI 0 9 _).uI 0 10 _)⟩, fun q => absurd rfl q⟩
      rw [ht, pTok_f hb, if_pos rfl]
      exact ⟨h8, h8, rfl, fun q => absurd (show (0 : Nat) = 2 from q) (by decide)⟩
    | succ m ih =>
      intro a0 σ2 hm ha0 h8 hf ht
      have hC2 := hC.fr hf
      have up : tpB T n a0 = true → AW 0 [some (zR 0 0), none] [] (uI σ2 0 8 0 (gI σ2 0 8 0 + (1 : Int32))) := fun q => by
        refine ih (a0 + 1) _ (by omega) (by omega) ?_ (hf.uI 0 8 _) (by rw [ht, pTok_t q])
        show gI σ2 0 8 0 + (1 : Int32) = _
        rw [h8, c1, nI_add]
      refine sX6_advance_0 hA (m_see hC2 h8 ha0 ⟨fun q => up ?_, fun q => m_see hC2 h8 ha0 ⟨fun q2 => up ?_, fun q2 => ?_⟩⟩)
      · unfold tpB; rw [Bool.or_eq_true]; exact Or.inl ((tS_eq (c := 32) hT (by decide)).mp q)
      · unfold tpB; rw [Bool.or_eq_true]; exact Or.inr ((tS_eq (c := 10) hT (by decide)).mp q2)
      have hb : tpB T n a0 = false := by
        unfold tpB
        cases z1 : tpC T n 32 32 a0 with
        | true => exact absurd ((tS_eq (c := 32) hT (by decide)).mpr z1) q
        | false =>
          cases z2 : tpC T n 10 10 a0 with
          | true => exact absurd ((tS_eq (c := 10) hT (by decide)).mpr z2) q2
          | false => rfl
      have ht := ht.trans (pTok_f hb)
      have g1 := hf.uI 0 9 (gI σ2 0 8 0)
      have hC3 := hC.fr g1
      refine m_see hC3 h8 ha0 ⟨fun q3 => absurd ((tS_end hT).mp q3) (by omega), fun q3 => m_inC (l := 97) (r := 122) hT rfl rfl (by decide) (by decide) ?_⟩
      rw [if_neg (by omega)] at ht
      refine zbr (fun c => m_inC (l := 48) (r := 57) hT rfl rfl (by decide) (by decide) ?_) (fun c => ?_)
      · rw [if_neg c] at ht
        refine zbr (fun c' => ?_) (fun c' => ?_)
        · rw [if_neg c'] at ht
          have fin : ∀ k, (if (T a0).toInt = 59 then 3 else 4) = k → K (uI (uI (uI σ2 0 9 0 (gI σ2 0 8 0)) 0 10 0 (nI k)) 0 8 0 (gI (uI σ2 0 9 0 (gI σ2 0 8 0)) 0 8 0 + (1 : Int32))) := fun k hk => by
            refine h _ ?_ ((g1.uI 0 10 _).uI 0 8 _)
            rw [ht]
            refine ⟨?_, h8, by rw [hk]; rfl, fun z => ?_⟩
            · show gI σ2 0 8 0 + (1 : Int32) = _
              rw [h8, c1, nI_add]
            · exfalso
              dsimp only at z
              split at z <;> omega
          have e59 : tS T n a0 = (59 : Int32) ↔ (T a0).toInt = 59 := by
            have z := tS_eq (T := T) (n := n) (a := a0) (c := 59) hT (by decide)
            refine Iff.trans z ?_
            unfold tpC
            rw [decide_eq_true_iff]
            omega
          refine ⟨fun q5 => ⟨rfl, fin 3 (if_pos (e59.mp q5))⟩, fun q5 => ⟨rfl, fin 4 (if_neg (fun z => q5 (e59.mpr z)))⟩⟩
        · rw [if_pos c'] at ht
          exact L144 _ a0 a0 0 _ _ rfl ha0 (by omega) h8 h8 rfl (g1.uI 0 11 _) ht
      · rw [if_pos c] at ht
        exact L83 _ a0 a0 _ _ rfl ha0 h8 h8 g1 ht
  exact L0 _ a σ rfl ha hat xFr.refl rfl
