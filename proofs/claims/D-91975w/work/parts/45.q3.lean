/-! QUESTIONS: doors, armless, done, crowd, meet, busy, idle, settings -/
theorem zMetF {l : Launch} {y : MethodName} {ws ws' : List Cond} {rm : Room} {Pc : Array Value → State → Prop} {Qc : Array Value → State → Outcome → State → Prop} {mc ms : Nat} {free : Addr → Prop} {cc : ByteArray} {maxL : Nat} {ret : Option FieldType}
    (hy : plainFor y = true) (hw : ws = Cond.code y cc maxL ret :: ws')
    (body : ∀ p e s m args below meth c s₁, BodyLoose p l y (headSpec ws rm) cc maxL ret e s m args below meth c s₁ → c.maxLocals = maxL → Pc args s →
      W p l e (headSpec ws rm).room s m args below meth c s.heap [] 0 0 (MQ below Qc args s mc ms free) (entryFrame m args maxL)) : Met l y ws rm Pc Qc mc ms free := by
  refine MetFree.of_bodySF (code := cc) (maxLocals := maxL) (ret := ret) hy ?_ ?_
  · intro args s m h hn
    obtain ⟨meth, c, h1, h2, h3, h4, h5, h6, -, -⟩ := Cond.code_spec hn (atoms_spec (ws := ws) h _ (by rw [hw]; exact List.mem_cons_self))
    exact ⟨meth, c, h1, h2, h3, h4, h5, h6⟩
  · intro p e s m args below meth c s₁ B hml hP _
    have hh0 : s₁.heap = s.heap := by rw [B.state]; rfl
    obtain ⟨t, a1, o, b1, b2, b3⟩ := body p e s m args below meth c s₁ B hml hP s₁ hh0 (Stand.of_body B)
    exact ⟨t, o, a1, b1, b2, ⟨b3.1, b3.2⟩⟩
theorem zmethodF {cl : List vw_C} {own : String} {V : zRes} {g : zP} {mm : zM} (hV : zVok cl own V) (hg : zprog mm.2.1 mm.2.2.1 g) (hown : mm.1.cls = own) (hpl : plainFor mm.1 = true) {Z : zZ} {G : zG} {d : Nat} {as : List zV} {σ : zS} {Q : Option zV → zS → Prop} (hlen : (zent as).length ≤ mm.2.2.1)
    (body : ∀ AW : zAW, zClo cl V mm.2.2.2 g Z G d Q AW → AW 0 (zentry as mm.2.2.1) [] σ) : zCall cl Z G d mm as σ Q := by
  intro l sz
  refine zMetF (cc := mm.2.1) (maxL := mm.2.2.1) (ret := mm.2.2.2) hpl rfl ?_
  intro p e s m args below meth c s₁ B hml hv
  obtain ⟨rfl, hsz, hR, hK, hST⟩ := hv
  have hts := atoms_spec (ws := ws_ mm.1 mm.2.1 mm.2.2.1 mm.2.2.2) B.pre
  have hts : ∀ w ∈ lw_all, w.before _ s = true := fun w h => hts w (List.mem_cons_of_mem _ h)
  have hown2 : s.vm.findClass own = some m.cls := by rw [← hown]; exact findClass_of_methodNamed B.named
  subst hsz
  have key := body (zAWr p l e s m (as.map (zC G.2.1)).toArray below meth c cl Z G (zA Z G σ.2.2.2.2 s.heap.size) mm.2.2.1 σ.2.2.2.2 (zRoom d) 0 0 (MQ below (zQc cl Z G σ.2.2.2.2 (zA Z G σ.2.2.2.2 s.heap.size) Q) (as.map (zC G.2.1)).toArray s 0 0 (zA Z G σ.2.2.2.2 s.heap.size))) ?_
  · rw [lg_entry_eq]
    have hl := lv_entry (as.map (zC G.2.1)) (n := mm.2.2.1) (by rw [← zent_len]; exact hlen)
    exact key s.heap [] _ hR rfl va_S.rf (zentry_has hlen hl)
  · intro AW1 h1 pc ins tg ls st σ' hf ht
    obtain ⟨len, hmem⟩ := zfind_mem hf
    obtain ⟨hd, hw⟩ := hg _ hmem
    exact zop_ok ⟨p, l, e, s, m, _, below, meth, c, _, _, _, _, _, ⟨B.exec, B.bytes, hml, hown2, hts, hK, B.returns, B.notSynchronized, fun q h => Or.inl h, fun q h => Or.inr h, hST.avoid (Nat.le_refl _), ⟨Nat.le_refl _, Nat.le_refl _, Nat.zero_le _, Nat.zero_le _⟩, fun H locs g h => h⟩, rfl⟩ h1 hV hw hd ht
theorem zmethF {own : String} {V : zRes} {g : zP} {mm : zM} (hV : zVok zcl own V) (hg : zprogM mm g) (hown : mm.1.cls = own) (hpl : plainFor mm.1 = true) {Z : zZ} {G : zG} {d : Nat} {as : List zV} {σ : zS} {Q : Option zV → zS → Prop} (hlen : (zent as).length ≤ mm.2.2.1)
    (body : ∀ AW : zAW, zClo zcl V mm.2.2.2 g Z G d Q AW → AW 0 (zentry as mm.2.2.1) [] σ) : zCall zcl Z G d mm as σ Q := zmethodF hV hg hown hpl hlen body
theorem pfJ3 : plainFor mJ3_max.1 = true := by decide +kernel
theorem zJ3 {Z : zZ} {G : zG} {d : Nat} {Q : Option zV → zS → Prop} {AW : zAW} (ha : zClo zcl VJ3 (some .int) gJ3_max Z G d Q AW) {a0 : Int32} {a1 : Int32} {σ : zS} (h : ((a0 < a1 → Q (some (zI a1)) σ) ∧ (¬ a0 < a1 → Q (some (zI a0)) σ))) : AW 0 [some (zI a0), some (zI a1)] [] σ := zseg_ok ha [] 8 h
theorem z_max {Z : zZ} {G : zG} {d a b : Nat} {x y : Int32} {σ : zS} {K : Int32 → zS → Prop} (hx : x = nI a) (hy : y = nI b) (ha : a < 2 ^ 31) (hb : b < 2 ^ 31) (h : K (nI (max a b)) σ) : zCallI zcl Z G d mJ3_max [zI x, zI y] σ K := by
  refine zmethF VJ3_ok pJ3_max rfl pfJ3 (Nat.le_of_ble_eq_true rfl) (fun AW hA => ?_)
  refine zJ3 hA ?_
  rw [hx, hy]
  refine zltN ha hb (fun c => ⟨_, rfl, ?_⟩) (fun c => ⟨_, rfl, ?_⟩)
  · rw [Nat.max_eq_right (Nat.le_of_lt c)] at h; exact h
  · rw [Nat.max_eq_left c] at h; exact h
/-- where a post's roads lead -/
def obOuts (w : Nat → Nat) (p : Nat) : Nat → Nat
  | 0 => 0
  | n + 1 => obOuts w p n ||| 2 ^ obTo w p n
def obDoors (w : Nat → Nat) (p : Nat) : Nat → Nat
  | 0 => 0
  | n + 1 => obDoors w p n ||| (if obTo w p n < 10 then 0 else 2 ^ (obTo w p n - 10))
theorem obOuts_lt {w : Nat → Nat} (hI : obInv w) {p n : Nat} (hp : p < 7) (hn : n ≤ obMany w p) : obOuts w p n < 2 ^ 14 := by
  induction n with
  | zero => show 0 < 2 ^ 14; decide
  | succ n ih => exact Nat.or_lt_two_pow (ih (by omega)) (Nat.pow_lt_pow_right (by decide) (hI.toB hp (by omega)))
theorem obOuts_doors {w : Nat → Nat} (p n : Nat) : obOuts w p n / 2 ^ 10 = obDoors w p n := by
  induction n with
  | zero => exact Nat.zero_div _
  | succ n ih =>
    show (obOuts w p n ||| 2 ^ obTo w p n) / 2 ^ 10 = obDoors w p n ||| (if obTo w p n < 10 then 0 else 2 ^ (obTo w p n - 10))
    rw [← Nat.shiftRight_eq_div_pow, Nat.shiftRight_or_distrib, Nat.shiftRight_eq_div_pow, ih, Nat.shiftRight_eq_div_pow]
    congr 1
    split
    · rename_i c; exact Nat.div_eq_of_lt (Nat.pow_lt_pow_right (by decide) c)
    · rename_i c; exact Nat.pow_div (by omega) (by decide)
theorem x_roadsFrom {G : zG} {d : Nat} {w : Nat → Nat} {σ : zS} {p : Nat} {x : Int32} {K : Int32 → zS → Prop} (hw : wX w σ) (hI : obInv w) (hx : x = nI p) (hp : p < w 4) (h : K (nI (obOuts w p (obMany w p))) σ) : zCallI zcl Zx G (d + 4) mX0_roadsFrom [zR 0 0, zI x] σ K := by
  refine zmeth VX0_ok pX0_roadsFrom rfl (by decide) (Nat.le_of_ble_eq_true rfl) (fun AW ha => ?_)
  have hb := hI.b
  have h4 := hI.many (show p < 7 by omega)
  have hC := Nat.lt_of_lt_of_eq hp hw.C0.symm
  refine sX0_roadsFrom_0 ha (loopN (N := obMany w p) (I := fun k => AW 4 [some (zR 0 0), some (zI x), some (zI (nI (obOuts w p k))), some (zI (nI k))] [] σ) ?_ (fun k hk ih => ?_) 0 (Nat.zero_le _))
  · refine sX0_roadsFrom_4 ha (x_postOf hw hI hx hp ⟨hC, ?_⟩)
    rw [hw.many hp]
    exact zltN (by omega) (by omega) (fun c => absurd c (by omega)) (fun _ => ⟨_, rfl, h⟩)
  · refine sX0_roadsFrom_4 ha (x_postOf hw hI hx hp ⟨hC, ?_⟩)
    rw [hw.many hp]
    refine zltN (by omega) (by omega) (fun _ => x_postOf hw hI hx hp ⟨hC, hC, zix _ rfl (by omega), ?_⟩) (fun c => absurd hk (Nat.not_lt.mpr c))
    have hT := hI.toB (show p < 7 by omega) hk
    rw [zcl_n k rfl, hw.to hp k (by omega), bit1 (by omega), orN, c1, nI_add]
    exact ih
def oDoors (w : Nat → Nat) (a : Int32) : Int32 := if poOk w a then nI (obDoors w a.toNatClampNeg (obMany w a.toNatClampNeg)) else -2
theorem m_doors {G : zG} {d : Nat} {w : Nat → Nat} {σ : zS} {a : Int32} {K : Int32 → zS → Prop} (hw : wM w σ) (hI : obInv w) (h : ∀ σ', mSc σ σ' → K (oDoors w a) σ') : zCallI zcl Zm G (d + 2) mX6_doors [zR 0 0, zI a] σ K := by
  refine zmeth VX6_ok pX6_doors rfl (by decide) (Nat.le_of_ble_eq_true rfl) (fun AW ha => ?_)
  have hb := hI.b
  have h := h σ mSc.refl
  unfold oDoors at h
  refine sX6_doors_0 ha (m_isPost hw hI ?_)
  rw [i64]
  refine zbr (fun c => ⟨_, rfl, by rw [if_neg c] at h; exact h⟩) (fun c => ?_)
  rw [if_pos c] at h
  obtain ⟨e, hl⟩ := okN c
  have h4 := hI.many (show a.toNatClampNeg < 7 by omega)
  refine loopN (N := obMany w a.toNatClampNeg) (I := fun k => AW 16 [some (zR 0 0), some (zI a), some (zI (nI (obDoors w a.toNatClampNeg k))), some (zI (nI k))] [] σ) ?_ (fun k hk ih => ?_) 0 (Nat.zero_le _)
  · exact sX6_doors_16 ha (m_roadMany hw e (by omega) (zltN (by omega) (by omega) (fun c => absurd c (by omega)) (fun _ => ⟨_, rfl, h⟩)))
  · have hT := hI.toB (show a.toNatClampNeg < 7 by omega) hk
    refine sX6_doors_16 ha (m_roadMany hw e (by omega) (zltN (by omega) (by omega) (fun _ => m_roadTo hw e rfl (by omega) (by omega) ?_) (fun c => absurd hk (Nat.not_lt.mpr c))))
    rw [c10]
    refine zltN (by omega) (by omega) (fun c2 => ?_) (fun c2 => m_roadTo hw e rfl (by omega) (by omega) ?_)
    · rw [← nI_0, orN, c1, nI_add]
      simp only [obDoors, if_pos c2] at ih; exact ih
    · have : nI (obTo w a.toNatClampNeg k) - nI 10 = nI (obTo w a.toNatClampNeg k - 10) := by
        rw [show nI (obTo w a.toNatClampNeg k) = nI (obTo w a.toNatClampNeg k - 10) + nI 10 by rw [nI_add]; congr 1; omega]
        exact Int32.add_sub_cancel _ _
      rw [this, bit1 (by omega), orN, c1, nI_add]
      simp only [obDoors, if_neg (Nat.not_lt.mpr c2)] at ih; exact ih
theorem x_doors {G : zG} {d : Nat} {w : Nat → Nat} {σ : zS} {a : Int32} {K : Int32 → zS → Prop} (hw : wX w σ) (hI : obInv w) (h : ∀ σ', xSc σ σ' → K (oDoors w a) σ') : zCallI zcl Zx G (d + 5) mX0_doors [zR 0 0, zI a] σ K := by
  refine zmeth VX0_ok pX0_doors rfl (by decide) (Nat.le_of_ble_eq_true rfl) (fun AW ha => ?_)
  have hb := hI.b
  have h := h σ xSc.refl
  unfold oDoors at h
  refine sX0_doors_0 ha (x_isPost hw hI (zbr (fun c => ⟨_, rfl, by rw [if_neg c] at h; exact h⟩) (fun c => ?_)))
  rw [if_pos c] at h
  obtain ⟨e, hl⟩ := okN c
  refine x_roadsFrom hw hI e hl ⟨_, rfl, ?_⟩
  have := pk_shrN (Nat.lt_trans (obOuts_lt hI (show a.toNatClampNeg < 7 by omega) (Nat.le_refl _)) (by decide)) ((10 : Int32) &&& 31) 10 (sh31 10 (by decide))
  rw [this, obOuts_doors]; exact h
def oArmless (w : Nat → Nat) : Int32 := if 0 < w 9 then nI (obSet (fun p => decide (obMany w p = 0)) (w 4)) else -2
theorem m_armless {G : zG} {d : Nat} {w : Nat → Nat} {σ : zS} {K : Int32 → zS → Prop} (hw : wM w σ) (hI : obInv w) (h : ∀ σ', mSc σ σ' → K (oArmless w) σ') : zCallI zcl Zm G (d + 2) mX6_armless [zR 0 0] σ K := by
  refine zmeth VX6_ok pX6_armless rfl (by decide) (Nat.le_of_ble_eq_true rfl) (fun AW ha => ?_)
  have hb := hI.b
  have h := h σ mSc.refl
  unfold oArmless at h
  refine sX6_armless_0 ha (m_isHeath hw hI (zbr (fun c => ⟨_, rfl, by rw [if_neg c] at h; exact h⟩) (fun c => ?_)))
  rw [if_pos c] at h
  refine loopN (N := w 4) (I := fun k => AW 14 [some (zR 0 0), some (zI (nI (obSet (fun p => decide (obMany w p = 0)) k))), some (zI (nI k))] [] σ) ?_ (fun k hk ih => ?_) 0 (Nat.zero_le _)
  · exact sX6_armless_14 ha (m_posts hw (zltN (by omega) (by omega) (fun c => absurd c (by omega)) (fun _ => ⟨_, rfl, h⟩)))
  · have h4 := hI.many (show k < 7 by omega)
    refine sX6_armless_14 ha (m_posts hw (zltN (by omega) (by omega) (fun _ => m_roadMany hw rfl (by omega) ?_) (fun c => absurd hk (Nat.not_lt.mpr c))))
    rw [← nI_0]
    refine zeqN (by omega) (by omega) (fun c2 => ?_) (fun c2 => ?_)
    · rw [obSet_t (c := fun p => decide (obMany w p = 0)) (decide_eq_true c2) (by omega), c1, nI_add]; exact ih
    · rw [nI_0, obSet_f (c := fun p => decide (obMany w p = 0)) (decide_eq_false c2), c1, nI_add]; exact ih
theorem x_armless {G : zG} {d : Nat} {w : Nat → Nat} {σ : zS} {K : Int32 → zS → Prop} (hw : wX w σ) (hI : obInv w) (h : ∀ σ', xSc σ σ' → K (oArmless w) σ') : zCallI zcl Zx G (d + 4) mX0_armless [zR 0 0] σ K := by
  refine zmeth VX0_ok pX0_armless rfl (by decide) (Nat.le_of_ble_eq_true rfl) (fun AW ha => ?_)
  have hb := hI.b
  have h := h σ xSc.refl
  unfold oArmless at h
  refine sX0_armless_0 ha (x_isHeath hw hI (zbr (fun c => ⟨_, rfl, by rw [if_neg c] at h; exact h⟩) (fun c => ?_)))
  rw [if_pos c] at h
  refine loopN (N := w 4) (I := fun k => AW 17 [some (zR 0 0), some (zI (nI (obSet (fun p => decide (obMany w p = 0)) k))), some (zI (nI k))] [] σ) ?_ (fun k hk ih => ?_) 0 (Nat.zero_le _)
  · exact sX0_armless_17 ha (x_posts hw (zltN (by omega) (by omega) (fun c => absurd c (by omega)) (fun _ => ⟨_, rfl, h⟩)))
  · have h4 := hI.many (show k < 7 by omega)
    refine sX0_armless_17 ha (x_posts hw (zltN (by omega) (by omega) (fun _ => x_postOf hw hI rfl hk ⟨Nat.lt_of_lt_of_eq hk hw.C0.symm, ?_⟩) (fun c => absurd hk (Nat.not_lt.mpr c))))
    rw [hw.many hk, ← nI_0]
    refine zeqN (by omega) (by omega) (fun c2 => ?_) (fun c2 => ?_)
    · rw [obSet_t (c := fun p => decide (obMany w p = 0)) (decide_eq_true c2) (by omega), c1, nI_add]; exact ih
    · rw [nI_0, obSet_f (c := fun p => decide (obMany w p = 0)) (decide_eq_false c2), c1, nI_add]; exact ih
/-- all within -/
theorem cnt_full : ∀ n, n < 9 → ∀ s, s < 2 ^ n → (obCnt s 16 = n ↔ s = 2 ^ n - 1) := by decide +kernel
theorem obFst_none {c : Nat → Bool} (h : ∀ k, c k = false) : ∀ n k, obFst c n k = none := by
  intro n
  induction n with
  | zero => intro k; rfl
  | succ n ih => intro k; simp only [obFst, h k]; exact ih _
def oDone (w : Nat → Nat) : Int32 := if 0 < w 9 then pI (obFst (fun t => decide (0 < w 7) && decide (obCnt (obIns w (obAs w) t) 16 = w 7)) (w 0 + 1) 0) else -2
theorem m_done {G : zG} {d : Nat} {w : Nat → Nat} {σ : zS} {K : Int32 → zS → Prop} (hw : wM w σ) (hI : obInv w) (h : ∀ σ', mSc σ σ' → K (oDone w) σ') : zCallI zcl Zm G (d + 8) mX6_done [zR 0 0] σ K := by
  refine zmeth VX6_ok pX6_done rfl (by decide) (Nat.le_of_ble_eq_true rfl) (fun AW ha => ?_)
  have hb := hI.b
  refine sX6_done_0 ha (m_asksHeath hw hI (fun σ1 r1 p1 f1 => ?_))
  have h := h σ1 f1.wk
  have hw1 : wM w σ1 := hw.fr f1
  unfold oDone at h
  refine zbr (fun c => ⟨_, rfl, by rw [if_neg c] at h; exact h⟩) (fun c => ?_)
  rw [if_pos c] at h
  refine loopF (N := w 0 + 1) (K := fun q => K (pI q) σ1) (I := fun k => AW 12 [some (zR 0 0), some (zI (nI k))] [] σ1) h (fun h1 => ?_) (fun k hk h1 h2 => ?_)
  · exact sX6_done_12 ha (m_hours hw1 (zltN (by omega) (by omega) (fun _ => ⟨_, rfl, h1⟩) (fun c => absurd c (by omega))))
  · refine sX6_done_12 ha (m_hours hw1 (zltN (by omega) (by omega) (fun c => absurd c (by omega)) (fun _ => m_walkers hw1 ?_)))
    rw [← nI_0]
    have h16 : obCnt (obIns w (obAs w) k) 16 ≤ 16 := obCnt_le _ _
    refine zltN (by omega) (by omega) (fun c2 => m_insideAt hw1 hI (obAs_ok hI) r1 rfl (by omega) (m_bits rfl (Nat.lt_trans (obIns_lt hI) (by decide)) (m_walkers hw1 (zeqN (by omega) (by omega) (fun c3 => ⟨_, rfl, h1 (by simp [c2, c3])⟩) (fun c3 => ?_))))) (fun c2 => ⟨_, rfl, ?_⟩)
    · rw [c1, nI_add]; exact h2 (by simp [c3])
    · rw [obFst_none (fun k => by simp [show ¬ 0 < w 7 by omega])] at h; exact h
theorem x_done {G : zG} {d : Nat} {w : Nat → Nat} {σ : zS} {K : Int32 → zS → Prop} (hw : wX w σ) (hI : obInv w) (h : ∀ σ', xSc σ σ' → K (oDone w) σ') : zCallI zcl Zx G (d + 9) mX0_done [zR 0 0] σ K := by
  refine zmeth VX0_ok pX0_done rfl (by decide) (Nat.le_of_ble_eq_true rfl) (fun AW ha => ?_)
  have hb := hI.b
  unfold oDone at h
  refine sX0_done_0 ha (x_isHeath hw hI (zbr (fun c => ⟨_, rfl, by have h := h σ xSc.refl; rw [if_neg c] at h; exact h⟩) (fun c => x_is hw hI (fun σ1 r1 p1 f1 => ?_))))
  have h := h σ1 f1
  have hw1 := hw.sc f1
  rw [if_pos c] at h
  refine loopF (N := w 0 + 1) (K := fun q => K (pI q) σ1) (I := fun k => AW 20 [some (zR 0 0), some (zI (nI k))] [] σ1) h (fun h1 => ?_) (fun k hk h1 h2 => ?_)
  · refine sX0_done_20 ha ?_
    rw [hw1.2.1.1]
    exact zltN (by omega) (by omega) (fun _ => ⟨_, rfl, h1⟩) (fun c => absurd c (by omega))
  · refine sX0_done_20 ha ?_
    rw [hw1.2.1.1]
    refine zltN (by omega) (by omega) (fun c => absurd c (by omega)) (fun _ => x_many hw1 ?_)
    rw [← nI_0]
    refine zltN (by omega) (by omega) (fun c2 => x_inside hw1 hI (obAs_ok hI) r1 rfl (by omega) (x_many hw1 ?_)) (fun c2 => ?_)
    · have hp := Nat.two_pow_pos (w 7)
      have hle : 2 ^ w 7 ≤ 2 ^ 8 := Nat.pow_le_pow_right (by decide) (by omega)
      have e : nI (2 ^ w 7) - 1 = nI (2 ^ w 7 - 1) := by rw [show 2 ^ w 7 = (2 ^ w 7 - 1) + 1 by omega]; exact nI_sub1
      have hcf := cnt_full (w 7) (by omega) (obIns w (obAs w) k) (obSet_lt _ _)
      have hil := obIns_lt (P := obAs w) (t := k) hI
      rw [bit1 (by omega), e]
      refine zeqN (by omega) (by omega) (fun c3 => ⟨_, rfl, h1 (by simp [c2, hcf.mpr c3])⟩) (fun c3 => ?_)
      rw [c1, nI_add]; exact h2 (by simp only [decide_eq_false (fun q => c3 (hcf.mp q)), Bool.and_false])
    · rw [c1, nI_add]; exact h2 (by simp [show ¬ 0 < w 7 by omega])
