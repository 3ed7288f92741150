/-! SOUNDNESS of calls, throws, changes of names in a moving world -/
theorem zpcOf {cl : List vw_C} {Z : zZ} {G0 G : zG} {σ : zS} {A : Nat → Prop} {s : State} {H : Heap} {locs : List Loc} (hK : zK cl G0 s) (hST : zST A G0 s) (h1 : G.1 = G0.1) (h2 : G.2.2.1 = G0.2.2.1) (h3 : ∀ j, G.2.1 95 j = G0.2.1 95 j ∧ G.2.1 97 j = G0.2.1 97 j) (hA1 : ∀ q, zfoot Z G σ.2.2.2.2 q → A q) (hS : va_S A s.heap H locs) (hR : zRel cl Z G σ H) (av : List Value) : ∀ U : State, U.heap = H → s.WarmedH U.vm → (va_Pc av (fun U => U.heap.size = H.size ∧ zRel cl Z G σ U.heap ∧ zK cl G U ∧ zST (zfoot Z G σ.2.2.2.2) G U)) av.toArray U :=
  fun U hU hW => ⟨rfl, by rw [hU], by rw [hU]; exact hR, (hK.eq h1 h2).warm hW, (hST.eq h3).go hW (fun a q1 q2 => by rw [hU]; exact hS.2.1 a q1 q2) hA1⟩
section ES
variable {cl : List vw_C} {own : String} {cc : ByteArray} {nL : Nat} {rt : Option FieldType} {Z : zZ} {kp : Nat → Bool} {G0 : zG} {C0 : Nat → Nat} {d mc ms : Nat} {PQ : Option zV → zG → zS → Prop} {PX : zG → zS → Nat → Prop} {AW : zG → (Nat → Nat) → Nat → Nat → zAW}
variable {G : zG} {C : Nat → Nat} {nc ns pc : Nat} {ls : List (Option zV)} {st : List zV} {σ : zS}
theorem es_call (E : eEnv cl own cc nL rt Z kp G0 C0 (d + 1) mc ms [] PQ PX AW) {n : Nat} {w : zM × Nat × Nat × Nat × Nat} (hM : zMok cl own n w) (hk : w.2.2.1 = 0 ∨ w.2.2.1 = 2) (hdg : decode cc pc = .ok (.invokevirtual n, 3)) {k i : Nat} {av rest : List zV} (hst : st = (zR k i :: av).reverse ++ rest) (hlen : av.length = w.2.1) (hc : Z.1 k = some w.2.2.2.1) (hl : zlv Z C k i) (hrs : zsum rest ≤ 8)
    {kp' : Nat → Bool} {mc' ms' : Nat} {PQ' : Option zV → zG → zS → Prop} {PX' : zG → zS → Nat → Prop} (hcall : σ.2.2.2.2 = C → eMet cl Z kp' d w.1.1 (wsM w.1) (zR k i :: av) G σ mc' ms' PQ' PX') (hmc : nc + mc' ≤ mc) (hms : ns + ms' ≤ ms) (hlv : eLvL Z kp' C ls) (hrv : eLvS Z kp' C rest) (hkk : ∀ k i, kp k = true → zlv Z C0 k i → kp' k = true ∧ zlv Z C k i)
    (kk : ∀ (r : Option zV) (G' : zG) (σ' : zS), PQ' r G' σ' → AW G' σ'.2.2.2.2 (nc + mc') (ns + ms') (pc + 3) ls (r.toList ++ rest) σ') (kx : ∀ (G' : zG) (σ' : zS) (q : Nat), PX' G' σ' q → PX G' σ' q) : AW G C nc ns pc ls st σ := by
  obtain ⟨p, l, e, s, m, args, below, meth, c, A, ⟨⟨hx, hb, hml, hown, hts⟩, hK, ⟨hr, hlocks⟩, hA2, hST, hl9, htb⟩, rfl⟩ := E
  intro hok hcc hss H locs la hR hC hS hL
  subst hC
  subst hst
  obtain ⟨r, g1, cell, q1, q2, q3, -⟩ := zat_cls (hR.1.1 k i hl) hc
  obtain ⟨⟨y1, y2, y3⟩, hmL, hM⟩ := hM
  have hn : (av.map (zC G.2.1)).length = w.2.1 := by rw [List.length_map]; exact hlen
  have hst : (F0 m pc la (((zR k i :: av).reverse ++ rest).map (zC G.2.1))).stack = (av.map (zC G.2.1)).reverse ++ .ref (G.2.1 k i) :: rest.map (zC G.2.1) := by
    show List.map (zC G.2.1) ((zR k i :: av).reverse ++ rest) = _
    simp [List.map_append, List.map_reverse, zC]
  have hwt : 2 * (F0 m pc la (((zR k i :: av).reverse ++ rest).map (zC G.2.1))).monitorRoom + ((rest.map (zC G.2.1)).map fun v => v.category).sum ≤ 8 := lv_room (by rw [zsum_C]; exact hrs)
  have hpc := zpcOf hK hST hok.1.1 hok.1.2.1 hok.1.2.2 hok.2.2 hS hR ((zR k i :: av).map (zC G.2.1))
  have hrec : ∃ cellB : Cell, H[G.2.1 k i]? = some cellB ∧ cellB.vm.isStatics = false ∧ s.vm.findClass r.1 = some cellB.cls := ⟨cell, q1, by rw [q3]; rfl, by rw [q2, hok.1.1]; exact (hK.1.1 _ _ g1).2.1⟩
  have hroom : (eRoom d mc' ms').frames + 1 ≤ (eRoom (d + 1) mc ms).frames ∧ 8 + (w.1.2.2.1 + 11) + (eRoom d mc' ms').locals ≤ (eRoom (d + 1) mc ms).locals := zroom_le (R := eRoom (d + 1) mc ms) hmL ⟨Nat.le_refl _, Nat.le_refl _⟩
  have kk' : ∀ (r : Option zV) (G' : zG) (σ1 : zS) (H1 : Heap) (locs1 : List Loc), PQ' r G' σ1 → eOk Z kp' G σ.2.2.2.2 (zA Z G σ.2.2.2.2 H.size) G' σ1.2.2.2.2 → zRel cl Z G' σ1 H1 → va_S A s.heap H1 locs1 → W p l e (eRoom (d + 1) mc ms) s m args below meth c H1 locs1 (nc + mc') (ns + ms') (vx_MQ below (eQc cl Z kp G0 C0 A PQ) (eXC cl Z kp G0 C0 A PX) args s mc ms A) (F0 m (pc + 3) la ((r.map (zC G'.2.1)).toList ++ rest.map (zC G.2.1))) := by
    intro r G' σ1 H1 locs1 k1 k2 k3 k4
    have := kk r G' σ1 k1 (eOk.trans hok k2 (fun q hq => hA2 q (Nat.le_trans hS.1 hq)) hkk) hmc hms H1 locs1 la k3 rfl k4 (eLvL.zLs k2.2.1 hL hlv)
    rw [List.map_append, eLvS.same k2.2.1 hrv] at this
    cases r <;> exact this
  have kx' : ∀ (G' : zG) (σ1 : zS) (H1 : Heap) (locs1 : List Loc) (q : Nat) (ce : Cell), PX' G' σ1 q → eOk Z kp' G σ.2.2.2.2 (zA Z G σ.2.2.2.2 H.size) G' σ1.2.2.2.2 → zRel cl Z G' σ1 H1 → va_S A s.heap H1 locs1 → H1[q]? = some ce → ce.vm = .none → s.vm.findClass RX8 = some ce.cls → vx_W p l e (eRoom (d + 1) mc ms) s m args below meth c H1 locs1 (nc + mc') (ns + ms') (vx_MQ below (eQc cl Z kp G0 C0 A PQ) (eXC cl Z kp G0 C0 A PX) args s mc ms A) (F0 m pc la (rest.map (zC G.2.1))) q := by
    intro G' σ1 H1 locs1 q ce k1 k2 k3 k4 k5 k6 k7
    exact vx_out (E := RX8) (by rw [htb]; exact fun x hx => absurd hx List.not_mem_nil) hlocks k5 k6 k7 (fun t ht _ => ⟨⟨G', σ1, rfl, eOk.trans hok k2 (fun q hq => hA2 q (Nat.le_trans hS.1 hq)) hkk, by rw [ht]; exact k3, kx _ _ _ k1⟩, k4.F ht⟩) k4.2.2 hmc hms
  rcases hk with hk | hk
  · rw [hk] at hM
    obtain ⟨hG, r2, e1, e2⟩ := hM
    have hr2 : r2 = r := Option.some.inj (e1.symm.trans g1)
    subst hr2
    exact eW_call (vx_runV ⟨hx, hb, hml, hown, hts⟩ (hcall rfl l hl9 H.size) (cwV w.2.1 hts hG rfl rfl rfl ⟨rfl, y1, y2, y3⟩ hroom) ⟨eblind, by rw [← e2]; exact hrec, hpc⟩ rfl hn hL.1 hst hwt hdg ⟨hmc, hms⟩) hok.2.2 hA2 hS kk' kx'
  · rw [hk] at hM
    obtain ⟨hG, ⟨host, hlk⟩, hini, hins, hsel, r2, e1, e2⟩ := hM
    have hr2 : r2 = r := Option.some.inj (e1.symm.trans g1)
    subst hr2
    exact eW_call (vx_runVN ⟨hx, hb, hml, hown, hts⟩ (hcall rfl l hl9 H.size) ⟨va_cnB w.2.1 hts hG rfl rfl rfl (hK.2.1 _ hlk rfl) (hts _ hini) ⟨y1, y2, y3⟩ hroom, hts _ hins, hts _ hsel⟩ ⟨eblind, by rw [← e2]; exact hrec, hpc⟩ rfl hn hL.1 hst hwt hdg ⟨hmc, hms⟩) hok.2.2 hA2 hS kk' kx'
theorem es_callF (E : eEnv cl own cc nL rt Z kp G0 C0 (d + 1) mc ms [] PQ PX AW) {n cnt : Nat} {w : zM × Nat × Nat × Nat × Nat} (hM : zMok cl own n w) (hk : w.2.2.1 = 4) (hdg : decode cc pc = .ok (.invokeinterface n cnt, 5)) {k i : Nat} {av rest : List zV} (hst : st = (zR k i :: av).reverse ++ rest) (hlen : av.length = w.2.1) (hc : Z.1 k = some w.2.2.2.1) (hl : zlv Z C k i) (hrs : zsum rest ≤ 8)
    {kp' : Nat → Bool} {mc' ms' : Nat} {PQ' : Option zV → zG → zS → Prop} {PX' : zG → zS → Nat → Prop} (hcall : σ.2.2.2.2 = C → eMet cl Z kp' d w.1.1 (wsM w.1) (zR k i :: av) G σ mc' ms' PQ' PX') (hmc : nc + mc' ≤ mc) (hms : ns + ms' ≤ ms) (hlv : eLvL Z kp' C ls) (hrv : eLvS Z kp' C rest) (hkk : ∀ k i, kp k = true → zlv Z C0 k i → kp' k = true ∧ zlv Z C k i)
    (kk : ∀ (r : Option zV) (G' : zG) (σ' : zS), PQ' r G' σ' → AW G' σ'.2.2.2.2 (nc + mc') (ns + ms') (pc + 5) ls (r.toList ++ rest) σ') (kx : ∀ (G' : zG) (σ' : zS) (q : Nat), PX' G' σ' q → PX G' σ' q) : AW G C nc ns pc ls st σ := by
  obtain ⟨p, l, e, s, m, args, below, meth, c, A, ⟨⟨hx, hb, hml, hown, hts⟩, hK, ⟨hr, hlocks⟩, hA2, hST, hl9, htb⟩, rfl⟩ := E
  intro hok hcc hss H locs la hR hC hS hL
  subst hC
  subst hst
  obtain ⟨r, g1, cell, q1, q2, q3, -⟩ := zat_cls (hR.1.1 k i hl) hc
  obtain ⟨⟨y1, y2, y3⟩, hmL, hM⟩ := hM
  have hn : (av.map (zC G.2.1)).length = w.2.1 := by rw [List.length_map]; exact hlen
  have hst : (F0 m pc la (((zR k i :: av).reverse ++ rest).map (zC G.2.1))).stack = (av.map (zC G.2.1)).reverse ++ .ref (G.2.1 k i) :: rest.map (zC G.2.1) := by
    show List.map (zC G.2.1) ((zR k i :: av).reverse ++ rest) = _
    simp [List.map_append, List.map_reverse, zC]
  have hwt : 2 * (F0 m pc la (((zR k i :: av).reverse ++ rest).map (zC G.2.1))).monitorRoom + ((rest.map (zC G.2.1)).map fun v => v.category).sum ≤ 8 := lv_room (by rw [zsum_C]; exact hrs)
  have hpc := zpcOf hK hST hok.1.1 hok.1.2.1 hok.1.2.2 hok.2.2 hS hR ((zR k i :: av).map (zC G.2.1))
  have hrec : ∃ cellB : Cell, H[G.2.1 k i]? = some cellB ∧ cellB.vm.isStatics = false ∧ s.vm.findClass r.1 = some cellB.cls := ⟨cell, q1, by rw [q3]; rfl, by rw [q2, hok.1.1]; exact (hK.1.1 _ _ g1).2.1⟩
  have hroom : (eRoom d mc' ms').frames + 1 ≤ (eRoom (d + 1) mc ms).frames ∧ 8 + (w.1.2.2.1 + 11) + (eRoom d mc' ms').locals ≤ (eRoom (d + 1) mc ms).locals := zroom_le (R := eRoom (d + 1) mc ms) hmL ⟨Nat.le_refl _, Nat.le_refl _⟩
  have kk' : ∀ (r : Option zV) (G' : zG) (σ1 : zS) (H1 : Heap) (locs1 : List Loc), PQ' r G' σ1 → eOk Z kp' G σ.2.2.2.2 (zA Z G σ.2.2.2.2 H.size) G' σ1.2.2.2.2 → zRel cl Z G' σ1 H1 → va_S A s.heap H1 locs1 → W p l e (eRoom (d + 1) mc ms) s m args below meth c H1 locs1 (nc + mc') (ns + ms') (vx_MQ below (eQc cl Z kp G0 C0 A PQ) (eXC cl Z kp G0 C0 A PX) args s mc ms A) (F0 m (pc + 5) la ((r.map (zC G'.2.1)).toList ++ rest.map (zC G.2.1))) := by
    intro r G' σ1 H1 locs1 k1 k2 k3 k4
    have := kk r G' σ1 k1 (eOk.trans hok k2 (fun q hq => hA2 q (Nat.le_trans hS.1 hq)) hkk) hmc hms H1 locs1 la k3 rfl k4 (eLvL.zLs k2.2.1 hL hlv)
    rw [List.map_append, eLvS.same k2.2.1 hrv] at this
    cases r <;> exact this
  have kx' : ∀ (G' : zG) (σ1 : zS) (H1 : Heap) (locs1 : List Loc) (q : Nat) (ce : Cell), PX' G' σ1 q → eOk Z kp' G σ.2.2.2.2 (zA Z G σ.2.2.2.2 H.size) G' σ1.2.2.2.2 → zRel cl Z G' σ1 H1 → va_S A s.heap H1 locs1 → H1[q]? = some ce → ce.vm = .none → s.vm.findClass RX8 = some ce.cls → vx_W p l e (eRoom (d + 1) mc ms) s m args below meth c H1 locs1 (nc + mc') (ns + ms') (vx_MQ below (eQc cl Z kp G0 C0 A PQ) (eXC cl Z kp G0 C0 A PX) args s mc ms A) (F0 m pc la (rest.map (zC G.2.1))) q := by
    intro G' σ1 H1 locs1 q ce k1 k2 k3 k4 k5 k6 k7
    exact vx_out (E := RX8) (by rw [htb]; exact fun x hx => absurd hx List.not_mem_nil) hlocks k5 k6 k7 (fun t ht _ => ⟨⟨G', σ1, rfl, eOk.trans hok k2 (fun q hq => hA2 q (Nat.le_trans hS.1 hq)) hkk, by rw [ht]; exact k3, kx _ _ _ k1⟩, k4.F ht⟩) k4.2.2 hmc hms
  rw [hk] at hM
  obtain ⟨x0, r2, hG, ⟨z1, z2, z3⟩, e1, k1, k2, k3, k4, k5⟩ := hM
  have hr2 : r2 = r := Option.some.inj (e1.symm.trans g1)
  subst hr2
  have hca := (hK.1.1 _ _ g1).2
  exact eW_call5 (vx_runF hca ⟨hx, hb, hml, hown, hts⟩ (hcall rfl l hl9 H.size) (va_cwF w.2.1 hts hG rfl rfl rfl (hK.2.2 _ _ _ ⟨z1, z2⟩ k1 k2 k3 k4 k5) ⟨z1, z2, z3⟩ hroom) ⟨eblind, hrec, hpc⟩ rfl hn hL.1 hst hwt hdg ⟨hmc, hms⟩) hok.2.2 hA2 hS kk' kx'
theorem es_callS (E : eEnv cl own cc nL rt Z kp G0 C0 (d + 1) mc ms [] PQ PX AW) {n : Nat} {w : zM × Nat × Nat × Nat × Nat} (hM : zMok cl own n w) (hk : w.2.2.1 = 1) (hdg : decode cc pc = .ok (.invokestatic n, 3)) {av rest : List zV} (hst : st = av.reverse ++ rest) (hlen : av.length = w.2.1) (hrs : zsum rest ≤ 8)
    {kp' : Nat → Bool} {mc' ms' : Nat} {PQ' : Option zV → zG → zS → Prop} {PX' : zG → zS → Nat → Prop} (hcall : σ.2.2.2.2 = C → eMet cl Z kp' d w.1.1 (wsM w.1) av G σ mc' ms' PQ' PX') (hmc : nc + mc' ≤ mc) (hms : ns + ms' ≤ ms) (hlv : eLvL Z kp' C ls) (hrv : eLvS Z kp' C rest) (hkk : ∀ k i, kp k = true → zlv Z C0 k i → kp' k = true ∧ zlv Z C k i)
    (kk : ∀ (r : Option zV) (G' : zG) (σ' : zS), PQ' r G' σ' → AW G' σ'.2.2.2.2 (nc + mc') (ns + ms') (pc + 3) ls (r.toList ++ rest) σ') (kx : ∀ (G' : zG) (σ' : zS) (q : Nat), PX' G' σ' q → PX G' σ' q) : AW G C nc ns pc ls st σ := by
  obtain ⟨p, l, e, s, m, args, below, meth, c, A, ⟨⟨hx, hb, hml, hown, hts⟩, hK, ⟨hr, hlocks⟩, hA2, hST, hl9, htb⟩, rfl⟩ := E
  intro hok hcc hss H locs la hR hC hS hL
  subst hC
  subst hst
  obtain ⟨⟨y1, y2, y3⟩, hmL, hM⟩ := hM
  have hn : (av.map (zC G.2.1)).length = w.2.1 := by rw [List.length_map]; exact hlen
  have hst : (F0 m pc la ((av.reverse ++ rest).map (zC G.2.1))).stack = (av.map (zC G.2.1)).reverse ++ rest.map (zC G.2.1) := by
    show List.map (zC G.2.1) (av.reverse ++ rest) = _
    simp [List.map_append, List.map_reverse]
  have hwt : 2 * (F0 m pc la ((av.reverse ++ rest).map (zC G.2.1))).monitorRoom + ((rest.map (zC G.2.1)).map fun v => v.category).sum ≤ 8 := lv_room (by rw [zsum_C]; exact hrs)
  have hpc := zpcOf hK hST hok.1.1 hok.1.2.1 hok.1.2.2 hok.2.2 hS hR (av.map (zC G.2.1))
  have hroom : (eRoom d mc' ms').frames + 1 ≤ (eRoom (d + 1) mc ms).frames ∧ 8 + (w.1.2.2.1 + 11) + (eRoom d mc' ms').locals ≤ (eRoom (d + 1) mc ms).locals := zroom_le (R := eRoom (d + 1) mc ms) hmL ⟨Nat.le_refl _, Nat.le_refl _⟩
  rw [hk] at hM
  refine eW_call (vx_runS ⟨hx, hb, hml, hown, hts⟩ (hcall rfl l hl9 H.size) (va_cwS w.2.1 hts hM rfl rfl rfl ⟨y1, y2, y3⟩ hroom) ⟨eblind, hpc⟩ rfl hn hL.1 hst hwt hdg ⟨hmc, hms⟩) hok.2.2 hA2 hS ?_ ?_
  · intro r G' σ1 H1 locs1 k1 k2 k3 k4
    have := kk r G' σ1 k1 (eOk.trans hok k2 (fun q hq => hA2 q (Nat.le_trans hS.1 hq)) hkk) hmc hms H1 locs1 la k3 rfl k4 (eLvL.zLs k2.2.1 hL hlv)
    rw [List.map_append, eLvS.same k2.2.1 hrv] at this
    cases r <;> exact this
  · intro G' σ1 H1 locs1 q ce k1 k2 k3 k4 k5 k6 k7
    exact vx_out (E := RX8) (by rw [htb]; exact fun x hx => absurd hx List.not_mem_nil) hlocks k5 k6 k7 (fun t ht _ => ⟨⟨G', σ1, rfl, eOk.trans hok k2 (fun q hq => hA2 q (Nat.le_trans hS.1 hq)) hkk, by rw [ht]; exact k3, kx _ _ _ k1⟩, k4.F ht⟩) k4.2.2 hmc hms
/-- a Fault is thrown, and not caught here -/
theorem es_throw (E : eEnv cl own cc nL rt Z kp G0 C0 d mc ms [] PQ PX AW) (hdg : decode cc pc = .ok (.athrow, 1)) {k i ci : Nat} {rest : List zV} (hst : st = zR k i :: rest) (hc : Z.1 k = some ci) (h8 : ∀ r, cl[ci]? = some r → r.1 = RX8) (hl : zlv Z C k i) (h : σ.2.2.2.2 = C → PX G σ (G.2.1 k i)) : AW G C nc ns pc ls st σ := by
  obtain ⟨p, l, e, s, m, args, below, meth, c, A, ⟨⟨hx, hb, hml, hown, hts⟩, hK, ⟨hr, hlocks⟩, hA2, hST, hl9, htb⟩, rfl⟩ := E
  intro hok hcc hss H locs la hR hC hS hL
  subst hC
  subst hst
  obtain ⟨r, g1, cell, q1, q2, q3, -⟩ := zat_cls (hR.1.1 k i hl) hc
  refine vx_athrow hx hb hdg ?_
  exact vx_out (E := RX8) (by rw [htb]; exact fun x hx => absurd hx List.not_mem_nil) hlocks q1 q3 (by rw [q2, hok.1.1, ← h8 r g1]; exact (hK.1.1 _ _ g1).2.1) (fun t ht _ => ⟨⟨G, σ, rfl, hok, by rw [ht]; exact hR, h rfl⟩, hS.F ht⟩) hS.2.2 hcc hss
/-- names change: the same heap seen by other names -/
theorem es_names {tb : List ExceptionTableEntry} (E : eEnv cl own cc nL rt Z kp G0 C0 d mc ms tb PQ PX AW) {G' : zG} {ls' : List (Option zV)} {st' : List zV} {σ' : zS} (hrel : ∀ H, σ.2.2.2.2 = C → zRel cl Z G σ H → zRel cl Z G' σ' H) (hok : ∀ A, eOk Z kp G0 C0 A G C → eOk Z kp G0 C0 A G' σ'.2.2.2.2) (hlen : ls'.length = ls.length) (hls : ∀ i v', znth ls' i = some (some v') → ∃ v, znth ls i = some (some v) ∧ zC G'.2.1 v' = zC G.2.1 v) (hst : st'.map (zC G'.2.1) = st.map (zC G.2.1))
    (h : AW G' σ'.2.2.2.2 nc ns pc ls' st' σ') : AW G C nc ns pc ls st σ := by
  obtain ⟨p, l, e, s, m, args, below, meth, c, A, hE, rfl⟩ := E
  intro ok hcc hss H locs la hR hC hS hL
  have := h (hok A ok) hcc hss H locs la (hrel H hC hR) rfl hS (hL.names (by rw [hlen]; exact hL.2.2.1) hls)
  rw [hst] at this
  exact this
/-- room that isn't used -/
theorem es_widen {tb : List ExceptionTableEntry} (E : eEnv cl own cc nL rt Z kp G0 C0 d mc ms tb PQ PX AW) {nc' ns' : Nat} (h1 : nc ≤ nc') (h2 : ns ≤ ns') (h3 : nc' ≤ mc) (h4 : ns' ≤ ms) (h : AW G C nc' ns' pc ls st σ) : AW G C nc ns pc ls st σ := by
  obtain ⟨p, l, e, s, m, args, below, meth, c, A, hE, rfl⟩ := E
  intro ok hcc hss H locs la hR hC hS hL
  exact W.widen h1 h2 (h ok h3 h4 H locs la hR hC hS hL)
end ES
/-- a heap that has grown -/
theorem zRel.more {cl : List vw_C} {Z : zZ} {G : zG} {σ : zS} {H H1 : Heap} (h : zRel cl Z G σ H) (hz : H.size ≤ H1.size) (ho : ∀ q : Nat, q < H.size → H1[q]? = H[q]?) : zRel cl Z G σ H1 := by
  obtain ⟨⟨h1, h2⟩, h3, h4⟩ := h
  refine ⟨⟨fun k i hl => ?_, h2⟩, h4 H H1 h3 hz (fun q hq _ => ho q hq), h4⟩
  have hold := h1 k i hl
  unfold zat at hold ⊢
  cases hc : Z.1 k with
  | some ci =>
    simp only [hc] at hold ⊢
    obtain ⟨r, g1, cell, q1, q2⟩ := hold
    exact ⟨r, g1, cell, by rw [ho _ (Array.getElem?_eq_some_iff.mp q1).1]; exact q1, q2⟩
  | none =>
    simp only [hc] at hold ⊢
    cases ha : Z.2.2.1 k with
    | some q => simp only [ha] at hold ⊢; rw [ho _ (Array.getElem?_eq_some_iff.mp hold).1]; exact hold
    | none => trivial
theorem zRel.lt {cl : List vw_C} {Z : zZ} {G : zG} {σ : zS} {H : Heap} (h : zRel cl Z G σ H) {k i : Nat} (hd : zdom Z σ.2.2.2.2 k i) : G.2.1 k i < H.size := by
  have hold := h.1.1 k i hd.1
  unfold zat at hold
  cases hc : Z.1 k with
  | some ci =>
    simp only [hc] at hold
    obtain ⟨r, g1, cell, q1, q2⟩ := hold
    exact (Array.getElem?_eq_some_iff.mp q1).1
  | none =>
    simp only [hc] at hold
    cases ha : Z.2.2.1 k with
    | some q => simp only [ha] at hold; exact (Array.getElem?_eq_some_iff.mp hold).1
    | none => exact absurd hd.2 (by rw [hc, ha]; decide)
