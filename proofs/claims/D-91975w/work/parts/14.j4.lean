/-! CLASS J4 (java/lang/String): resolver, programs -/
def fJ4 : List (Nat × Nat × Nat × Nat) := [(9, 18, 0, 0), (15, 18, 1, 0)]
theorem fJ4_ok : ∀ q ∈ fJ4, zFok zcl RJ4 q.1 q.2 := List.forall_mem_cons.mpr ⟨⟨RJ4, TJ4, 2, tyJ4, rfl, in_J4, by decide, tyJ4_ok, nmJ4, Or.inl q2528, fun h => absurd h (by decide), fun h => absurd h (by decide)⟩, List.forall_mem_cons.mpr ⟨⟨RJ4, TJ4, 2, tyJ4, rfl, in_J4, by decide, tyJ4_ok, nmJ4, Or.inl q2529, fun h => absurd h (by decide), fun h => absurd h (by decide)⟩, fun _ h => absurd h List.not_mem_nil⟩⟩
def wJ4 : List (Nat × zM × Nat × Nat × Nat × Nat) := [(335, mJ4_coder, 0, 0, 18, 0), (492, mJ4_isLatin1, 0, 0, 18, 0), (495, mJ5_charAt, 2, 1, 0, 0), (498, mJ7_charAt, 2, 1, 0, 0), (1059, mJ6_checkIndex, 3, 1, 0, 0)]
theorem wJ4_ok : ∀ q ∈ wJ4, zMok zcl RJ4 q.1 q.2 := List.forall_mem_cons.mpr ⟨⟨⟨by decide, by decide, by decide +kernel⟩, by decide, lw_V q713 q714 q715 q153 q716, ⟨_, rfl, rfl⟩⟩, List.forall_mem_cons.mpr ⟨⟨⟨by decide, by decide, by decide +kernel⟩, by decide, lw_V q723 q724 q725 q153 q726, ⟨_, rfl, rfl⟩⟩, List.forall_mem_cons.mpr ⟨⟨⟨by decide, by decide, by decide +kernel⟩, by decide, lw_S q727 q728 q154 q729⟩, List.forall_mem_cons.mpr ⟨⟨⟨by decide, by decide, by decide +kernel⟩, by decide, lw_S q738 q739 q156 q740⟩, List.forall_mem_cons.mpr ⟨⟨⟨by decide, by decide, by decide +kernel⟩, by decide, lw_S q735 q736 q155 q737⟩, fun _ h => absurd h List.not_mem_nil⟩⟩⟩⟩⟩
def iJ4 : List (Nat × Int32) := []
theorem iJ4_ok : ∀ q ∈ iJ4, Cond.constant RJ4 q.1 q.2 ∈ lw_all := fun _ h => absurd h List.not_mem_nil
def lJ4 : List (Nat × Int64) := []
theorem lJ4_ok : ∀ q ∈ lJ4, Cond.constantLong RJ4 q.1 q.2 ∈ lw_all := fun _ h => absurd h List.not_mem_nil
def kJ4 : List (Nat × Nat) := []
theorem kJ4_ok : ∀ q ∈ kJ4, ∃ r : vw_C, zcl[q.2]? = some r ∧ Cond.classLink RJ4 q.1 r.1 ∈ lw_all := fun _ h => absurd h List.not_mem_nil
def sJ4 : List (Nat × Nat) := [(38, 0), (1053, 1)]
theorem sJ4_ok : ∀ q ∈ sJ4, ∃ w, zSts[q.2]? = some w ∧ Cond.fieldLink RJ4 q.1 w.1 w.2.1 w.2.2.1 ∈ lw_all := List.forall_mem_cons.mpr ⟨⟨_, rfl, q717⟩, List.forall_mem_cons.mpr ⟨⟨_, rfl, q733⟩, fun _ h => absurd h List.not_mem_nil⟩⟩
def tJ4 : List (Nat × Nat) := []
theorem tJ4_ok : ∀ q ∈ tJ4, ∃ tx, (RJ4, q.1, tx, q.2) ∈ zStr := fun _ h => absurd h List.not_mem_nil
def VJ4 : zRes := (zfnd fJ4, zfnd wJ4, zfnd iJ4, zfnd lJ4, zfnd kJ4, zfnd sJ4, zfnd tJ4)
theorem VJ4_ok : zVok zcl RJ4 VJ4 := ⟨fun n q h => fJ4_ok (n, q) (zfnd_mem h), fun n e h => wJ4_ok (n, e) (zfnd_mem h), fun n x h => iJ4_ok (n, x) (zfnd_mem h), fun n x h => lJ4_ok (n, x) (zfnd_mem h), fun n x h => kJ4_ok (n, x) (zfnd_mem h), fun n x h => sJ4_ok (n, x) (zfnd_mem h), fun n x h => tJ4_ok (n, x) (zfnd_mem h)⟩
def gJ4_length : zP := [(0, .aload_n 0, 1, 0), (1, .getfield 9, 3, 0), (4, .arraylength, 1, 0), (5, .aload_n 0, 1, 0), (6, .invokevirtual 335, 3, 0), (9, .ishr, 1, 0), (10, .ireturn, 1, 0)]
theorem pJ4_length : zprogM mJ4_length gJ4_length := zprogM_of (by decide +kernel)
def gJ4_coder : zP := [(0, .getstatic 38, 3, 0), (3, .ifCond .eq 10, 3, 13), (6, .aload_n 0, 1, 0), (7, .getfield 15, 3, 0), (10, .goto 4, 3, 14), (13, .iconst 1, 1, 0), (14, .ireturn, 1, 0)]
theorem pJ4_coder : zprogM mJ4_coder gJ4_coder := zprogM_of (by decide +kernel)
def gJ4_charAt : zP := [(0, .aload_n 0, 1, 0), (1, .invokevirtual 492, 3, 0), (4, .ifCond .eq 12, 3, 16), (7, .aload_n 0, 1, 0), (8, .getfield 9, 3, 0), (11, .iload_n 1, 1, 0), (12, .invokestatic 495, 3, 0), (15, .ireturn, 1, 0), (16, .aload_n 0, 1, 0), (17, .getfield 9, 3, 0), (20, .iload_n 1, 1, 0), (21, .invokestatic 498, 3, 0), (24, .ireturn, 1, 0)]
theorem pJ4_charAt : zprogM mJ4_charAt gJ4_charAt := zprogM_of (by decide +kernel)
def gJ4_isLatin1 : zP := [(0, .getstatic 38, 3, 0), (3, .ifCond .eq 14, 3, 17), (6, .aload_n 0, 1, 0), (7, .getfield 15, 3, 0), (10, .ifCond .ne 7, 3, 17), (13, .iconst 1, 1, 0), (14, .goto 4, 3, 18), (17, .iconst 0, 1, 0), (18, .ireturn, 1, 0)]
theorem pJ4_isLatin1 : zprogM mJ4_isLatin1 gJ4_isLatin1 := zprogM_of (by decide +kernel)
def gJ4_checkIndex : zP := [(0, .iload_n 0, 1, 0), (1, .iload_n 1, 1, 0), (2, .getstatic 1053, 3, 0), (5, .invokestatic 1059, 3, 0), (8, .pop, 1, 0), (9, .return_, 1, 0)]
theorem pJ4_checkIndex : zprogM mJ4_checkIndex gJ4_checkIndex := zprogM_of (by decide +kernel)
