/-! CLASS J14 (java/lang/Integer): resolver, programs -/
def fJ14 : List (Nat × Nat × Nat × Nat) := []
theorem fJ14_ok : ∀ q ∈ fJ14, zFok zcl RJ14 q.1 q.2 := fun _ h => absurd h List.not_mem_nil
def wJ14 : List (Nat × zM × Nat × Nat × Nat × Nat) := []
theorem wJ14_ok : ∀ q ∈ wJ14, zMok zcl RJ14 q.1 q.2 := fun _ h => absurd h List.not_mem_nil
def iJ14 : List (Nat × Int32) := [(265, 1431655765), (266, 858993459), (267, 252645135)]
theorem iJ14_ok : ∀ q ∈ iJ14, Cond.constant RJ14 q.1 q.2 ∈ lw_all := List.forall_mem_cons.mpr ⟨q1188, List.forall_mem_cons.mpr ⟨q1189, List.forall_mem_cons.mpr ⟨q1190, fun _ h => absurd h List.not_mem_nil⟩⟩⟩
def lJ14 : List (Nat × Int64) := []
theorem lJ14_ok : ∀ q ∈ lJ14, Cond.constantLong RJ14 q.1 q.2 ∈ lw_all := fun _ h => absurd h List.not_mem_nil
def kJ14 : List (Nat × Nat) := []
theorem kJ14_ok : ∀ q ∈ kJ14, ∃ r : vw_C, zcl[q.2]? = some r ∧ Cond.classLink RJ14 q.1 r.1 ∈ lw_all := fun _ h => absurd h List.not_mem_nil
def sJ14 : List (Nat × Nat) := []
theorem sJ14_ok : ∀ q ∈ sJ14, ∃ w, zSts[q.2]? = some w ∧ Cond.fieldLink RJ14 q.1 w.1 w.2.1 w.2.2.1 ∈ lw_all := fun _ h => absurd h List.not_mem_nil
def tJ14 : List (Nat × Nat) := []
theorem tJ14_ok : ∀ q ∈ tJ14, ∃ tx, (RJ14, q.1, tx, q.2) ∈ zStr := fun _ h => absurd h List.not_mem_nil
def VJ14 : zRes := (zfnd fJ14, zfnd wJ14, zfnd iJ14, zfnd lJ14, zfnd kJ14, zfnd sJ14, zfnd tJ14)
theorem VJ14_ok : zVok zcl RJ14 VJ14 := ⟨fun n q h => fJ14_ok (n, q) (zfnd_mem h), fun n e h => wJ14_ok (n, e) (zfnd_mem h), fun n x h => iJ14_ok (n, x) (zfnd_mem h), fun n x h => lJ14_ok (n, x) (zfnd_mem h), fun n x h => kJ14_ok (n, x) (zfnd_mem h), fun n x h => sJ14_ok (n, x) (zfnd_mem h), fun n x h => tJ14_ok (n, x) (zfnd_mem h)⟩
def gJ14_bitCount : zP := [(0, .iload_n 0, 1, 0), (1, .iload_n 0, 1, 0), (2, .iconst 1, 1, 0), (3, .iushr, 1, 0), (4, .ldc_w 265, 3, 0), (7, .iand, 1, 0), (8, .isub, 1, 0), (9, .istore_n 0, 1, 0), (10, .iload_n 0, 1, 0), (11, .ldc_w 266, 3, 0), (14, .iand, 1, 0), (15, .iload_n 0, 1, 0), (16, .iconst 2, 1, 0), (17, .iushr, 1, 0), (18, .ldc_w 266, 3, 0), (21, .iand, 1, 0), (22, .iadd, 1, 0), (23, .istore_n 0, 1, 0), (24, .iload_n 0, 1, 0), (25, .iload_n 0, 1, 0), (26, .iconst 4, 1, 0), (27, .iushr, 1, 0), (28, .iadd, 1, 0), (29, .ldc_w 267, 3, 0), (32, .iand, 1, 0), (33, .istore_n 0, 1, 0), (34, .iload_n 0, 1, 0), (35, .iload_n 0, 1, 0), (36, .bipush 8, 2, 0), (38, .iushr, 1, 0), (39, .iadd, 1, 0), (40, .istore_n 0, 1, 0), (41, .iload_n 0, 1, 0), (42, .iload_n 0, 1, 0), (43, .bipush 16, 2, 0), (45, .iushr, 1, 0), (46, .iadd, 1, 0), (47, .istore_n 0, 1, 0), (48, .iload_n 0, 1, 0), (49, .bipush 63, 2, 0), (51, .iand, 1, 0), (52, .ireturn, 1, 0)]
theorem pJ14_bitCount : zprogM mJ14_bitCount gJ14_bitCount := zprogM_of (by decide +kernel)
