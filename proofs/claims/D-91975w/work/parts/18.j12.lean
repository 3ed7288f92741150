/-! CLASS J12 (java/util/Arrays): resolver, programs -/
def fJ12 : List (Nat × Nat × Nat × Nat) := []
theorem fJ12_ok : ∀ q ∈ fJ12, zFok zcl RJ12 q.1 q.2 := fun _ h => absurd h List.not_mem_nil
def wJ12 : List (Nat × zM × Nat × Nat × Nat × Nat) := [(300, mJ12_copyOf_2, 3, 1, 0, 0), (304, mJ3_min, 2, 1, 0, 0)]
theorem wJ12_ok : ∀ q ∈ wJ12, zMok zcl RJ12 q.1 q.2 := List.forall_mem_cons.mpr ⟨⟨⟨by decide, by decide, by decide +kernel⟩, by decide, lw_S q908 q909 q163 q910⟩, List.forall_mem_cons.mpr ⟨⟨⟨by decide, by decide, by decide +kernel⟩, by decide, lw_S q913 q668 q152 q669⟩, fun _ h => absurd h List.not_mem_nil⟩⟩
def iJ12 : List (Nat × Int32) := []
theorem iJ12_ok : ∀ q ∈ iJ12, Cond.constant RJ12 q.1 q.2 ∈ lw_all := fun _ h => absurd h List.not_mem_nil
def lJ12 : List (Nat × Int64) := []
theorem lJ12_ok : ∀ q ∈ lJ12, Cond.constantLong RJ12 q.1 q.2 ∈ lw_all := fun _ h => absurd h List.not_mem_nil
def kJ12 : List (Nat × Nat) := []
theorem kJ12_ok : ∀ q ∈ kJ12, ∃ r : vw_C, zcl[q.2]? = some r ∧ Cond.classLink RJ12 q.1 r.1 ∈ lw_all := fun _ h => absurd h List.not_mem_nil
def sJ12 : List (Nat × Nat) := []
theorem sJ12_ok : ∀ q ∈ sJ12, ∃ w, zSts[q.2]? = some w ∧ Cond.fieldLink RJ12 q.1 w.1 w.2.1 w.2.2.1 ∈ lw_all := fun _ h => absurd h List.not_mem_nil
def tJ12 : List (Nat × Nat) := []
theorem tJ12_ok : ∀ q ∈ tJ12, ∃ tx, (RJ12, q.1, tx, q.2) ∈ zStr := fun _ h => absurd h List.not_mem_nil
def VJ12 : zRes := (zfnd fJ12, zfnd wJ12, zfnd iJ12, zfnd lJ12, zfnd kJ12, zfnd sJ12, zfnd tJ12)
theorem VJ12_ok : zVok zcl RJ12 VJ12 := ⟨fun n q h => fJ12_ok (n, q) (zfnd_mem h), fun n e h => wJ12_ok (n, e) (zfnd_mem h), fun n x h => iJ12_ok (n, x) (zfnd_mem h), fun n x h => lJ12_ok (n, x) (zfnd_mem h), fun n x h => kJ12_ok (n, x) (zfnd_mem h), fun n x h => sJ12_ok (n, x) (zfnd_mem h), fun n x h => tJ12_ok (n, x) (zfnd_mem h)⟩
def gJ12_copyOf : zP := [(0, .aload_n 0, 1, 0), (1, .iload_n 1, 1, 0), (2, .aload_n 0, 1, 0), (3, .invokevirtual 86, 3, 0), (6, .invokestatic 300, 3, 0), (9, .areturn, 1, 0)]
theorem pJ12_copyOf : zprogM mJ12_copyOf gJ12_copyOf := zprogM_of (by decide +kernel)
def gJ12_copyOf_2 : zP := [(0, .aload_n 2, 1, 0), (1, .ldc 110, 2, 0), (6, .iload_n 1, 1, 0), (10, .goto 14, 3, 24), (13, .aload_n 2, 1, 0), (14, .invokevirtual 90, 3, 0), (17, .iload_n 1, 1, 0), (18, .invokestatic 95, 3, 0), (21, .checkcast 110, 3, 0), (24, .astore_n 3, 1, 0), (25, .aload_n 0, 1, 0), (26, .iconst 0, 1, 0), (27, .aload_n 3, 1, 0), (28, .iconst 0, 1, 0), (29, .aload_n 0, 1, 0), (30, .arraylength, 1, 0), (31, .iload_n 1, 1, 0), (32, .invokestatic 304, 3, 0), (35, .invokestatic 150, 3, 0), (38, .aload_n 3, 1, 0), (39, .areturn, 1, 0)]
theorem pJ12_copyOf_2 : zprogM mJ12_copyOf_2 gJ12_copyOf_2 := zprogM_of (by decide +kernel)
def gJ12_fill : zP := [(0, .iconst 0, 1, 0), (1, .istore_n 2, 1, 0), (2, .aload_n 0, 1, 0), (3, .arraylength, 1, 0), (4, .istore_n 3, 1, 0), (5, .iload_n 2, 1, 0), (6, .iload_n 3, 1, 0), (7, .if_icmp .ge 13, 3, 20), (10, .aload_n 0, 1, 0), (11, .iload_n 2, 1, 0), (12, .iload_n 1, 1, 0), (13, .iastore, 1, 0), (14, .iinc 2 1, 3, 0), (17, .goto (-12), 3, 5), (20, .return_, 1, 0)]
theorem pJ12_fill : zprogM mJ12_fill gJ12_fill := zprogM_of (by decide +kernel)
