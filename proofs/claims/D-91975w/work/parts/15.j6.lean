/-! CLASS J6 (jdk/internal/util/Preconditions): resolver, programs -/
def fJ6 : List (Nat × Nat × Nat × Nat) := []
theorem fJ6_ok : ∀ q ∈ fJ6, zFok zcl RJ6 q.1 q.2 := fun _ h => absurd h List.not_mem_nil
def wJ6 : List (Nat × zM × Nat × Nat × Nat × Nat) := []
theorem wJ6_ok : ∀ q ∈ wJ6, zMok zcl RJ6 q.1 q.2 := fun _ h => absurd h List.not_mem_nil
def iJ6 : List (Nat × Int32) := []
theorem iJ6_ok : ∀ q ∈ iJ6, Cond.constant RJ6 q.1 q.2 ∈ lw_all := fun _ h => absurd h List.not_mem_nil
def lJ6 : List (Nat × Int64) := []
theorem lJ6_ok : ∀ q ∈ lJ6, Cond.constantLong RJ6 q.1 q.2 ∈ lw_all := fun _ h => absurd h List.not_mem_nil
def kJ6 : List (Nat × Nat) := []
theorem kJ6_ok : ∀ q ∈ kJ6, ∃ r : vw_C, zcl[q.2]? = some r ∧ Cond.classLink RJ6 q.1 r.1 ∈ lw_all := fun _ h => absurd h List.not_mem_nil
def sJ6 : List (Nat × Nat) := []
theorem sJ6_ok : ∀ q ∈ sJ6, ∃ w, zSts[q.2]? = some w ∧ Cond.fieldLink RJ6 q.1 w.1 w.2.1 w.2.2.1 ∈ lw_all := fun _ h => absurd h List.not_mem_nil
def tJ6 : List (Nat × Nat) := []
theorem tJ6_ok : ∀ q ∈ tJ6, ∃ tx, (RJ6, q.1, tx, q.2) ∈ zStr := fun _ h => absurd h List.not_mem_nil
def VJ6 : zRes := (zfnd fJ6, zfnd wJ6, zfnd iJ6, zfnd lJ6, zfnd kJ6, zfnd sJ6, zfnd tJ6)
theorem VJ6_ok : zVok zcl RJ6 VJ6 := ⟨fun n q h => fJ6_ok (n, q) (zfnd_mem h), fun n e h => wJ6_ok (n, e) (zfnd_mem h), fun n x h => iJ6_ok (n, x) (zfnd_mem h), fun n x h => lJ6_ok (n, x) (zfnd_mem h), fun n x h => kJ6_ok (n, x) (zfnd_mem h), fun n x h => sJ6_ok (n, x) (zfnd_mem h), fun n x h => tJ6_ok (n, x) (zfnd_mem h)⟩
def gJ6_checkIndex : zP := [(0, .iload_n 0, 1, 0), (1, .ifCond .lt 8, 3, 9), (4, .iload_n 0, 1, 0), (5, .iload_n 1, 1, 0), (6, .if_icmp .lt 10, 3, 16), (9, .aload_n 2, 1, 0), (10, .iload_n 0, 1, 0), (11, .iload_n 1, 1, 0), (12, .invokestatic 95, 3, 0), (15, .athrow, 1, 0), (16, .iload_n 0, 1, 0), (17, .ireturn, 1, 0)]
theorem pJ6_checkIndex : zprogM mJ6_checkIndex gJ6_checkIndex := zprogM_of (by decide +kernel)
