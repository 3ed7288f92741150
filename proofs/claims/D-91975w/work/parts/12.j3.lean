/-! CLASS J3 (java/lang/Math): resolver, programs -/
def fJ3 : List (Nat × Nat × Nat × Nat) := []
theorem fJ3_ok : ∀ q ∈ fJ3, zFok zcl RJ3 q.1 q.2 := fun _ h => absurd h List.not_mem_nil
def wJ3 : List (Nat × zM × Nat × Nat × Nat × Nat) := []
theorem wJ3_ok : ∀ q ∈ wJ3, zMok zcl RJ3 q.1 q.2 := fun _ h => absurd h List.not_mem_nil
def iJ3 : List (Nat × Int32) := []
theorem iJ3_ok : ∀ q ∈ iJ3, Cond.constant RJ3 q.1 q.2 ∈ lw_all := fun _ h => absurd h List.not_mem_nil
def lJ3 : List (Nat × Int64) := []
theorem lJ3_ok : ∀ q ∈ lJ3, Cond.constantLong RJ3 q.1 q.2 ∈ lw_all := fun _ h => absurd h List.not_mem_nil
def kJ3 : List (Nat × Nat) := []
theorem kJ3_ok : ∀ q ∈ kJ3, ∃ r : vw_C, zcl[q.2]? = some r ∧ Cond.classLink RJ3 q.1 r.1 ∈ lw_all := fun _ h => absurd h List.not_mem_nil
def sJ3 : List (Nat × Nat) := []
theorem sJ3_ok : ∀ q ∈ sJ3, ∃ w, zSts[q.2]? = some w ∧ Cond.fieldLink RJ3 q.1 w.1 w.2.1 w.2.2.1 ∈ lw_all := fun _ h => absurd h List.not_mem_nil
def tJ3 : List (Nat × Nat) := []
theorem tJ3_ok : ∀ q ∈ tJ3, ∃ tx, (RJ3, q.1, tx, q.2) ∈ zStr := fun _ h => absurd h List.not_mem_nil
def VJ3 : zRes := (zfnd fJ3, zfnd wJ3, zfnd iJ3, zfnd lJ3, zfnd kJ3, zfnd sJ3, zfnd tJ3)
theorem VJ3_ok : zVok zcl RJ3 VJ3 := ⟨fun n q h => fJ3_ok (n, q) (zfnd_mem h), fun n e h => wJ3_ok (n, e) (zfnd_mem h), fun n x h => iJ3_ok (n, x) (zfnd_mem h), fun n x h => lJ3_ok (n, x) (zfnd_mem h), fun n x h => kJ3_ok (n, x) (zfnd_mem h), fun n x h => sJ3_ok (n, x) (zfnd_mem h), fun n x h => tJ3_ok (n, x) (zfnd_mem h)⟩
def gJ3_min : zP := [(0, .iload_n 0, 1, 0), (1, .iload_n 1, 1, 0), (2, .if_icmp .gt 7, 3, 9), (5, .iload_n 0, 1, 0), (6, .goto 4, 3, 10), (9, .iload_n 1, 1, 0), (10, .ireturn, 1, 0)]
theorem pJ3_min : zprogM mJ3_min gJ3_min := zprogM_of (by decide +kernel)
def gJ3_max : zP := [(0, .iload_n 0, 1, 0), (1, .iload_n 1, 1, 0), (2, .if_icmp .lt 7, 3, 9), (5, .iload_n 0, 1, 0), (6, .goto 4, 3, 10), (9, .iload_n 1, 1, 0), (10, .ireturn, 1, 0)]
theorem pJ3_max : zprogM mJ3_max gJ3_max := zprogM_of (by decide +kernel)
def gJ3_abs : zP := [(0, .lload_n 0, 1, 0), (1, .lconst 0, 1, 0), (2, .lcmp, 1, 0), (3, .ifCond .ge 8, 3, 11), (6, .lload_n 0, 1, 0), (7, .lneg, 1, 0), (8, .goto 4, 3, 12), (11, .lload_n 0, 1, 0), (12, .lreturn, 1, 0)]
theorem pJ3_abs : zprogM mJ3_abs gJ3_abs := zprogM_of (by decide +kernel)
