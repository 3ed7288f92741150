/-! CLASS J13 (java/util/Objects): resolver, programs -/
def fJ13 : List (Nat × Nat × Nat × Nat) := []
theorem fJ13_ok : ∀ q ∈ fJ13, zFok zcl RJ13 q.1 q.2 := fun _ h => absurd h List.not_mem_nil
def wJ13 : List (Nat × zM × Nat × Nat × Nat × Nat) := [(105, mJ6_checkIndex, 3, 1, 0, 0)]
theorem wJ13_ok : ∀ q ∈ wJ13, zMok zcl RJ13 q.1 q.2 := List.forall_mem_cons.mpr ⟨⟨⟨by decide, by decide, by decide +kernel⟩, by decide, lw_S q933 q736 q155 q737⟩, fun _ h => absurd h List.not_mem_nil⟩
def iJ13 : List (Nat × Int32) := []
theorem iJ13_ok : ∀ q ∈ iJ13, Cond.constant RJ13 q.1 q.2 ∈ lw_all := fun _ h => absurd h List.not_mem_nil
def lJ13 : List (Nat × Int64) := []
theorem lJ13_ok : ∀ q ∈ lJ13, Cond.constantLong RJ13 q.1 q.2 ∈ lw_all := fun _ h => absurd h List.not_mem_nil
def kJ13 : List (Nat × Nat) := []
theorem kJ13_ok : ∀ q ∈ kJ13, ∃ r : vw_C, zcl[q.2]? = some r ∧ Cond.classLink RJ13 q.1 r.1 ∈ lw_all := fun _ h => absurd h List.not_mem_nil
def sJ13 : List (Nat × Nat) := []
theorem sJ13_ok : ∀ q ∈ sJ13, ∃ w, zSts[q.2]? = some w ∧ Cond.fieldLink RJ13 q.1 w.1 w.2.1 w.2.2.1 ∈ lw_all := fun _ h => absurd h List.not_mem_nil
def tJ13 : List (Nat × Nat) := []
theorem tJ13_ok : ∀ q ∈ tJ13, ∃ tx, (RJ13, q.1, tx, q.2) ∈ zStr := fun _ h => absurd h List.not_mem_nil
def VJ13 : zRes := (zfnd fJ13, zfnd wJ13, zfnd iJ13, zfnd lJ13, zfnd kJ13, zfnd sJ13, zfnd tJ13)
theorem VJ13_ok : zVok zcl RJ13 VJ13 := ⟨fun n q h => fJ13_ok (n, q) (zfnd_mem h), fun n e h => wJ13_ok (n, e) (zfnd_mem h), fun n x h => iJ13_ok (n, x) (zfnd_mem h), fun n x h => lJ13_ok (n, x) (zfnd_mem h), fun n x h => kJ13_ok (n, x) (zfnd_mem h), fun n x h => sJ13_ok (n, x) (zfnd_mem h), fun n x h => tJ13_ok (n, x) (zfnd_mem h)⟩
def gJ13_checkIndex : zP := [(0, .iload_n 0, 1, 0), (1, .iload_n 1, 1, 0), (2, .aconst_null, 1, 0), (3, .invokestatic 105, 3, 0), (6, .ireturn, 1, 0)]
theorem pJ13_checkIndex : zprogM mJ13_checkIndex gJ13_checkIndex := zprogM_of (by decide +kernel)
