/-! CLASS J5 (java/lang/StringLatin1): resolver, programs -/
def fJ5 : List (Nat × Nat × Nat × Nat) := []
theorem fJ5_ok : ∀ q ∈ fJ5, zFok zcl RJ5 q.1 q.2 := fun _ h => absurd h List.not_mem_nil
def wJ5 : List (Nat × zM × Nat × Nat × Nat × Nat) := [(9, mJ4_checkIndex, 2, 1, 18, 0)]
theorem wJ5_ok : ∀ q ∈ wJ5, zMok zcl RJ5 q.1 q.2 := List.forall_mem_cons.mpr ⟨⟨⟨by decide, by decide, by decide +kernel⟩, by decide, lw_S q730 q731 q153 q732⟩, fun _ h => absurd h List.not_mem_nil⟩
def iJ5 : List (Nat × Int32) := []
theorem iJ5_ok : ∀ q ∈ iJ5, Cond.constant RJ5 q.1 q.2 ∈ lw_all := fun _ h => absurd h List.not_mem_nil
def lJ5 : List (Nat × Int64) := []
theorem lJ5_ok : ∀ q ∈ lJ5, Cond.constantLong RJ5 q.1 q.2 ∈ lw_all := fun _ h => absurd h List.not_mem_nil
def kJ5 : List (Nat × Nat) := []
theorem kJ5_ok : ∀ q ∈ kJ5, ∃ r : vw_C, zcl[q.2]? = some r ∧ Cond.classLink RJ5 q.1 r.1 ∈ lw_all := fun _ h => absurd h List.not_mem_nil
def sJ5 : List (Nat × Nat) := []
theorem sJ5_ok : ∀ q ∈ sJ5, ∃ w, zSts[q.2]? = some w ∧ Cond.fieldLink RJ5 q.1 w.1 w.2.1 w.2.2.1 ∈ lw_all := fun _ h => absurd h List.not_mem_nil
def tJ5 : List (Nat × Nat) := []
theorem tJ5_ok : ∀ q ∈ tJ5, ∃ tx, (RJ5, q.1, tx, q.2) ∈ zStr := fun _ h => absurd h List.not_mem_nil
def VJ5 : zRes := (zfnd fJ5, zfnd wJ5, zfnd iJ5, zfnd lJ5, zfnd kJ5, zfnd sJ5, zfnd tJ5)
theorem VJ5_ok : zVok zcl RJ5 VJ5 := ⟨fun n q h => fJ5_ok (n, q) (zfnd_mem h), fun n e h => wJ5_ok (n, e) (zfnd_mem h), fun n x h => iJ5_ok (n, x) (zfnd_mem h), fun n x h => lJ5_ok (n, x) (zfnd_mem h), fun n x h => kJ5_ok (n, x) (zfnd_mem h), fun n x h => sJ5_ok (n, x) (zfnd_mem h), fun n x h => tJ5_ok (n, x) (zfnd_mem h)⟩
def gJ5_charAt : zP := [(0, .iload_n 1, 1, 0), (1, .aload_n 0, 1, 0), (2, .arraylength, 1, 0), (3, .invokestatic 9, 3, 0), (6, .aload_n 0, 1, 0), (7, .iload_n 1, 1, 0), (8, .baload, 1, 0), (9, .sipush 255, 3, 0), (12, .iand, 1, 0), (13, .i2c, 1, 0), (14, .ireturn, 1, 0)]
theorem pJ5_charAt : zprogM mJ5_charAt gJ5_charAt := zprogM_of (by decide +kernel)
