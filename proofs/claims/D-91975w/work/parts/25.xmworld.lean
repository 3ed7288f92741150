/-! THE MODEL's WORLD: kind 0 the object, kind f the array of its field f; 97 a string constant, 98 its bytes (their number the count at 100 and the instance) -/
def ZmS (f : Nat) : Nat := bif [0, 5, 7, 8, 9, 10, 11, 12, 13, 17, 18, 19, 30, 32].any (Nat.beq f) then 0 else bif [34, 35, 36].any (Nat.beq f) then 1 else f + 2
def ZmA : List (Nat × Nat × Nat × Nat) := [(1, 0, 102, 0), (2, 0, 306, 0), (3, 2, 3, 0), (4, 1, 800, 0), (6, 0, 5, 0), (14, 0, 102, 0), (15, 0, 7, 0), (16, 0, 8, 0), (20, 0, 7, 0), (21, 0, 8, 0), (22, 0, 136, 0), (23, 0, 119, 0), (24, 0, 16, 0), (25, 0, 28, 0), (26, 0, 8, 0), (27, 0, 4, 0), (28, 0, 4, 0), (29, 0, 7, 0), (31, 0, 544, 0), (33, 0, 128, 0), (37, 0, 4, 0), (38, 0, 4, 0), (39, 3, 240, 0), (40, 3, 60, 0), (98, 8, 100, 0)]
def Zm : zZ := (zfnd [(0, 6), (97, 18)], fun k f => bif Nat.beq k 97 then (match f with
  | 0 => 100
  | _ + 1 => 0) else ZmS f, zfnd ZmA, zfnd [(97, 97), (98, 97)], fun k => Nat.ble 97 k)
