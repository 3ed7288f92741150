/-! THE MICRO-OPERATIONS: what an instruction asks and does, over the abstract state -/
abbrev zAW : Type := Nat → List (Option zV) → List zV → zS → Prop
/-- a class's resolver: pool places of fields (class number, field, may be written: 1 an int, 2 a long), of methods (method, arguments without the receiver, how: 0 virtual, 1 static, 2 virtual of a nest mate, 3 static of a nest mate; number of the receiver class; kind of the cell that it answers, 1000: what the list holds), of ints, of longs, of classes cast to, of statics, of string constants; 4: through an interface -/
abbrev zRes : Type := (Nat → Option (Nat × Nat × Nat)) × (Nat → Option (zM × Nat × Nat × Nat × Nat)) × (Nat → Option Int32) × (Nat → Option Int64) × (Nat → Option Nat) × (Nat → Option Nat) × (Nat → Option Nat)
def zlo (ls : List (Option zV)) (i : Nat) (K : zV → Prop) : Prop := match znth ls i with
  | some (some v) => K v
  | _ => False
def zi1 (v : zV) (K : Int32 → Prop) : Prop := match v with
  | .inl x => K x
  | _ => False
def zl1 (v : zV) (K : Int64 → Prop) : Prop := match v with
  | .inr (.inl x) => K x
  | _ => False
/-- a reference or null -/
def zr1 (v : zV) (K : zV → Prop) : Prop := match v with
  | .inr (.inr (.inl q)) => K (zR q.1 q.2)
  | .inr (.inr (.inr _)) => K zN
  | _ => False
def zi (st : List zV) (K : Int32 → List zV → Prop) : Prop := match st with
  | .inl x :: r => K x r
  | _ => False
def zl (st : List zV) (K : Int64 → List zV → Prop) : Prop := match st with
  | .inr (.inl x) :: r => K x r
  | _ => False
def zr (st : List zV) (K : Nat → Nat → List zV → Prop) : Prop := match st with
  | .inr (.inr (.inl q)) :: r => K q.1 q.2 r
  | _ => False
/-- the instance lives -/
def zliv (Z : zZ) (C : Nat → Nat) (k i : Nat) (P : Prop) : Prop := match Z.2.2.2.1 k with
  | none => (match i with
    | 0 => P
    | _ + 1 => False)
  | some c => i < C c ∧ P
def zb (b : Bool) (P : Prop) : Prop := match b with
  | true => P
  | false => False
/-- a branch: to A where it is taken, else to B -/
def zif (o : Jvm.ClassFile.Cond) (x y : Int32) (A B : Prop) : Prop := match o with
  | .eq => (x = y → A) ∧ (¬ x = y → B)
  | .ne => (x = y → B) ∧ (¬ x = y → A)
  | .lt => (x < y → A) ∧ (¬ x < y → B)
  | .ge => (x < y → B) ∧ (¬ x < y → A)
  | .gt => (y < x → A) ∧ (¬ y < x → B)
  | .le => (y < x → B) ∧ (¬ y < x → A)
/-- a written number -/
def zcst : Int → Int32
  | .ofNat k => Int32.ofNat k
  | .negSucc k => -(Int32.ofNat (k + 1))
def zpop : Nat → List zV → List zV → (List zV → List zV → Prop) → Prop
  | 0, acc, st, K => K acc st
  | n + 1, acc, v :: st, K => zpop n (v :: acc) st K
  | _ + 1, _, [], _ => False
def zsum : List zV → Nat
  | [] => 0
  | v :: st => zcat v + zsum st
def zak (Z : zZ) (ak : Nat) (as : List zV) : Nat := match as with
  | .inr (.inr (.inl q)) :: _ => bif Nat.blt ak 1000 then ak else (match Z.2.2.1 (Z.2.1 q.1 1 - 2) with
    | some a => a.2.2
    | none => 0)
  | _ => ak
/-- the call itself, by the answer's kind -/
def zans (cl : List vw_C) (Z : zZ) (G : zG) (d : Nat) (mm : zM) (ak : Nat) (as : List zV) (σ : zS) (AW : zAW) (pc : Nat) (ls : List (Option zV)) (rest : List zV) : Prop := match mm.2.2.2 with
  | none => zCallV cl Z G d mm as σ (fun σ1 => AW pc ls rest σ1)
  | some .long => zCallL cl Z G d mm as σ (fun x σ1 => AW pc ls (zL x :: rest) σ1)
  | some (.object _) => zCallR cl Z G d mm as σ ak (fun i σ1 => AW pc ls (zR ak i :: rest) σ1)
  | some (.array _) => zCallR cl Z G d mm as σ ak (fun i σ1 => AW pc ls (zR ak i :: rest) σ1)
  | some _ => zCallI cl Z G d mm as σ (fun x σ1 => AW pc ls (zI x :: rest) σ1)
def zinvV (cl : List vw_C) (Z : zZ) (G : zG) (d : Nat) (e : zM × Nat × Nat × Nat × Nat) (AW : zAW) (pc : Nat) (ls : List (Option zV)) (st : List zV) (σ : zS) : Prop :=
  zpop (e.2.1 + 1) [] st (fun as rest => match as with
    | .inr (.inr (.inl q)) :: _ => (match Z.1 q.1 with
      | some ci => zb (Nat.beq ci e.2.2.2.1) (zliv Z σ.2.2.2.2 q.1 q.2 (zb (Nat.ble (zsum rest) 8) (match d with
        | 0 => False
        | d' + 1 => zans cl Z G d' e.1 (zak Z e.2.2.2.2 as) as σ AW (pc + 3) ls rest)))
      | none => False)
    | _ => False)
def zinvF (cl : List vw_C) (Z : zZ) (G : zG) (d : Nat) (e : zM × Nat × Nat × Nat × Nat) (AW : zAW) (pc : Nat) (ls : List (Option zV)) (st : List zV) (σ : zS) : Prop :=
  zpop (e.2.1 + 1) [] st (fun as rest => match as with
    | .inr (.inr (.inl q)) :: _ => (match Z.1 q.1 with
      | some ci => zb (Nat.beq ci e.2.2.2.1) (zliv Z σ.2.2.2.2 q.1 q.2 (zb (Nat.ble (zsum rest) 8) (match d with
        | 0 => False
        | d' + 1 => zans cl Z G d' e.1 (zak Z e.2.2.2.2 as) as σ AW (pc + 5) ls rest)))
      | none => False)
    | _ => False)
def zinvS (cl : List vw_C) (Z : zZ) (G : zG) (d : Nat) (e : zM × Nat × Nat × Nat × Nat) (AW : zAW) (pc : Nat) (ls : List (Option zV)) (st : List zV) (σ : zS) : Prop :=
  zpop e.2.1 [] st (fun as rest => zb (Nat.ble (zsum rest) 8) (match d with
        | 0 => False
        | d' + 1 => zans cl Z G d' e.1 (zak Z e.2.2.2.2 as) as σ AW (pc + 3) ls rest))
def zgetf (Z : zZ) (q : Nat × Nat × Nat) (K : zV → Prop) (k i : Nat) (σ : zS) : Prop := match Z.1 k with
  | some ci => zb (Nat.beq ci q.1) (zliv Z σ.2.2.2.2 k i (K (zfv (Z.2.1 k q.2.1) k q.2.1 i σ)))
  | none => False
def zputf (Z : zZ) (q : Nat × Nat × Nat) (v : zV) (K : zS → Prop) (k i : Nat) (σ : zS) : Prop := match Z.1 k with
  | some ci => zb (Nat.beq ci q.1) (zb (!(Z.2.2.2.2 k)) (zliv Z σ.2.2.2.2 k i (match Z.2.1 k q.2.1, q.2.2, v with
    | 0, 1, .inl x => K (uI σ k q.2.1 i x)
    | 1, 2, .inr (.inl x) => K (uL σ k q.2.1 i x)
    | _, _, _ => False)))
  | none => False
/-- the array of a name, its element's kind one of ts -/
def zarr (Z : zZ) (k i : Nat) (σ : zS) (K : Nat × Nat × Nat → Prop) : Prop := match Z.1 k with
  | some _ => False
  | none => match Z.2.2.1 k with
    | some q => zliv Z σ.2.2.2.2 k i (K q)
    | none => False
def zarw (Z : zZ) (k i : Nat) (σ : zS) (K : Nat × Nat × Nat → Prop) : Prop := zb (!(Z.2.2.2.2 k)) (zarr Z k i σ K)
def zbyt (t : Nat) (x : Int32) : Int32 := match t with
  | 1 => x.toInt8.toInt32
  | 2 => vp_nar .boolean x
  | _ => x
def zop (cl : List vw_C) (V : zRes) (rt : Option FieldType) (Z : zZ) (G : zG) (d : Nat) (Q : Option zV → zS → Prop) (AW : zAW) (pc : Nat) (ins : Jvm.ClassFile.Instr) (tg : Nat) (ls : List (Option zV)) (st : List zV) (σ : zS) : Prop := match ins with
  | .iconst n => AW (pc + 1) ls (zI (zcst n) :: st) σ
  | .bipush n => AW (pc + 2) ls (zI (zcst n) :: st) σ
  | .sipush n => AW (pc + 3) ls (zI (zcst n) :: st) σ
  | .lconst n => AW (pc + 1) ls (zL (Int64.ofNat n) :: st) σ
  | .ldc n => (match V.2.2.1 n, V.2.2.2.2.2.2 n with
    | some x, _ => AW (pc + 2) ls (zI x :: st) σ
    | none, some j => AW (pc + 2) ls (zR 97 j :: st) σ
    | none, none => False)
  | .getstatic n => (match V.2.2.2.2.2.1 n with
    | some j => (match zSts[j]? with
      | some (_, _, _, .inl x) => AW (pc + 3) ls (zI x :: st) σ
      | some (_, _, _, .inr (j, true)) => AW (pc + 3) ls (zR 95 j :: st) σ
      | some (_, _, _, .inr (j, false)) => AW (pc + 3) ls (zN :: st) σ ∧ AW (pc + 3) ls (zR 95 j :: st) σ
      | none => False)
    | none => False)
  | .ldc_w n => (match V.2.2.1 n with
    | some x => AW (pc + 3) ls (zI x :: st) σ
    | none => False)
  | .ldc2_w n => (match V.2.2.2.1 n with
    | some x => AW (pc + 3) ls (zL x :: st) σ
    | none => False)
  | .iload_n k => zlo ls k (fun v => zi1 v (fun x => AW (pc + 1) ls (zI x :: st) σ))
  | .iload k => zlo ls k (fun v => zi1 v (fun x => AW (pc + 2) ls (zI x :: st) σ))
  | .lload_n k => zlo ls k (fun v => zl1 v (fun x => AW (pc + 1) ls (zL x :: st) σ))
  | .lload k => zlo ls k (fun v => zl1 v (fun x => AW (pc + 2) ls (zL x :: st) σ))
  | .aload_n k => zlo ls k (fun v => zr [v] (fun a b _ => AW (pc + 1) ls (zR a b :: st) σ))
  | .aload k => zlo ls k (fun v => zr [v] (fun a b _ => AW (pc + 2) ls (zR a b :: st) σ))
  | .istore_n k => zi st (fun x r => AW (pc + 1) (zst1 ls k (zI x)) r σ)
  | .istore k => zi st (fun x r => AW (pc + 2) (zst1 ls k (zI x)) r σ)
  | .lstore_n k => zl st (fun x r => AW (pc + 1) (zst2 ls k (zL x)) r σ)
  | .lstore k => zl st (fun x r => AW (pc + 2) (zst2 ls k (zL x)) r σ)
  | .astore_n k => zr st (fun a b r => AW (pc + 1) (zst1 ls k (zR a b)) r σ)
  | .astore k => zr st (fun a b r => AW (pc + 2) (zst1 ls k (zR a b)) r σ)
  | .iinc k n => zlo ls k (fun v => zi1 v (fun x => AW (pc + 3) (zst1 ls k (zI (x + zcst n))) st σ))
  | .iadd => zi st (fun y r => zi r (fun x r => AW (pc + 1) ls (zI (x + y) :: r) σ))
  | .isub => zi st (fun y r => zi r (fun x r => AW (pc + 1) ls (zI (x - y) :: r) σ))
  | .imul => zi st (fun y r => zi r (fun x r => AW (pc + 1) ls (zI (x * y) :: r) σ))
  | .idiv => zi st (fun y r => zi r (fun x r => ¬ y = 0 ∧ AW (pc + 1) ls (zI (x / y) :: r) σ))
  | .irem => zi st (fun y r => zi r (fun x r => ¬ y = 0 ∧ AW (pc + 1) ls (zI (x - x / y * y) :: r) σ))
  | .iand => zi st (fun y r => zi r (fun x r => AW (pc + 1) ls (zI (x &&& y) :: r) σ))
  | .ior => zi st (fun y r => zi r (fun x r => AW (pc + 1) ls (zI (x ||| y) :: r) σ))
  | .ixor => zi st (fun y r => zi r (fun x r => AW (pc + 1) ls (zI (x ^^^ y) :: r) σ))
  | .ishl => zi st (fun y r => zi r (fun x r => AW (pc + 1) ls (zI (x <<< (y &&& 31)) :: r) σ))
  | .ishr => zi st (fun y r => zi r (fun x r => AW (pc + 1) ls (zI (x >>> (y &&& 31)) :: r) σ))
  | .ladd => zl st (fun y r => zl r (fun x r => AW (pc + 1) ls (zL (x + y) :: r) σ))
  | .lsub => zl st (fun y r => zl r (fun x r => AW (pc + 1) ls (zL (x - y) :: r) σ))
  | .lmul => zl st (fun y r => zl r (fun x r => AW (pc + 1) ls (zL (x * y) :: r) σ))
  | .ldiv => zl st (fun y r => zl r (fun x r => ¬ y = 0 ∧ AW (pc + 1) ls (zL (x / y) :: r) σ))
  | .lrem => zl st (fun y r => zl r (fun x r => ¬ y = 0 ∧ AW (pc + 1) ls (zL (x - x / y * y) :: r) σ))
  | .lneg => zl st (fun x r => AW (pc + 1) ls (zL (-x) :: r) σ)
  | .ineg => zi st (fun x r => AW (pc + 1) ls (zI (-x) :: r) σ)
  | .i2c => zi st (fun x r => AW (pc + 1) ls (zI (x.toUInt32 % 65536).toInt32 :: r) σ)
  | .lcmp => zl st (fun y r => zl r (fun x r => AW (pc + 1) ls (zI (lg_cmp x y) :: r) σ))
  | .lshl => zi st (fun y r => zl r (fun x r => AW (pc + 1) ls (zL (x <<< (y.toInt64 &&& 63)) :: r) σ))
  | .lshr => zi st (fun y r => zl r (fun x r => AW (pc + 1) ls (zL (x >>> (y.toInt64 &&& 63)) :: r) σ))
  | .i2l => zi st (fun x r => AW (pc + 1) ls (zL x.toInt64 :: r) σ)
  | .l2i => zl st (fun x r => AW (pc + 1) ls (zI x.toInt32 :: r) σ)
  | .i2b => zi st (fun x r => AW (pc + 1) ls (zI x.toInt8.toInt32 :: r) σ)
  | .ifCond o _ => zi st (fun x r => zif o x 0 (AW tg ls r σ) (AW (pc + 3) ls r σ))
  | .if_icmp o _ => zi st (fun y r => zi r (fun x r => zif o x y (AW tg ls r σ) (AW (pc + 3) ls r σ)))
  | .goto _ => AW tg ls st σ
  | .pop => (match st with
    | .inl _ :: r => AW (pc + 1) ls r σ
    | .inr (.inr _) :: r => AW (pc + 1) ls r σ
    | _ => False)
  | .dup => (match st with
    | .inl x :: r => AW (pc + 1) ls (zI x :: zI x :: r) σ
    | .inr (.inr x) :: r => AW (pc + 1) ls (.inr (.inr x) :: .inr (.inr x) :: r) σ
    | _ => False)
  | .dup_x1 => (match st with
    | .inl x :: .inr (.inr y) :: r => AW (pc + 1) ls (zI x :: .inr (.inr y) :: zI x :: r) σ
    | .inl x :: .inl y :: r => AW (pc + 1) ls (zI x :: zI y :: zI x :: r) σ
    | _ => False)
  | .dup2 => (match st with
    | .inl x :: .inr (.inr y) :: r => AW (pc + 1) ls (zI x :: .inr (.inr y) :: zI x :: .inr (.inr y) :: r) σ
    | _ => False)
  | .getfield n => (match V.1 n with
    | some q => zr st (fun k i r => zgetf Z q (fun v => AW (pc + 3) ls (v :: r) σ) k i σ)
    | none => False)
  | .putfield n => (match V.1 n, st with
    | some q, v :: r => zr r (fun k i r => zputf Z q v (fun σ1 => AW (pc + 3) ls r σ1) k i σ)
    | _, _ => False)
  | .iaload => zi st (fun j r => zr r (fun k i r => zarr Z k i σ (fun q => match q.1 with
    | 0 => vp_in j q.2.1 ∧ AW (pc + 1) ls (zI (σ.2.2.1 k i j.toNatClampNeg) :: r) σ
    | _ => False)))
  | .baload => zi st (fun j r => zr r (fun k i r => zarr Z k i σ (fun q => match q.1 with
    | 1 => vp_in j q.2.1 ∧ AW (pc + 1) ls (zI (σ.2.2.1 k i j.toNatClampNeg) :: r) σ
    | 2 => vp_in j q.2.1 ∧ AW (pc + 1) ls (zI (σ.2.2.1 k i j.toNatClampNeg) :: r) σ
    | 8 => vp_in j (σ.2.2.2.2 (q.2.1 + i)) ∧ AW (pc + 1) ls (zI (σ.2.2.1 k i j.toNatClampNeg) :: r) σ
    | _ => False)))
  | .laload => zi st (fun j r => zr r (fun k i r => zarr Z k i σ (fun q => match q.1 with
    | 3 => vp_in j q.2.1 ∧ AW (pc + 1) ls (zL (σ.2.2.2.1 k i j.toNatClampNeg) :: r) σ
    | _ => False)))
  | .aaload => zi st (fun j r => zr r (fun k i r => zarr Z k i σ (fun q => match q.1 with
    | 5 => vp_in j q.2.1 ∧ AW (pc + 1) ls (zR q.2.2 j.toNatClampNeg :: r) σ
    | 6 => vp_in j (σ.2.2.2.2 q.2.1) ∧ j.toNatClampNeg < σ.2.2.2.2 (q.2.1 - 10) ∧ AW (pc + 1) ls (zR q.2.2 j.toNatClampNeg :: r) σ
    | _ => False)))
  | .iastore => zi st (fun x r => zi r (fun j r => zr r (fun k i r => zarw Z k i σ (fun q => match q.1 with
    | 0 => vp_in j q.2.1 ∧ AW (pc + 1) ls r (uA σ k i (upd (σ.2.2.1 k i) j.toNatClampNeg x))
    | _ => False))))
  | .bastore => zi st (fun x r => zi r (fun j r => zr r (fun k i r => zarw Z k i σ (fun q => match q.1 with
    | 1 => vp_in j q.2.1 ∧ AW (pc + 1) ls r (uA σ k i (upd (σ.2.2.1 k i) j.toNatClampNeg x.toInt8.toInt32))
    | 2 => vp_in j q.2.1 ∧ AW (pc + 1) ls r (uA σ k i (upd (σ.2.2.1 k i) j.toNatClampNeg (vp_nar .boolean x)))
    | _ => False))))
  | .lastore => zl st (fun x r => zi r (fun j r => zr r (fun k i r => zarw Z k i σ (fun q => match q.1 with
    | 3 => vp_in j q.2.1 ∧ AW (pc + 1) ls r (uB σ k i (vp_updL (σ.2.2.2.1 k i) j.toNatClampNeg x))
    | _ => False))))
  | .arraylength => zr st (fun k i r => zarr Z k i σ (fun q => match q.1 with
    | 6 => AW (pc + 1) ls (zI (Int32.ofNat (σ.2.2.2.2 q.2.1)) :: r) σ
    | 8 => AW (pc + 1) ls (zI (Int32.ofNat (σ.2.2.2.2 (q.2.1 + i))) :: r) σ
    | _ => q.1 < 6 ∧ AW (pc + 1) ls (zI (Int32.ofNat q.2.1) :: r) σ))
  | .ifnull _ => zr1 (st.headD zN) (fun v => match v, st with
    | .inr (.inr (.inl _)), _ :: r => AW (pc + 3) ls r σ
    | _, _ :: r => AW tg ls r σ
    | _, _ => False)
  | .ifnonnull _ => zr1 (st.headD zN) (fun v => match v, st with
    | .inr (.inr (.inl _)), _ :: r => AW tg ls r σ
    | _, _ :: r => AW (pc + 3) ls r σ
    | _, _ => False)
  | .invokevirtual n => (match V.2.1 n with
    | some (mm, a, 0, ci, ak) => zinvV cl Z G d (mm, a, 0, ci, ak) AW pc ls st σ
    | some (mm, a, 2, ci, ak) => zinvV cl Z G d (mm, a, 2, ci, ak) AW pc ls st σ
    | _ => False)
  | .invokeinterface n _ => (match V.2.1 n with
    | some (mm, a, 4, ci, ak) => zinvF cl Z G d (mm, a, 4, ci, ak) AW pc ls st σ
    | _ => False)
  | .checkcast n => (match V.2.2.2.2.1 n with
    | some ci => zr st (fun k i r => match Z.1 k with
      | some c => zb (Nat.beq c ci) (zliv Z σ.2.2.2.2 k i (AW (pc + 3) ls (zR k i :: r) σ))
      | none => False)
    | none => False)
  | .aconst_null => AW (pc + 1) ls (zN :: st) σ
  | .iushr => zi st (fun y r => zi r (fun x r => AW (pc + 1) ls (zI (x.toUInt32 >>> (y.toUInt32 &&& Int32.toUInt32 31)).toInt32 :: r) σ))
  | .invokestatic n => (match V.2.1 n with
    | some (mm, a, 1, ci, ak) => zinvS cl Z G d (mm, a, 1, ci, ak) AW pc ls st σ
    | some (mm, a, 3, ci, ak) => zinvS cl Z G d (mm, a, 3, ci, ak) AW pc ls st σ
    | _ => False)
  | .ireturn => (match st, rt with
    | [.inl x], some .int => Q (some (zI x)) σ
    | [.inl x], some .boolean => (x = 0 ∨ x = 1) ∧ Q (some (zI x)) σ
    | [.inl x], some .byte => narrow .byte (.int x) = .int x ∧ Q (some (zI x)) σ
    | [.inl x], some .char => narrow .char (.int x) = .int x ∧ Q (some (zI x)) σ
    | _, _ => False)
  | .lreturn => (match st, rt with
    | [.inr (.inl x)], some .long => Q (some (zL x)) σ
    | _, _ => False)
  | .areturn => (match st, rt with
    | [.inr (.inr (.inl q))], some (.object _) => Q (some (zR q.1 q.2)) σ
    | _, _ => False)
  | .return_ => (match st, rt with
    | [], none => Q none σ
    | _, _ => False)
  | _ => False
/-- a program: pc, instruction, length, where a branch goes -/
abbrev zP : Type := List (Nat × Jvm.ClassFile.Instr × Nat × Nat)
def zfind : zP → Nat → Option (Jvm.ClassFile.Instr × Nat)
  | [], _ => none
  | a :: l, pc => bif Nat.beq a.1 pc then some (a.2.1, a.2.2.2) else zfind l pc
/-- closed under the micro-operations -/
def zClo (cl : List vw_C) (V : zRes) (rt : Option FieldType) (g : zP) (Z : zZ) (G : zG) (d : Nat) (Q : Option zV → zS → Prop) (AW : zAW) : Prop :=
  ∀ (AW1 : zAW), (∀ pc ls st σ, AW1 pc ls st σ → AW pc ls st σ) → ∀ pc ins tg ls st σ, zfind g pc = some (ins, tg) → zop cl V rt Z G d Q AW1 pc ins tg ls st σ → AW pc ls st σ
def zrun (cl : List vw_C) (V : zRes) (rt : Option FieldType) (g : zP) (cuts : List Nat) (Z : zZ) (G : zG) (d : Nat) (Q : Option zV → zS → Prop) (AW : zAW) : Nat → zAW
  | 0, pc, ls, st, σ => AW pc ls st σ
  | n + 1, pc, ls, st, σ => bif cuts.any (Nat.beq pc) then AW pc ls st σ else match zfind g pc with
    | some (ins, tg) => zop cl V rt Z G d Q (zrun cl V rt g cuts Z G d Q AW n) pc ins tg ls st σ
    | none => False
def zseg (cl : List vw_C) (V : zRes) (rt : Option FieldType) (g : zP) (cuts : List Nat) (Z : zZ) (G : zG) (d : Nat) (Q : Option zV → zS → Prop) (AW : zAW) (n pc : Nat) (ls : List (Option zV)) (st : List zV) (σ : zS) : Prop := match zfind g pc with
    | some (ins, tg) => zop cl V rt Z G d Q (zrun cl V rt g cuts Z G d Q AW n) pc ins tg ls st σ
    | none => False
theorem zrun_ok {cl : List vw_C} {V : zRes} {rt : Option FieldType} {g : zP} {cuts : List Nat} {Z : zZ} {G : zG} {d : Nat} {Q : Option zV → zS → Prop} {AW : zAW} (h : zClo cl V rt g Z G d Q AW) : ∀ n pc ls st σ, zrun cl V rt g cuts Z G d Q AW n pc ls st σ → AW pc ls st σ := by
  intro n
  induction n with
  | zero => intro pc ls st σ q; exact q
  | succ n ih =>
    intro pc ls st σ q
    simp only [zrun] at q
    cases hc : cuts.any (Nat.beq pc) with
    | true => rw [hc] at q; exact q
    | false =>
      rw [hc] at q
      simp only [cond_false] at q
      cases hf : zfind g pc with
      | none => rw [hf] at q; exact q.elim
      | some w =>
        rw [hf] at q
        exact h _ ih pc w.1 w.2 ls st σ hf q
theorem zseg_ok {cl : List vw_C} {V : zRes} {rt : Option FieldType} {g : zP} {Z : zZ} {G : zG} {d : Nat} {Q : Option zV → zS → Prop} {AW : zAW} (h : zClo cl V rt g Z G d Q AW) (cuts : List Nat) (n : Nat) {pc : Nat} {ls : List (Option zV)} {st : List zV} {σ : zS} (q : zseg cl V rt g cuts Z G d Q AW n pc ls st σ) : AW pc ls st σ := by
  simp only [zseg] at q
  cases hf : zfind g pc with
  | none => rw [hf] at q; exact q.elim
  | some w =>
    rw [hf] at q
    exact h _ (zrun_ok h n) pc w.1 w.2 ls st σ hf q
