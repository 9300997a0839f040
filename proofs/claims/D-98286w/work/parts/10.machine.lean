/-! THE ABSTRACT MACHINE: numbers are Int, references are logical addresses (0 null); heap (n, K, mr, mi) -/
abbrev zV : Type := Int ⊕ Int ⊕ Nat
abbrev zI (x : Int) : zV := .inl x
abbrev zL (x : Int) : zV := .inr (.inl x)
abbrev zR (a : Nat) : zV := .inr (.inr a)
abbrev zH : Type := Nat × (Nat → Nat × Nat) × (Nat → Nat → Nat) × (Nat → Nat → Int)
abbrev zRes : Type := Option zV ⊕ Nat
/-- an entry of a code table: instruction, length, resolved numbers -/
abbrev zEn : Type := Instr × Nat × List Nat
def zw (x : Int) : Int := x.bmod 4294967296
def zwl (x : Int) : Int := x.bmod 18446744073709551616
def zup {α : Type} (f : Nat → α) (k : Nat) (v : α) : Nat → α := fun j => if j = k then v else f j
/-- one slot of one cell -/
def zst {α : Type} (f : Nat → Nat → α) (a j : Nat) (v : α) : Nat → Nat → α := zup f a (zup (f a) j v)
def zb (f : Int32 → Int32 → Int32) (x y : Int) : Int := (f (Int32.ofInt x) (Int32.ofInt y)).toInt
def zlb (f : Int64 → Int64 → Int64) (x y : Int) : Int := (f (Int64.ofInt x) (Int64.ofInt y)).toInt
def zand : Int → Int → Int := zb (fun x y => x &&& y)
def zor : Int → Int → Int := zb (fun x y => x ||| y)
def zxor : Int → Int → Int := zb (fun x y => x ^^^ y)
def zdiv : Int → Int → Int := zb (fun x y => x / y)
def zrem : Int → Int → Int := zb (fun x y => x - x / y * y)
def zshl : Int → Int → Int := zb (fun x y => x <<< (y &&& 31))
def zshr : Int → Int → Int := zb (fun x y => x >>> (y &&& 31))
def zushr : Int → Int → Int := zb (fun x y => (x.toUInt32 >>> (y.toUInt32 &&& Int32.toUInt32 31)).toInt32)
def zldiv : Int → Int → Int := zlb (fun x y => x / y)
def zlrem : Int → Int → Int := zlb (fun x y => x - x / y * y)
def zi2b (x : Int) : Int := (Int32.ofInt x).toInt8.toInt32.toInt
def zi2c (x : Int) : Int := ((Int32.ofInt x).toUInt32 % 65536).toInt32.toInt
def zmax (x y : Int) : Int := if x < y then y else x
/-- storing into locals: a long also takes the next one; what it halves is forgotten -/
def zkill (w : Option zV) : Option zV := match w with
  | some (.inr (.inl _)) => none
  | w => w
def zset1 : List (Option zV) → Nat → zV → List (Option zV)
  | [], _, _ => []
  | _ :: r, 0, v => some v :: r
  | w :: r, 1, v => zkill w :: zset1 r 0 v
  | w :: r, i + 2, v => w :: zset1 r (i + 1) v
def zset2 : List (Option zV) → Nat → zV → List (Option zV)
  | [], _, _ => []
  | _ :: r, 0, v => some v :: r.set 0 none
  | w :: r, 1, v => zkill w :: zset2 r 0 v
  | w :: r, i + 2, v => w :: zset2 r (i + 1) v
/-- the locals at a method's entry -/
def zlay : List zV → List (Option zV)
  | [] => []
  | .inl x :: r => some (.inl x) :: zlay r
  | .inr (.inl x) :: r => some (.inr (.inl x)) :: none :: zlay r
  | .inr (.inr a) :: r => some (.inr (.inr a)) :: zlay r
def zpad : Nat → List (Option zV) → List (Option zV)
  | 0, _ => []
  | n + 1, [] => none :: zpad n []
  | n + 1, w :: r => w :: zpad n r
def zcat : List zV → Nat
  | [] => 0
  | .inl _ :: r => zcat r + 1
  | .inr (.inl _) :: r => zcat r + 2
  | .inr (.inr _) :: r => zcat r + 1
def zget : List (Nat × zEn) → Nat → Option zEn
  | [], _ => none
  | (q, e) :: r, pc => match Nat.beq q pc with
    | true => some e
    | false => zget r pc
/-- the first n of a stack, the deepest first; the rest -/
def ztake : Nat → List zV → List zV → Option (List zV × List zV)
  | 0, acc, r => some (acc, r)
  | _ + 1, _, [] => none
  | n + 1, acc, v :: r => ztake n (v :: acc) r
def zfind : List Nat → Nat → Option Nat
  | k :: v :: r, x => match Nat.beq k x with
    | true => some v
    | false => zfind r x
  | _, _ => none
def zlook : List (Int × Int) → Int → Int → Int
  | [], d, _ => d
  | (k, o) :: r, d, x => if x = k then o else zlook r d x
/-- a step's outcome: what must hold, and: goes on here | calls (method, arguments, the stack's rest) | ends -/
abbrev zOut : Type := Option (Prop × ((Nat × List (Option zV) × List zV × zH) ⊕ (Nat × List zV × List zV) ⊕ (zRes × zH)))
def zgo (pc : Nat) (ls : List (Option zV)) (st : List zV) (h : zH) : zOut := some (True, .inl (pc, ls, st, h))
def zgg (g : Prop) (pc : Nat) (ls : List (Option zV)) (st : List zV) (h : zH) : zOut := some (g, .inl (pc, ls, st, h))
def zat (pc : Nat) (off : Int) : Nat := ((pc : Int) + off).toNat
def zbr (c : Prop) [Decidable c] (pc : Nat) (off : Int) (ls : List (Option zV)) (st : List zV) (h : zH) : zOut := some (True, .inl (if c then zat pc off else pc + 3, ls, st, h))
/-- weight of an array of n slots in addresses -/
def zwt (n : Nat) : Nat := n / 64 + 1
/-- a call by the receiver's class k -/
def zdisp (vs : List Nat) (k a : Nat) (as rest : List zV) : zOut := match zfind vs k with
  | some y => some (True, .inr (.inl (y, .inr (.inr a) :: as, rest)))
  | none => none
def zcall (h : zH) (st : List zV) (r : List Nat) : zOut := match r with
  | [n, q] => match ztake n [] st with
    | some (as, rest) => match Nat.ble (zcat rest) 8 with
      | true => some (True, .inr (.inl (q, as, rest)))
      | false => none
    | none => none
  | [n, q, ci] => match ztake n [] st with
    | some (.inr (.inr a) :: as, rest) => match Nat.ble (zcat rest) 8 with
      | true => some ((h.2.1 a).1 = ci, .inr (.inl (q, .inr (.inr a) :: as, rest)))
      | false => none
    | _ => none
  | n :: _ :: vs => match ztake n [] st with
    | some (.inr (.inr a) :: as, rest) => match Nat.ble (zcat rest) 8 with
      | true => zdisp vs (h.2.1 a).1 a as rest
      | false => none
    | _ => none
  | _ => none
/-- a constructor's call -/
def zcallI (h : zH) (st : List zV) (r : List Nat) : zOut := match r with
  | [n, q] => match ztake n [] st with
    | some (.inr (.inr a) :: as, rest) => match Nat.ble (zcat rest) 8 with
      | true => some (64 ≤ a ∧ (h.2.1 a).1 ≠ 0, .inr (.inl (q, .inr (.inr a) :: as, rest)))
      | false => none
    | _ => none
  | _ => none
def zstep (tb : List (Nat × zEn)) (pc : Nat) (ls : List (Option zV)) (st : List zV) (h : zH) : zOut := match zget tb pc with
  | none => none
  | some (I, len, r) => match I with
    | .iconst i => zgo (pc + len) ls (.inl i :: st) h
    | .bipush i => zgo (pc + len) ls (.inl i :: st) h
    | .sipush i => zgo (pc + len) ls (.inl i :: st) h
    | .aconst_null => zgo (pc + len) ls (.inr (.inr 0) :: st) h
    | .lconst i => zgo (pc + len) ls (.inr (.inl (i.val : Int)) :: st) h
    | .ldc _ => match r with
      | [0, v] => zgo (pc + len) ls (.inl (v : Int) :: st) h
      | [2, a] => zgo (pc + len) ls (.inr (.inr a) :: st) h
      | _ => none
    | .ldc_w _ => match r with
      | [0, v] => zgo (pc + len) ls (.inl (v : Int) :: st) h
      | [2, a] => zgo (pc + len) ls (.inr (.inr a) :: st) h
      | _ => none
    | .ldc2_w _ => match r with
      | [1, v] => zgo (pc + len) ls (.inr (.inl (v : Int)) :: st) h
      | _ => none
    | .iload i => match ls[i]? with
      | some (some (.inl x)) => zgo (pc + len) ls (.inl x :: st) h
      | _ => none
    | .iload_n i => match ls[i.val]? with
      | some (some (.inl x)) => zgo (pc + len) ls (.inl x :: st) h
      | _ => none
    | .lload i => match ls[i]? with
      | some (some (.inr (.inl x))) => zgo (pc + len) ls (.inr (.inl x) :: st) h
      | _ => none
    | .lload_n i => match ls[i.val]? with
      | some (some (.inr (.inl x))) => zgo (pc + len) ls (.inr (.inl x) :: st) h
      | _ => none
    | .aload i => match ls[i]? with
      | some (some (.inr (.inr x))) => zgo (pc + len) ls (.inr (.inr x) :: st) h
      | _ => none
    | .aload_n i => match ls[i.val]? with
      | some (some (.inr (.inr x))) => zgo (pc + len) ls (.inr (.inr x) :: st) h
      | _ => none
    | .istore i => match st with
      | .inl x :: t => zgo (pc + len) (zset1 ls i (.inl x)) t h
      | _ => none
    | .istore_n i => match st with
      | .inl x :: t => zgo (pc + len) (zset1 ls i.val (.inl x)) t h
      | _ => none
    | .astore i => match st with
      | .inr (.inr x) :: t => zgo (pc + len) (zset1 ls i (.inr (.inr x))) t h
      | _ => none
    | .astore_n i => match st with
      | .inr (.inr x) :: t => zgo (pc + len) (zset1 ls i.val (.inr (.inr x))) t h
      | _ => none
    | .lstore i => match st with
      | .inr (.inl x) :: t => zgo (pc + len) (zset2 ls i (.inr (.inl x))) t h
      | _ => none
    | .lstore_n i => match st with
      | .inr (.inl x) :: t => zgo (pc + len) (zset2 ls i.val (.inr (.inl x))) t h
      | _ => none
    | .iinc i n => match ls[i]? with
      | some (some (.inl x)) => zgo (pc + len) (zset1 ls i (.inl (zw (x + n)))) st h
      | _ => none
    | .iadd => match st with
      | .inl y :: .inl x :: t => zgo (pc + len) ls (.inl (zw (x + y)) :: t) h
      | _ => none
    | .isub => match st with
      | .inl y :: .inl x :: t => zgo (pc + len) ls (.inl (zw (x - y)) :: t) h
      | _ => none
    | .imul => match st with
      | .inl y :: .inl x :: t => zgo (pc + len) ls (.inl (zw (x * y)) :: t) h
      | _ => none
    | .idiv => match st with
      | .inl y :: .inl x :: t => zgg (y ≠ 0) (pc + len) ls (.inl (zdiv x y) :: t) h
      | _ => none
    | .irem => match st with
      | .inl y :: .inl x :: t => zgg (y ≠ 0) (pc + len) ls (.inl (zrem x y) :: t) h
      | _ => none
    | .iand => match st with
      | .inl y :: .inl x :: t => zgo (pc + len) ls (.inl (zand x y) :: t) h
      | _ => none
    | .ior => match st with
      | .inl y :: .inl x :: t => zgo (pc + len) ls (.inl (zor x y) :: t) h
      | _ => none
    | .ixor => match st with
      | .inl y :: .inl x :: t => zgo (pc + len) ls (.inl (zxor x y) :: t) h
      | _ => none
    | .ishl => match st with
      | .inl y :: .inl x :: t => zgo (pc + len) ls (.inl (zshl x y) :: t) h
      | _ => none
    | .ishr => match st with
      | .inl y :: .inl x :: t => zgo (pc + len) ls (.inl (zshr x y) :: t) h
      | _ => none
    | .iushr => match st with
      | .inl y :: .inl x :: t => zgo (pc + len) ls (.inl (zushr x y) :: t) h
      | _ => none
    | .ladd => match st with
      | .inr (.inl y) :: .inr (.inl x) :: t => zgo (pc + len) ls (.inr (.inl (zwl (x + y))) :: t) h
      | _ => none
    | .lsub => match st with
      | .inr (.inl y) :: .inr (.inl x) :: t => zgo (pc + len) ls (.inr (.inl (zwl (x - y))) :: t) h
      | _ => none
    | .lmul => match st with
      | .inr (.inl y) :: .inr (.inl x) :: t => zgo (pc + len) ls (.inr (.inl (zwl (x * y))) :: t) h
      | _ => none
    | .ldiv => match st with
      | .inr (.inl y) :: .inr (.inl x) :: t => zgg (y ≠ 0) (pc + len) ls (.inr (.inl (zldiv x y)) :: t) h
      | _ => none
    | .lrem => match st with
      | .inr (.inl y) :: .inr (.inl x) :: t => zgg (y ≠ 0) (pc + len) ls (.inr (.inl (zlrem x y)) :: t) h
      | _ => none
    | .lcmp => match st with
      | .inr (.inl y) :: .inr (.inl x) :: t => zgo (pc + len) ls (.inl (if x > y then 1 else if x = y then 0 else -1) :: t) h
      | _ => none
    | .i2l => match st with
      | .inl x :: t => zgo (pc + len) ls (.inr (.inl x) :: t) h
      | _ => none
    | .l2i => match st with
      | .inr (.inl x) :: t => zgo (pc + len) ls (.inl (zw x) :: t) h
      | _ => none
    | .i2b => match st with
      | .inl x :: t => zgo (pc + len) ls (.inl (zi2b x) :: t) h
      | _ => none
    | .i2c => match st with
      | .inl x :: t => zgo (pc + len) ls (.inl (zi2c x) :: t) h
      | _ => none
    | .dup => match st with
      | .inl x :: t => zgo (pc + len) ls (.inl x :: .inl x :: t) h
      | .inr (.inr x) :: t => zgo (pc + len) ls (.inr (.inr x) :: .inr (.inr x) :: t) h
      | _ => none
    | .dup2 => match st with
      | .inl x :: .inr (.inr y) :: t => zgo (pc + len) ls (.inl x :: .inr (.inr y) :: .inl x :: .inr (.inr y) :: t) h
      | _ => none
    | .dup_x1 => match st with
      | .inl x :: .inr (.inr y) :: t => zgo (pc + len) ls (.inl x :: .inr (.inr y) :: .inl x :: t) h
      | _ => none
    | .pop => match st with
      | .inl _ :: t => zgo (pc + len) ls t h
      | .inr (.inr _) :: t => zgo (pc + len) ls t h
      | _ => none
    | .goto off => zgo (zat pc off) ls st h
    | .ifCond c off => match st with
      | .inl x :: t => match c with
        | .eq => zbr (x = 0) pc off ls t h
        | .ne => zbr (x ≠ 0) pc off ls t h
        | .lt => zbr (x < 0) pc off ls t h
        | .ge => zbr (0 ≤ x) pc off ls t h
        | .gt => zbr (0 < x) pc off ls t h
        | .le => zbr (x ≤ 0) pc off ls t h
      | _ => none
    | .if_icmp c off => match st with
      | .inl y :: .inl x :: t => match c with
        | .eq => zbr (x = y) pc off ls t h
        | .ne => zbr (x ≠ y) pc off ls t h
        | .lt => zbr (x < y) pc off ls t h
        | .ge => zbr (y ≤ x) pc off ls t h
        | .gt => zbr (y < x) pc off ls t h
        | .le => zbr (x ≤ y) pc off ls t h
      | _ => none
    | .ifnull off => match st with
      | .inr (.inr a) :: t => some (a = 0 ∨ (h.2.1 a).1 ≠ 0, .inl (if a = 0 then zat pc off else pc + 3, ls, t, h))
      | _ => none
    | .ifnonnull off => match st with
      | .inr (.inr a) :: t => some (a = 0 ∨ (h.2.1 a).1 ≠ 0, .inl (if a ≠ 0 then zat pc off else pc + 3, ls, t, h))
      | _ => none
    | .if_acmp .ne off => match st with
      | .inr (.inr b) :: .inr (.inr a) :: t => some (64 ≤ a ∧ (h.2.1 a).1 ≠ 0 ∧ (h.2.1 b).1 ≠ 0, .inl (if a ≠ b then zat pc off else pc + 3, ls, t, h))
      | _ => none
    | .tableswitch d lo hi offs => match st with
      | .inl x :: t => zgo (zat pc (if x < lo ∨ hi < x then d else offs.toList.getD (x - lo).toNat 0)) ls t h
      | _ => none
    | .lookupswitch d ps => match st with
      | .inl x :: t => zgo (zat pc (zlook ps.toList d x)) ls t h
      | _ => none
    | .getfield _ => match st with
      | .inr (.inr a) :: t => match r with
        | [ci, N, f, 0] => zgg (h.2.1 a = (ci, N)) (pc + len) ls (.inl (h.2.2.2 a f) :: t) h
        | [ci, N, f, 1] => zgg (h.2.1 a = (ci, N)) (pc + len) ls (.inr (.inl (h.2.2.2 a f)) :: t) h
        | [ci, N, f, 2] => zgg (h.2.1 a = (ci, N)) (pc + len) ls (.inr (.inr (h.2.2.1 a f)) :: t) h
        | [ci, N, f, 5] => zgg (64 ≤ a ∧ h.2.1 a = (ci, N)) (pc + len) ls (.inl (h.2.2.2 a f) :: t) h
        | _ => none
      | _ => none
    | .putfield _ => match r with
      | [ci, N, f, 0] => match st with
        | .inl x :: .inr (.inr a) :: t => zgg (64 ≤ a ∧ h.2.1 a = (ci, N)) (pc + len) ls t (h.1, h.2.1, h.2.2.1, zst h.2.2.2 a f x)
        | _ => none
      | [ci, N, f, 1] => match st with
        | .inr (.inl x) :: .inr (.inr a) :: t => zgg (64 ≤ a ∧ h.2.1 a = (ci, N)) (pc + len) ls t (h.1, h.2.1, h.2.2.1, zst h.2.2.2 a f x)
        | _ => none
      | [ci, N, f, 2] => match st with
        | .inr (.inr x) :: .inr (.inr a) :: t => zgg (64 ≤ a ∧ h.2.1 a = (ci, N)) (pc + len) ls t (h.1, h.2.1, zst h.2.2.1 a f x, h.2.2.2)
        | _ => none
      | [ci, N, f, 3] => match st with
        | .inl x :: .inr (.inr a) :: t => zgg ((64 ≤ a ∧ h.2.1 a = (ci, N)) ∧ (x = 0 ∨ x = 1)) (pc + len) ls t (h.1, h.2.1, h.2.2.1, zst h.2.2.2 a f x)
        | _ => none
      | [ci, N, f, 4] => match st with
        | .inl x :: .inr (.inr a) :: t => zgg ((64 ≤ a ∧ h.2.1 a = (ci, N)) ∧ zi2b x = x) (pc + len) ls t (h.1, h.2.1, h.2.2.1, zst h.2.2.2 a f x)
        | _ => none
      | _ => none
    | .getstatic _ => match r with
      | [0, v] => zgo (pc + len) ls (.inl (v : Int) :: st) h
      | [2, a] => zgo (pc + len) ls (.inr (.inr a) :: st) h
      | _ => none
    | .new _ => match r with
      | [ci, N] => zgo (pc + len) ls (.inr (.inr h.1) :: st) (h.1 + 1, zup h.2.1 h.1 (ci, N), zup h.2.2.1 h.1 (fun _ => 0), zup h.2.2.2 h.1 (fun _ => 0))
      | [ci] => match st with
        | [] => some (True, .inr (.inr (.inr h.1, (h.1 + 1, zup h.2.1 h.1 (ci, 0), zup h.2.2.1 h.1 (fun _ => 0), zup h.2.2.2 h.1 (fun _ => 0)))))
        | _ => none
      | _ => none
    | .newarray _ => match r with
      | [k] => match st with
        | .inl x :: t => zgg (0 ≤ x ∧ x ≤ 1000000) (pc + len) ls (.inr (.inr h.1) :: t) (h.1 + zwt x.toNat, zup h.2.1 h.1 (k, x.toNat), zup h.2.2.1 h.1 (fun _ => 0), zup h.2.2.2 h.1 (fun _ => 0))
        | _ => none
      | _ => none
    | .anewarray _ => match r with
      | [k] => match st with
        | .inl x :: t => zgg (0 ≤ x ∧ x ≤ 1000000) (pc + len) ls (.inr (.inr h.1) :: t) (h.1 + zwt x.toNat, zup h.2.1 h.1 (k, x.toNat), zup h.2.2.1 h.1 (fun _ => 0), zup h.2.2.2 h.1 (fun _ => 0))
        | _ => none
      | _ => none
    | .arraylength => match st with
      | .inr (.inr a) :: t => zgg (100 ≤ (h.2.1 a).1) (pc + len) ls (.inl ((h.2.1 a).2 : Int) :: t) h
      | _ => none
    | .iaload => match st with
      | .inl i :: .inr (.inr a) :: t => zgg (∃ n, h.2.1 a = (100, n) ∧ 0 ≤ i ∧ i < (n : Int)) (pc + len) ls (.inl (h.2.2.2 a i.toNat) :: t) h
      | _ => none
    | .baload => match st with
      | .inl i :: .inr (.inr a) :: t => zgg (∃ n, (h.2.1 a = (101, n) ∨ h.2.1 a = (102, n)) ∧ 0 ≤ i ∧ i < (n : Int)) (pc + len) ls (.inl (h.2.2.2 a i.toNat) :: t) h
      | _ => none
    | .caload => match st with
      | .inl i :: .inr (.inr a) :: t => zgg (∃ n, h.2.1 a = (103, n) ∧ 0 ≤ i ∧ i < (n : Int)) (pc + len) ls (.inl (h.2.2.2 a i.toNat) :: t) h
      | _ => none
    | .laload => match st with
      | .inl i :: .inr (.inr a) :: t => zgg (∃ n, h.2.1 a = (104, n) ∧ 0 ≤ i ∧ i < (n : Int)) (pc + len) ls (.inr (.inl (h.2.2.2 a i.toNat)) :: t) h
      | _ => none
    | .aaload => match st with
      | .inl i :: .inr (.inr a) :: t => match r with
        | [k] => zgg (∃ n, h.2.1 a = (k, n) ∧ 0 ≤ i ∧ i < (n : Int)) (pc + len) ls (.inr (.inr (h.2.2.1 a i.toNat)) :: t) h
        | _ => none
      | _ => none
    | .iastore => match st with
      | .inl x :: .inl i :: .inr (.inr a) :: t => zgg (∃ n, 64 ≤ a ∧ h.2.1 a = (100, n) ∧ 0 ≤ i ∧ i < (n : Int)) (pc + len) ls t (h.1, h.2.1, h.2.2.1, zst h.2.2.2 a i.toNat x)
      | _ => none
    | .bastore => match r with
      | [0] => match st with
        | .inl x :: .inl i :: .inr (.inr a) :: t => zgg (∃ n, 64 ≤ a ∧ h.2.1 a = (101, n) ∧ 0 ≤ i ∧ i < (n : Int)) (pc + len) ls t (h.1, h.2.1, h.2.2.1, zst h.2.2.2 a i.toNat (zi2b x))
        | _ => none
      | [1] => match st with
        | .inl x :: .inl i :: .inr (.inr a) :: t => zgg (∃ n, 64 ≤ a ∧ h.2.1 a = (102, n) ∧ (0 ≤ i ∧ i < (n : Int)) ∧ (x = 0 ∨ x = 1)) (pc + len) ls t (h.1, h.2.1, h.2.2.1, zst h.2.2.2 a i.toNat x)
        | _ => none
      | _ => none
    | .castore => match st with
      | .inl x :: .inl i :: .inr (.inr a) :: t => zgg (∃ n, 64 ≤ a ∧ h.2.1 a = (103, n) ∧ 0 ≤ i ∧ i < (n : Int)) (pc + len) ls t (h.1, h.2.1, h.2.2.1, zst h.2.2.2 a i.toNat (zi2c x))
      | _ => none
    | .lastore => match st with
      | .inr (.inl x) :: .inl i :: .inr (.inr a) :: t => zgg (∃ n, 64 ≤ a ∧ h.2.1 a = (104, n) ∧ 0 ≤ i ∧ i < (n : Int)) (pc + len) ls t (h.1, h.2.1, h.2.2.1, zst h.2.2.2 a i.toNat x)
      | _ => none
    | .aastore => match st with
      | .inr (.inr x) :: .inl i :: .inr (.inr a) :: t => match r with
        | [k, ci] => zgg (∃ n, 64 ≤ a ∧ h.2.1 a = (k, n) ∧ (0 ≤ i ∧ i < (n : Int)) ∧ (h.2.1 x).1 = ci ∧ 64 ≤ x) (pc + len) ls t (h.1, h.2.1, zst h.2.2.1 a i.toNat x, h.2.2.2)
        | _ => none
      | _ => none
    | .checkcast _ => match st with
      | .inr (.inr a) :: t => match r with
        | [k] => zgg ((h.2.1 a).1 = k) (pc + len) ls (.inr (.inr a) :: t) h
        | [k, _] => zgg (64 ≤ a ∧ (h.2.1 a).1 = k) (pc + len) ls (.inr (.inr a) :: t) h
        | _ => none
      | _ => none
    | .instanceof _ => match st with
      | .inr (.inr a) :: t => match r with
        | [k] => zgg ((h.2.1 a).1 = k) (pc + len) ls (.inl 1 :: t) h
        | _ => none
      | _ => none
    | .invokestatic _ => match r with
      | [] => match st with
        | .inl n :: .inl dp :: .inr (.inr d) :: .inl sp :: .inr (.inr s) :: t => match Nat.ble (zcat t) 8 with
          | true => zgg (64 ≤ s ∧ 64 ≤ d ∧ ∃ k n1 n2, (k = 100 ∨ k = 104) ∧ h.2.1 s = (k, n1) ∧ h.2.1 d = (k, n2) ∧ s ≠ d ∧ 0 ≤ sp ∧ 0 ≤ dp ∧ 0 ≤ n ∧ sp + n ≤ (n1 : Int) ∧ dp + n ≤ (n2 : Int)) (pc + len) ls t (h.1, h.2.1, h.2.2.1, zup h.2.2.2 d (fun j => if dp.toNat ≤ j ∧ j < dp.toNat + n.toNat then h.2.2.2 s (sp.toNat + (j - dp.toNat)) else h.2.2.2 d j))
          | false => none
        | _ => none
      | [2] => match st with
        | .inl y :: .inl x :: t => match Nat.ble (zcat t) 8 with
          | true => zgo (pc + len) ls (.inl (zmax x y) :: t) h
          | false => none
        | _ => none
      | _ => zcall h st r
    | .invokevirtual _ => zcall h st r
    | .invokespecial _ => match r with
      | [] => match st with
        | .inr (.inr a) :: t => match Nat.ble (zcat t) 16 with
          | true => zgg ((h.2.1 a).1 ≠ 0) (pc + len) ls t h
          | false => none
        | _ => none
      | _ => zcallI h st r
    | .ireturn => match st with
      | [.inl x] => match r with
        | [0] => some (True, .inr (.inr (.inl (some (.inl x)), h)))
        | [1] => some (x = 0 ∨ x = 1, .inr (.inr (.inl (some (.inl x)), h)))
        | [2] => some (zi2b x = x, .inr (.inr (.inl (some (.inl x)), h)))
        | [3] => some (zi2c x = x, .inr (.inr (.inl (some (.inl x)), h)))
        | _ => none
      | _ => none
    | .lreturn => match st with
      | [.inr (.inl x)] => some (True, .inr (.inr (.inl (some (.inr (.inl x))), h)))
      | _ => none
    | .areturn => match st with
      | [.inr (.inr x)] => some (True, .inr (.inr (.inl (some (.inr (.inr x))), h)))
      | _ => none
    | .return_ => match st with
      | [] => some (True, .inr (.inr (.inl none, h)))
      | _ => none
    | .athrow => match st with
      | .inr (.inr a) :: _ => some ((64 ≤ a ∧ (h.2.1 a).1 ≠ 0) ∧ (h.2.1 a).1 < 100, .inr (.inr (.inr a, h)))
      | _ => none
    | _ => none
