/-! THE PURE MACHINE: a heap is a list of cells (a reference is a place in it), the first pm_NS are read-only -/
abbrev pmH : Type := List va_E
abbrev pmL : Type := List (Option Value)
/-- what a method ends with: an answer, or the class of what it threw -/
abbrev pmO : Type := (Option Value ⊕ Nat) × pmH
def pm_NS : Nat := 14
def pm_find : List (Nat × Nat) → Nat → Option Nat
  | [], _ => none
  | (a, b) :: l, c => bif Nat.beq a c then some b else pm_find l c
def pm_nth {α : Type} : List α → Nat → Option α
  | [], _ => none
  | a :: _, 0 => some a
  | _ :: l, n + 1 => pm_nth l n
theorem pm_nth_eq {α : Type} (l : List α) (n : Nat) : pm_nth l n = l[n]? := by
  induction l generalizing n with
  | nil => rfl
  | cons a l ih => cases n with
    | zero => rfl
    | succ n => simpa [pm_nth] using ih n
/-- a local's value -/
def pm_loc (L : pmL) (n : Nat) : Option Value := match pm_nth L n with
  | some (some v) => some v
  | _ => none
def pm_c2 (L : pmL) (n : Nat) : Bool := match pm_nth L n with
  | some (some v) => Nat.beq v.category 2
  | _ => false
/-- may a value be stored at n: there is such a local, and no two-slot value lies over it -/
def pm_ok1 (L : pmL) (n : Nat) : Bool := match n with
  | 0 => true
  | k + 1 => not (pm_c2 L k)
def pm_set {α : Type} : List α → Nat → α → List α
  | [], _, _ => []
  | _ :: l, 0, v => v :: l
  | a :: l, n + 1, v => a :: pm_set l n v
theorem pm_set_eq {α : Type} (l : List α) (n : Nat) (v : α) : pm_set l n v = l.set n v := by
  induction l generalizing n with
  | nil => rfl
  | cons a l ih => cases n with
    | zero => rfl
    | succ n => simpa [pm_set] using ih n
def pm_isR (v : Value) : Bool := match v with
  | .ref _ => true
  | .null => true
  | _ => false
/-- a switch: by its list, or the default -/
def pm_sw : List (Nat × Nat) → Nat → Int32 → Nat
  | [], d, _ => d
  | (a, t) :: l, d, x => if x = Int32.ofNat a then t else pm_sw l d x
def pm_fit (n : Nat) (v : Value) : Prop := match n, v with
  | 0, .int _ => True
  | 1, .ref _ => True
  | 1, .null => True
  | 2, .long _ => True
  | 3, .int x => x = 0 ∨ x = 1
  | _, _ => False
def pm_def (ci : Nat) : List Value := match ci with
  | 4 => [.int 0]
  | 5 => [.int 0]
  | 6 => [.null, .null, .null]
  | 7 => [.int 0, .null, .null]
  | 8 => [.int 0, .null, .null, .null]
  | 9 => [.null, .null]
  | 10 => [.null, .int 0, .null, .null]
  | 11 => [.null, .int 0, .null, .null]
  | 0 => [.null, .null, .int 0, .int 0, .int 0, .null, .null, .null, .null, .null, .null, .int 0, .int 0, .int 0, .int 0, .null, .null, .int 0, .null, .int 0, .int 0, .int 0, .null, .null, .int 0, .long 0, .null, .null, .null, .null, .null, .int 0, .null, .null, .int 0]
  | 1 => [.int 0, .null, .null, .null, .null, .null, .int 0, .int 0, .int 0, .int 0, .int 0, .int 0, .int 0, .int 0, .int 0, .null, .null, .int 0, .null, .null, .null, .null, .null, .null, .null, .null, .int 0, .int 0, .int 0, .int 0, .int 0, .int 0, .null, .null, .int 0, .int 0, .null, .null, .null, .int 0, .long 0, .null, .null, .null, .int 0, .null, .null, .int 0]
  | _ => []
abbrev pmR : Type := Option (Prop × Nat × Nat × pmL × List Value × pmH)
def pm_i2 (nx : Nat) (L : pmL) (st : List Value) (h : pmH) (f : Int32 → Int32 → Int32) : pmR := match st with
  | .int y :: .int x :: r => some (True, 0, nx, L, .int (f x y) :: r, h)
  | _ => none
def pm_i2n (nx : Nat) (L : pmL) (st : List Value) (h : pmH) (f : Int32 → Int32 → Int32) : pmR := match st with
  | .int y :: .int x :: r => some (¬ y = 0, 0, nx, L, .int (f x y) :: r, h)
  | _ => none
def pm_i1 (nx : Nat) (L : pmL) (st : List Value) (h : pmH) (f : Int32 → Value) : pmR := match st with
  | .int x :: r => some (True, 0, nx, L, f x :: r, h)
  | _ => none
def pm_l2 (nx : Nat) (L : pmL) (st : List Value) (h : pmH) (f : Int64 → Int64 → Value) : pmR := match st with
  | .long y :: .long x :: r => some (True, 0, nx, L, f x y :: r, h)
  | _ => none
def pm_l2n (nx : Nat) (L : pmL) (st : List Value) (h : pmH) (f : Int64 → Int64 → Value) : pmR := match st with
  | .long y :: .long x :: r => some (¬ y = 0, 0, nx, L, f x y :: r, h)
  | _ => none
def pm_ild1 (nx n : Nat) (L : pmL) (st : List Value) (h : pmH) : pmR := match pm_loc L n with
  | some (.int x) => some (True, 0, nx, L, .int x :: st, h)
  | _ => none
def pm_lld1 (nx n : Nat) (L : pmL) (st : List Value) (h : pmH) : pmR := match pm_loc L n with
  | some (.long x) => some (True, 0, nx, L, .long x :: st, h)
  | _ => none
def pm_ald1 (nx n : Nat) (L : pmL) (st : List Value) (h : pmH) : pmR := match pm_loc L n with
  | some (.ref a) => some (True, 0, nx, L, .ref a :: st, h)
  | some .null => some (True, 0, nx, L, .null :: st, h)
  | _ => none
def pm_ist1 (nx n : Nat) (L : pmL) (st : List Value) (h : pmH) : pmR := match st with
  | .int x :: r => bif pm_ok1 L n && Nat.blt n L.length then some (True, 0, nx, pm_set L n (some (.int x)), r, h) else none
  | _ => none
def pm_ast1 (nx n : Nat) (L : pmL) (st : List Value) (h : pmH) : pmR := match st with
  | .ref a :: r => bif pm_ok1 L n && Nat.blt n L.length then some (True, 0, nx, pm_set L n (some (.ref a)), r, h) else none
  | .null :: r => bif pm_ok1 L n && Nat.blt n L.length then some (True, 0, nx, pm_set L n (some .null), r, h) else none
  | _ => none
def pm_lst1 (nx n : Nat) (L : pmL) (st : List Value) (h : pmH) : pmR := match st with
  | .long x :: r => bif pm_ok1 L n && Nat.blt (n + 1) L.length then some (True, 0, nx, pm_set (pm_set L n (some (.long x))) (n + 1) none, r, h) else none
  | _ => none
def pm_iinc (nx n : Nat) (cv : Value) (L : pmL) (st : List Value) (h : pmH) : pmR := match pm_loc L n, cv with
  | some (.int x), .int k => bif pm_ok1 L n then some (True, 0, nx, pm_set L n (some (.int (x + k))), st, h) else none
  | _, _ => none
def pm_get (nx : Nat) (tb : List (Nat × Nat)) (L : pmL) (st : List Value) (h : pmH) : pmR := match st with
  | .ref a :: r => match pm_nth h a with
    | some (.inr (ci, fs)) => match pm_find tb ci with
      | some k => match pm_nth fs k with
        | some v => some (True, 0, nx, L, v :: r, h)
        | none => none
      | none => none
    | _ => none
  | _ => none
def pm_put (nx n : Nat) (tb : List (Nat × Nat)) (L : pmL) (st : List Value) (h : pmH) : pmR := match st with
  | v :: .ref a :: r => match pm_nth h a with
    | some (.inr (ci, fs)) => match pm_find tb ci with
      | some k => bif Nat.blt k fs.length then some (pm_fit n v, 0, nx, L, r, pm_set h a (.inr (ci, pm_set fs k v))) else none
      | none => none
    | _ => none
  | _ => none
/-- array kinds: 0 int, 1 byte, 2 long, 3 Clause; read-only: 4 int (the script), 5 byte (a text's) -/
def pm_ild (nx : Nat) (k1 k2 : Nat) (L : pmL) (st : List Value) (h : pmH) : pmR := match st with
  | .int i :: .ref a :: r => match pm_nth h a with
    | some (.inl (kd, n, .inl f)) => bif Nat.beq kd k1 || (Nat.beq kd k2 && Nat.blt a 14) then some (vp_in i n, 0, nx, L, .int (f i.toNatClampNeg) :: r, h) else none
    | _ => none
  | _ => none
def pm_lld (nx : Nat) (L : pmL) (st : List Value) (h : pmH) : pmR := match st with
  | .int i :: .ref a :: r => match pm_nth h a with
    | some (.inl (2, n, .inr (.inl f))) => some (vp_in i n, 0, nx, L, .long (f i.toNatClampNeg) :: r, h)
    | _ => none
  | _ => none
def pm_ald (nx : Nat) (L : pmL) (st : List Value) (h : pmH) : pmR := match st with
  | .int i :: .ref a :: r => match pm_nth h a with
    | some (.inl (3, n, .inr (.inr (.inr (.inr f))))) => some (vp_in i n, 0, nx, L, va_rf (f i.toNatClampNeg) :: r, h)
    | _ => none
  | _ => none
def pm_ist (nx : Nat) (L : pmL) (st : List Value) (h : pmH) : pmR := match st with
  | .int x :: .int i :: .ref a :: r => match pm_nth h a with
    | some (.inl (0, n, .inl f)) => some (vp_in i n, 0, nx, L, r, pm_set h a (.inl (0, n, .inl (upd f i.toNatClampNeg x))))
    | _ => none
  | _ => none
def pm_bst (nx : Nat) (L : pmL) (st : List Value) (h : pmH) : pmR := match st with
  | .int x :: .int i :: .ref a :: r => match pm_nth h a with
    | some (.inl (1, n, .inl f)) => some (vp_in i n, 0, nx, L, r, pm_set h a (.inl (1, n, .inl (upd f i.toNatClampNeg (vp_nar .byte x)))))
    | _ => none
  | _ => none
def pm_lst (nx : Nat) (L : pmL) (st : List Value) (h : pmH) : pmR := match st with
  | .long x :: .int i :: .ref a :: r => match pm_nth h a with
    | some (.inl (2, n, .inr (.inl f))) => some (vp_in i n, 0, nx, L, r, pm_set h a (.inl (2, n, .inr (.inl (vp_updL f i.toNatClampNeg x)))))
    | _ => none
  | _ => none
def pm_ast (nx : Nat) (L : pmL) (st : List Value) (h : pmH) : pmR := match st with
  | .ref q :: .int i :: .ref a :: r => match pm_nth h a, pm_nth h q with
    | some (.inl (3, n, .inr (.inr (.inr (.inr f))))), some (.inr (8, _)) => some (vp_in i n, 0, nx, L, r, pm_set h a (.inl (3, n, .inr (.inr (.inr (.inr (va_up f i.toNatClampNeg (some q))))))))
    | _, _ => none
  | _ => none
def pm_len (nx : Nat) (L : pmL) (st : List Value) (h : pmH) : pmR := match st with
  | .ref a :: r => match pm_nth h a with
    | some (.inl (kd, n, _)) => bif Nat.blt kd 4 || (Nat.blt kd 6 && Nat.blt a 14) then some (True, 0, nx, L, .int (Int32.ofNat n) :: r, h) else none
    | _ => none
  | _ => none
def pm_rest (r : List Value) : Bool := match r with
  | [] => true
  | _ => Nat.ble ((r.map fun v => v.category).sum) 8
def pm_new (nx : Nat) (tb : List (Nat × Nat)) (L : pmL) (st : List Value) (h : pmH) : pmR := match tb with
  | [(ci, N)] => bif pm_rest st then some (True, N + 1, nx, L, .ref h.length :: st, h ++ [.inr (ci, pm_def ci)]) else none
  | _ => none
def pm_newa (nx : Nat) (tb : List (Nat × Nat)) (L : pmL) (st : List Value) (h : pmH) : pmR := match tb, st with
  | [(0, _)], .int n :: r => some (¬ n < 0 ∧ n.toNatClampNeg ≤ 100000, n.toNatClampNeg + 1, nx, L, .ref h.length :: r, h ++ [.inl (0, n.toNatClampNeg, .inl (fun _ => 0))])
  | [(1, _)], .int n :: r => some (¬ n < 0 ∧ n.toNatClampNeg ≤ 100000, n.toNatClampNeg + 1, nx, L, .ref h.length :: r, h ++ [.inl (1, n.toNatClampNeg, .inl (fun _ => 0))])
  | [(2, _)], .int n :: r => some (¬ n < 0 ∧ n.toNatClampNeg ≤ 100000, n.toNatClampNeg + 1, nx, L, .ref h.length :: r, h ++ [.inl (2, n.toNatClampNeg, .inr (.inl (fun _ => 0)))])
  | [(3, _)], .int n :: r => some (¬ n < 0 ∧ n.toNatClampNeg ≤ 100000, n.toNatClampNeg + 1, nx, L, .ref h.length :: r, h ++ [.inl (3, n.toNatClampNeg, .inr (.inr (.inr (.inr (fun _ => none)))))])
  | _, _ => none
def pm_dup (nx : Nat) (L : pmL) (st : List Value) (h : pmH) : pmR := match st with
  | v :: r => bif Nat.beq v.category 1 then some (True, 0, nx, L, v :: v :: r, h) else none
  | _ => none
def pm_pop (nx : Nat) (L : pmL) (st : List Value) (h : pmH) : pmR := match st with
  | v :: r => bif Nat.beq v.category 1 then some (True, 0, nx, L, r, h) else none
  | _ => none
def pm_dup2 (nx : Nat) (L : pmL) (st : List Value) (h : pmH) : pmR := match st with
  | v :: r => bif Nat.beq v.category 2 then some (True, 0, nx, L, v :: v :: r, h) else match r with
    | w :: r => bif Nat.beq v.category 1 && Nat.beq w.category 1 then some (True, 0, nx, L, v :: w :: v :: w :: r, h) else none
    | _ => none
  | _ => none
def pm_dupx (nx : Nat) (L : pmL) (st : List Value) (h : pmH) : pmR := match st with
  | v :: w :: r => bif Nat.beq v.category 1 && Nat.beq w.category 1 then some (True, 0, nx, L, v :: w :: v :: r, h) else none
  | _ => none
def pm_nul (nx n : Nat) (isN : Bool) (L : pmL) (st : List Value) (h : pmH) : pmR := match st with
  | .null :: r => some (True, 0, bif isN then n else nx, L, r, h)
  | .ref a :: r => match a with
    | 0 => none
    | _ + 1 => some (True, 0, bif isN then nx else n, L, r, h)
  | _ => none
/-- what the JDK does in one go: Math.max, min; Object.<init> -/
def pm_jdk (nx : Nat) (tb : List (Nat × Nat)) (L : pmL) (st : List Value) (h : pmH) : pmR := match tb with
  | [(_, j)] => bif Nat.blt j 1000 then none else match st with
    | .int y :: .int x :: r => bif pm_rest r then bif Nat.beq j 1000 then some (True, 0, nx, L, .int (if x < y then y else x) :: r, h) else bif Nat.beq j 1001 then some (True, 0, nx, L, .int (if y < x then y else x) :: r, h) else none else none
    | .long y :: .long x :: r => bif pm_rest r then bif Nat.beq j 1002 then some (True, 0, nx, L, .long (if y < x then x else y) :: r, h) else bif Nat.beq j 1003 then some (True, 0, nx, L, .long (if y < x then y else x) :: r, h) else none else none
    | .ref a :: r => bif Nat.beq j 1010 && Nat.ble 1 a && pm_rest r then some (True, 0, nx, L, r, h) else none
    | _ => none
  | _ => none
def pm_stepE (e : pmEnt) (L : pmL) (st : List Value) (h : pmH) : pmR := match e with
  | (ins, _, nx, cv, n, tb) => match ins with
    | .iconst _ => some (True, 0, nx, L, cv :: st, h)
    | .bipush _ => some (True, 0, nx, L, cv :: st, h)
    | .sipush _ => some (True, 0, nx, L, cv :: st, h)
    | .lconst _ => some (True, 0, nx, L, cv :: st, h)
    | .ldc _ => some (True, 0, nx, L, cv :: st, h)
    | .ldc_w _ => some (True, 0, nx, L, cv :: st, h)
    | .ldc2_w _ => some (True, 0, nx, L, cv :: st, h)
    | .aconst_null => some (True, 0, nx, L, .null :: st, h)
    | .getstatic _ => bif Nat.beq n 0 then none else some (True, 0, nx, L, cv :: st, h)
    | .iload_n _ => pm_ild1 nx n L st h
    | .iload _ => pm_ild1 nx n L st h
    | .lload_n _ => pm_lld1 nx n L st h
    | .lload _ => pm_lld1 nx n L st h
    | .aload_n _ => pm_ald1 nx n L st h
    | .aload _ => pm_ald1 nx n L st h
    | .istore_n _ => pm_ist1 nx n L st h
    | .istore _ => pm_ist1 nx n L st h
    | .astore_n _ => pm_ast1 nx n L st h
    | .astore _ => pm_ast1 nx n L st h
    | .lstore_n _ => pm_lst1 nx n L st h
    | .lstore _ => pm_lst1 nx n L st h
    | .iinc _ _ => pm_iinc nx n cv L st h
    | .iadd => pm_i2 nx L st h (fun x y => x + y)
    | .isub => pm_i2 nx L st h (fun x y => x - y)
    | .imul => pm_i2 nx L st h (fun x y => x * y)
    | .iand => pm_i2 nx L st h (fun x y => x &&& y)
    | .ior => pm_i2 nx L st h (fun x y => x ||| y)
    | .ixor => pm_i2 nx L st h (fun x y => x ^^^ y)
    | .idiv => pm_i2n nx L st h (fun x y => x / y)
    | .irem => pm_i2n nx L st h (fun x y => x - x / y * y)
    | .ishl => pm_i2 nx L st h (fun x y => x <<< (y &&& 31))
    | .ishr => pm_i2 nx L st h (fun x y => x >>> (y &&& 31))
    | .iushr => pm_i2 nx L st h (fun x y => (x.toUInt32 >>> (y.toUInt32 &&& Int32.toUInt32 31)).toInt32)
    | .ineg => pm_i1 nx L st h (fun x => .int (-x))
    | .i2l => pm_i1 nx L st h (fun x => .long x.toInt64)
    | .i2b => pm_i1 nx L st h (fun x => .int x.toInt8.toInt32)
    | .i2c => pm_i1 nx L st h (fun x => .int (x.toUInt32 % 65536).toInt32)
    | .l2i => match st with
      | .long x :: r => some (True, 0, nx, L, .int x.toInt32 :: r, h)
      | _ => none
    | .lushr => match st with
      | .int y :: .long x :: r => some (True, 0, nx, L, .long (x.toUInt64 >>> (y.toInt64.toUInt64 &&& Int64.toUInt64 63)).toInt64 :: r, h)
      | _ => none
    | .lshl => match st with
      | .int y :: .long x :: r => some (True, 0, nx, L, .long (x <<< (y.toInt64 &&& 63)) :: r, h)
      | _ => none
    | .ladd => pm_l2 nx L st h (fun x y => .long (x + y))
    | .lsub => pm_l2 nx L st h (fun x y => .long (x - y))
    | .lmul => pm_l2 nx L st h (fun x y => .long (x * y))
    | .land => pm_l2 nx L st h (fun x y => .long (x &&& y))
    | .lor => pm_l2 nx L st h (fun x y => .long (x ||| y))
    | .ldiv => pm_l2n nx L st h (fun x y => .long (x / y))
    | .lrem => pm_l2n nx L st h (fun x y => .long (x - x / y * y))
    | .lcmp => pm_l2 nx L st h (fun x y => .int (lg_cmp x y))
    | .dup => pm_dup nx L st h
    | .pop => pm_pop nx L st h
    | .dup2 => pm_dup2 nx L st h
    | .dup_x1 => pm_dupx nx L st h
    | .goto _ => some (True, 0, n, L, st, h)
    | .tableswitch _ _ _ _ => match st with
      | .int x :: r => some (True, 0, pm_sw tb n x, L, r, h)
      | _ => none
    | .lookupswitch _ _ => match st with
      | .int x :: r => some (True, 0, pm_sw tb n x, L, r, h)
      | _ => none
    | .ifnull _ => pm_nul nx n true L st h
    | .ifnonnull _ => pm_nul nx n false L st h
    | .getfield _ => pm_get nx tb L st h
    | .putfield _ => pm_put nx n tb L st h
    | .iaload => pm_ild nx 0 4 L st h
    | .baload => pm_ild nx 1 5 L st h
    | .laload => pm_lld nx L st h
    | .aaload => pm_ald nx L st h
    | .iastore => pm_ist nx L st h
    | .bastore => pm_bst nx L st h
    | .lastore => pm_lst nx L st h
    | .aastore => pm_ast nx L st h
    | .arraylength => pm_len nx L st h
    | .new _ => pm_new nx tb L st h
    | .newarray _ => pm_newa nx tb L st h
    | .anewarray _ => pm_newa nx tb L st h
    | .invokestatic _ => pm_jdk nx tb L st h
    | .invokespecial _ => pm_jdk nx tb L st h
    | _ => none
def pm_step (mi pc : Nat) (L : pmL) (st : List Value) (h : pmH) : pmR := match pm_code mi pc with
  | some e => pm_stepE e L st h
  | none => none
def pm_brE (e : pmEnt) (st : List Value) : Option (Prop × Nat × Nat × List Value) := match e with
  | (ins, _, nx, _, n, _) => match ins with
    | .ifCond c _ => match st with
      | .int x :: r => match c with
        | .eq => some (x = 0, n, nx, r)
        | .ne => some (¬ x = 0, n, nx, r)
        | .lt => some (x < 0, n, nx, r)
        | .ge => some (0 ≤ x, n, nx, r)
        | .gt => some (0 < x, n, nx, r)
        | .le => some (x ≤ 0, n, nx, r)
      | _ => none
    | .if_icmp c _ => match st with
      | .int y :: .int x :: r => match c with
        | .eq => some (x = y, n, nx, r)
        | .ne => some (¬ x = y, n, nx, r)
        | .lt => some (x < y, n, nx, r)
        | .ge => some (y ≤ x, n, nx, r)
        | .gt => some (y < x, n, nx, r)
        | .le => some (x ≤ y, n, nx, r)
      | _ => none
    | _ => none
def pm_br (mi pc : Nat) (st : List Value) : Option (Prop × Nat × Nat × List Value) := match pm_code mi pc with
  | some e => pm_brE e st
  | none => none
def pm_fin (mi pc : Nat) (st : List Value) : Option (Prop × Option Value) := match pm_code mi pc with
  | some (ins, _) => match ins, st with
    | .ireturn, [.int x] => match (pm_info mi).2.2.2.1 with
      | some ty => some (narrow ty (.int x) = .int x, some (.int x))
      | none => none
    | .lreturn, [.long x] => match (pm_info mi).2.2.2.1 with
      | some .long => some (True, some (.long x))
      | _ => none
    | .areturn, [.ref a] => match (pm_info mi).2.2.2.1 with
      | some (.object _) => some (True, some (.ref a))
      | _ => none
    | .areturn, [.null] => match (pm_info mi).2.2.2.1 with
      | some (.object _) => some (True, some .null)
      | _ => none
    | .return_, [] => match (pm_info mi).2.2.2.1 with
      | none => some (True, none)
      | _ => none
    | _, _ => none
  | none => none
/-- the class that a method's handlers catch -/
def pm_hci (mi : Nat) : Nat := bif Nat.beq mi 1 then 3 else 2
def pm_hnd : List (Nat × Nat × Nat × Nat) → Nat → Option Nat
  | [], _ => none
  | (a, b, t, _) :: l, pc => bif Nat.ble a pc && Nat.blt pc b then some t else pm_hnd l pc
def pm_thr (mi pc : Nat) (st : List Value) (h : pmH) : Option Nat := match pm_code mi pc with
  | some (ins, _) => match ins, st with
    | .athrow, .ref a :: _ => match pm_nth h a with
      | some (.inr (ci, _)) => bif Nat.beq ci 2 || Nat.beq ci 3 then some ci else none
      | _ => none
    | _, _ => none
  | none => none
def pm_lay : List Value → pmL
  | [] => []
  | v :: l => bif Nat.beq v.category 2 then some v :: none :: pm_lay l else some v :: pm_lay l
def pm_pad : pmL → Nat → pmL
  | l, 0 => l
  | [], n + 1 => none :: pm_pad [] n
  | a :: l, n + 1 => a :: pm_pad l n
def pm_entry (mi : Nat) (args : List Value) : pmL := pm_pad (pm_lay args) (pm_info mi).2.2.1
/-- the call is one that the machine can make: enough on the stack, little below, the arguments fit -/
def pm_can (y n : Nat) (st : List Value) : Bool := Nat.blt y 1000 && (Nat.ble n st.length && (pm_rest (st.drop n) && Nat.ble (pm_lay (st.take n).reverse).length (pm_info y).2.2.1))
def pm_callE (e : pmEnt) (st : List Value) (h : pmH) : Option (Nat × Nat × List Value × List Value) := match e with
  | (ins, _, nx, _, n, tb) => match ins with
    | .invokestatic _ => match tb with
      | [(_, y)] => bif pm_can y n st then some (y, nx, (st.take n).reverse, st.drop n) else none
      | _ => none
    | .invokespecial _ => match tb with
      | [(_, y)] => match (st.take n).reverse with
        | .ref a :: _ => bif Nat.ble 1 a && pm_can y n st then some (y, nx, (st.take n).reverse, st.drop n) else none
        | _ => none
      | _ => none
    | .invokevirtual _ => match (st.take n).reverse with
      | .ref a :: _ => match pm_nth h a with
        | some (.inr (ci, _)) => match pm_find tb ci with
          | some y => bif pm_can y n st then some (y, nx, (st.take n).reverse, st.drop n) else none
          | none => none
        | _ => none
      | _ => none
    | _ => none
def pm_call (mi pc : Nat) (st : List Value) (h : pmH) : Option (Nat × Nat × List Value × List Value) := match pm_code mi pc with
  | some e => pm_callE e st h
  | none => none
abbrev pmS : Type := Nat → Nat → Nat → Nat → pmL → List Value → pmH → (pmO → Prop) → Prop
/-- a handler's first row: it stores what was caught, that nobody reads -/
def pm_hst (mi t : Nat) (L : pmL) : Option (Nat × Nat) := match pm_code mi t with
  | some (ins, _, nx, _, n, _) => match ins with
    | .astore_n _ => bif pm_ok1 L n && Nat.blt n L.length then some (nx, n) else none
    | .astore _ => bif pm_ok1 L n && Nat.blt n L.length then some (nx, n) else none
    | _ => none
  | none => none
def pm_X (S : pmS) (d u mi pc : Nat) (L : pmL) (h : pmH) (Q : pmO → Prop) (ci : Nat) : Prop := match pm_hnd (pm_info mi).2.2.2.2.1 pc with
  | some t => ci = pm_hci mi ∧ ∃ nx n, pm_hst mi t L = some (nx, n) ∧ S d u mi nx (pm_set L n none) [] h Q
  | none => Q (.inr ci, h)
def pm_F (S : pmS) (d u mi pc : Nat) (L : pmL) (st : List Value) (h : pmH) (Q : pmO → Prop) : Prop :=
  (∃ P k pc' L' st' h', pm_step mi pc L st h = some (P, k, pc', L', st', h') ∧ P ∧ k ≤ u ∧ S d (u - k) mi pc' L' st' h' Q) ∨
  (∃ C t f r, pm_br mi pc st = some (C, t, f, r) ∧ (C → S d u mi t L r h Q) ∧ (¬ C → S d u mi f L r h Q)) ∨
  (∃ P v, pm_fin mi pc st = some (P, v) ∧ P ∧ Q (.inl v, h)) ∨
  (∃ ci, pm_thr mi pc st h = some ci ∧ pm_X S d u mi pc L h Q ci) ∨
  (∃ y nx args r d' u1 Q1, d = d' + 1 ∧ u1 ≤ u ∧ pm_call mi pc st h = some (y, nx, args, r) ∧ S d' u1 y 0 (pm_entry y args) [] h Q1 ∧
    (∀ v h', Q1 (.inl v, h') → S d (u - u1) mi nx L (v.toList ++ r) h' Q) ∧ (∀ ci h', Q1 (.inr ci, h') → pm_X S d (u - u1) mi pc L h' Q ci))
/-- from this place of the method the machine ends with Q, in d frames more, making u cells and slots at the most -/
def Wp (d u mi pc : Nat) (L : pmL) (st : List Value) (h : pmH) (Q : pmO → Prop) : Prop :=
  ∀ S : pmS, (∀ d u mi pc L st h Q, pm_F S d u mi pc L st h Q → S d u mi pc L st h Q) → S d u mi pc L st h Q
theorem pm_X.mono {S S' : pmS} {d u d' u' mi pc : Nat} {L : pmL} {h : pmH} {Q Q' : pmO → Prop} {ci : Nat} (hS : ∀ pc L st h, S d u mi pc L st h Q → S' d' u' mi pc L st h Q') (hQ : ∀ o, Q o → Q' o) (hx : pm_X S d u mi pc L h Q ci) : pm_X S' d' u' mi pc L h Q' ci := by
  unfold pm_X at hx ⊢
  split at hx
  · obtain ⟨h1, nx, n, h2, h3⟩ := hx
    exact ⟨h1, nx, n, h2, hS _ _ _ _ h3⟩
  · exact hQ _ hx
theorem pm_F.mono {S S' : pmS} (hS : ∀ d u mi pc L st h Q, S d u mi pc L st h Q → S' d u mi pc L st h Q) {d u mi pc : Nat} {L : pmL} {st : List Value} {h : pmH} {Q : pmO → Prop} (hF : pm_F S d u mi pc L st h Q) : pm_F S' d u mi pc L st h Q := by
  rcases hF with ⟨P, k, pc', L', st', h', h1, h2, h3, h4⟩ | ⟨C, t, f, r, h1, h2, h3⟩ | ⟨P, v, h1, h2, h3⟩ | ⟨ci, h1, h2⟩ | ⟨y, nx, args, r, d', u1, Q1, h1, h2, h3, h4, h5, h6⟩
  · exact Or.inl ⟨P, k, pc', L', st', h', h1, h2, h3, hS _ _ _ _ _ _ _ _ h4⟩
  · exact Or.inr (Or.inl ⟨C, t, f, r, h1, fun c => hS _ _ _ _ _ _ _ _ (h2 c), fun c => hS _ _ _ _ _ _ _ _ (h3 c)⟩)
  · exact Or.inr (Or.inr (Or.inl ⟨P, v, h1, h2, h3⟩))
  · exact Or.inr (Or.inr (Or.inr (Or.inl ⟨ci, h1, h2.mono (fun _ _ _ _ => hS _ _ _ _ _ _ _ _) (fun _ q => q)⟩)))
  · exact Or.inr (Or.inr (Or.inr (Or.inr ⟨y, nx, args, r, d', u1, Q1, h1, h2, h3, hS _ _ _ _ _ _ _ _ h4, fun v h' q => hS _ _ _ _ _ _ _ _ (h5 v h' q), fun ci h' q => (h6 ci h' q).mono (fun _ _ _ _ => hS _ _ _ _ _ _ _ _) (fun _ q => q)⟩)))
theorem Wp.fold {d u mi pc : Nat} {L : pmL} {st : List Value} {h : pmH} {Q : pmO → Prop} (hF : pm_F Wp d u mi pc L st h Q) : Wp d u mi pc L st h Q := fun S hS => hS _ _ _ _ _ _ _ _ (hF.mono fun _ _ _ _ _ _ _ _ w => w S hS)
/-- induction: a predicate closed under the rules holds where Wp does -/
theorem Wp.ind {S : pmS} (hS : ∀ d u mi pc L st h Q, pm_F S d u mi pc L st h Q → S d u mi pc L st h Q) {d u mi pc : Nat} {L : pmL} {st : List Value} {h : pmH} {Q : pmO → Prop} (w : Wp d u mi pc L st h Q) : S d u mi pc L st h Q := w S hS
theorem Wp.step {d u mi pc pc' : Nat} {L L' : pmL} {st st' : List Value} {h h' : pmH} {Q : pmO → Prop} (e : pm_step mi pc L st h = some (True, 0, pc', L', st', h')) (k : Wp d u mi pc' L' st' h' Q) : Wp d u mi pc L st h Q :=
  Wp.fold (Or.inl ⟨_, _, _, _, _, _, e, trivial, Nat.zero_le _, k⟩)
theorem Wp.stepP {d u mi pc pc' : Nat} {P : Prop} {L L' : pmL} {st st' : List Value} {h h' : pmH} {Q : pmO → Prop} (e : pm_step mi pc L st h = some (P, 0, pc', L', st', h')) (hP : P) (k : Wp d u mi pc' L' st' h' Q) : Wp d u mi pc L st h Q :=
  Wp.fold (Or.inl ⟨_, _, _, _, _, _, e, hP, Nat.zero_le _, k⟩)
theorem Wp.stepK {d u mi pc pc' n : Nat} {P : Prop} {L L' : pmL} {st st' : List Value} {h h' : pmH} {Q : pmO → Prop} (e : pm_step mi pc L st h = some (P, n, pc', L', st', h')) (hP : P) (hn : n ≤ u) (k : Wp d (u - n) mi pc' L' st' h' Q) : Wp d u mi pc L st h Q :=
  Wp.fold (Or.inl ⟨_, _, _, _, _, _, e, hP, hn, k⟩)
theorem Wp.br {d u mi pc t f : Nat} {C : Prop} {L : pmL} {st r : List Value} {h : pmH} {Q : pmO → Prop} (e : pm_br mi pc st = some (C, t, f, r)) (kt : C → Wp d u mi t L r h Q) (kf : ¬ C → Wp d u mi f L r h Q) : Wp d u mi pc L st h Q :=
  Wp.fold (Or.inr (Or.inl ⟨_, _, _, _, e, kt, kf⟩))
theorem Wp.brT {d u mi pc t f : Nat} {C : Prop} {L : pmL} {st r : List Value} {h : pmH} {Q : pmO → Prop} (e : pm_br mi pc st = some (C, t, f, r)) (hC : C) (kt : Wp d u mi t L r h Q) : Wp d u mi pc L st h Q := Wp.br e (fun _ => kt) (fun n => absurd hC n)
theorem Wp.brF {d u mi pc t f : Nat} {C : Prop} {L : pmL} {st r : List Value} {h : pmH} {Q : pmO → Prop} (e : pm_br mi pc st = some (C, t, f, r)) (hC : ¬ C) (kf : Wp d u mi f L r h Q) : Wp d u mi pc L st h Q := Wp.br e (fun n => absurd n hC) (fun _ => kf)
theorem Wp.fin {d u mi pc : Nat} {P : Prop} {v : Option Value} {L : pmL} {st : List Value} {h : pmH} {Q : pmO → Prop} (e : pm_fin mi pc st = some (P, v)) (hP : P) (q : Q (.inl v, h)) : Wp d u mi pc L st h Q :=
  Wp.fold (Or.inr (Or.inr (Or.inl ⟨_, _, e, hP, q⟩)))
theorem Wp.thr {d u mi pc ci : Nat} {L : pmL} {st : List Value} {h : pmH} {Q : pmO → Prop} (e : pm_thr mi pc st h = some ci) (x : pm_X Wp d u mi pc L h Q ci) : Wp d u mi pc L st h Q :=
  Wp.fold (Or.inr (Or.inr (Or.inr (Or.inl ⟨_, e, x⟩))))
theorem Wp.callX {d u mi pc y nx u1 : Nat} {L : pmL} {st args r : List Value} {h : pmH} {Q Q1 : pmO → Prop} (e : pm_call mi pc st h = some (y, nx, args, r)) (hu : u1 ≤ u) (w : Wp d u1 y 0 (pm_entry y args) [] h Q1)
    (k : ∀ v h', Q1 (.inl v, h') → Wp (d + 1) (u - u1) mi nx L (v.toList ++ r) h' Q) (x : ∀ ci h', Q1 (.inr ci, h') → pm_X Wp (d + 1) (u - u1) mi pc L h' Q ci) : Wp (d + 1) u mi pc L st h Q :=
  Wp.fold (Or.inr (Or.inr (Or.inr (Or.inr ⟨_, _, _, _, _, _, _, rfl, hu, e, w, k, x⟩))))
theorem Wp.conseq {d u mi pc : Nat} {L : pmL} {st : List Value} {h : pmH} {Q Q' : pmO → Prop} (w : Wp d u mi pc L st h Q) (hQ : ∀ o, Q o → Q' o) : Wp d u mi pc L st h Q' := by
  refine Wp.ind (S := fun d u mi pc L st h Q => ∀ Q', (∀ o, Q o → Q' o) → Wp d u mi pc L st h Q') ?_ w Q' hQ
  intro d u mi pc L st h Q hF Q' hQ
  rcases hF with ⟨P, k, pc', L', st', h', h1, h2, h3, h4⟩ | ⟨C, t, f, r, h1, h2, h3⟩ | ⟨P, v, h1, h2, h3⟩ | ⟨ci, h1, h2⟩ | ⟨y, nx, args, r, d', u1, Q1, h1, h2, h3, h4, h5, h6⟩
  · exact Wp.stepK h1 h2 h3 (h4 _ hQ)
  · exact Wp.br h1 (fun c => h2 c _ hQ) (fun c => h3 c _ hQ)
  · exact Wp.fin h1 h2 (hQ _ h3)
  · exact Wp.thr h1 (h2.mono (fun _ _ _ _ k => k _ hQ) hQ)
  · subst h1
    exact Wp.callX h3 h2 (h4 _ (fun _ q => q)) (fun v h' q => h5 v h' q _ hQ) (fun ci h' q => (h6 ci h' q).mono (fun _ _ _ _ k => k _ hQ) hQ)
theorem Wp.mono {d u mi pc : Nat} {L : pmL} {st : List Value} {h : pmH} {Q : pmO → Prop} (w : Wp d u mi pc L st h Q) {d2 u2 : Nat} (hd : d ≤ d2) (hu : u ≤ u2) : Wp d2 u2 mi pc L st h Q := by
  refine Wp.ind (S := fun d u mi pc L st h Q => ∀ d2 u2, d ≤ d2 → u ≤ u2 → Wp d2 u2 mi pc L st h Q) ?_ w d2 u2 hd hu
  intro d u mi pc L st h Q hF d2 u2 hd hu
  rcases hF with ⟨P, k, pc', L', st', h', h1, h2, h3, h4⟩ | ⟨C, t, f, r, h1, h2, h3⟩ | ⟨P, v, h1, h2, h3⟩ | ⟨ci, h1, h2⟩ | ⟨y, nx, args, r, d', u1, Q1, h1, h2, h3, h4, h5, h6⟩
  · exact Wp.stepK h1 h2 (by omega) (h4 _ _ hd (by omega))
  · exact Wp.br h1 (fun c => h2 c _ _ hd hu) (fun c => h3 c _ _ hd hu)
  · exact Wp.fin h1 h2 h3
  · exact Wp.thr h1 (h2.mono (fun _ _ _ _ k => k _ _ hd hu) (fun _ q => q))
  · subst h1
    obtain ⟨d3, rfl⟩ : ∃ d3, d2 = d3 + 1 := ⟨d2 - 1, by omega⟩
    exact Wp.callX (u1 := u1) h3 (by omega) (h4 _ _ (by omega) (Nat.le_refl _)) (fun v h' q => h5 v h' q _ _ hd (by omega)) (fun ci h' q => (h6 ci h' q).mono (fun _ _ _ _ k => k _ _ hd (by omega)) (fun _ q => q))
/-- a call of a method that answers (throws nothing) -/
theorem Wp.call {d u mi pc y nx u1 : Nat} {L : pmL} {st args r : List Value} {h : pmH} {Q : pmO → Prop} (e : pm_call mi pc st h = some (y, nx, args, r)) (hu : u1 ≤ u) (w : Wp d u1 y 0 (pm_entry y args) [] h (fun o => ∃ v h', o = (.inl v, h') ∧ Wp (d + 1) (u - u1) mi nx L (v.toList ++ r) h' Q)) : Wp (d + 1) u mi pc L st h Q := by
  refine Wp.callX e hu w (fun v h' q => ?_) (fun ci h' q => ?_)
  · obtain ⟨v2, h2, e1, k⟩ := q
    cases e1
    exact k
  · obtain ⟨v2, h2, e1, k⟩ := q
    cases e1
