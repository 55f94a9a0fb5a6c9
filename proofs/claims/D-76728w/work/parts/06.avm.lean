/-! ===== AVM: an abstract machine for the claim's bytecode. Heaps: (size, slots used, cells). A cell: an object (class number, fields) or an array (type number, length, contents). Classes from 100 on: the lambdas' (100 + the site's number). Addresses below av_K: cells that were there at the start (strings, static arrays, the lambdas that capture nothing, the script). ===== -/
abbrev av_C : Type := Sum (Nat × (Nat → Value)) (Nat × Nat × (Nat → Value))
abbrev av_H : Type := Nat × Nat × (Nat → Option av_C)
abbrev av_L : Type := List (Nat × Value)
/-- how a method ended: returned, or threw -/
abbrev av_R : Type := Sum (Option Value) Nat
def av_set (A : av_H) (a : Nat) (c : av_C) : av_H := (A.1, A.2.1, fun b => if b = a then some c else A.2.2 b)
def av_new (A : av_H) (n : Nat) (c : av_C) : av_H := (A.1 + 1, A.2.1 + n, fun b => if b = A.1 then some c else A.2.2 b)
def av_lget : av_L → Nat → Option Value
  | [], _ => none
  | (j, v) :: t, i => if j = i then some v else av_lget t i
def av_lup : av_L → Nat → Value → av_L
  | [], i, v => [(i, v)]
  | (j, w) :: t, i, v => if j = i then (i, v) :: t else (j, w) :: av_lup t i v
/-- a long behind its second half's place is gone -/
def av_kill (L : av_L) (j : Nat) : av_L := match av_lget L j with
  | some v => if v.category = 2 then L.filter (fun q => !(q.1 == j)) else L
  | none => L
def av_lset1 (L : av_L) (i : Nat) (v : Value) : av_L := av_lup (match i with | 0 => L | j + 1 => av_kill L j) i v
def av_lset2 (L : av_L) (i : Nat) (v : Value) : av_L := av_lup ((match i with | 0 => L | j + 1 => av_kill L j).filter (fun q => !(q.1 == i + 1))) i v
/-- pops n values: the lowest first, and the rest -/
def av_pop : Nat → List Value → List Value → Option (List Value × List Value)
  | 0, S, acc => some (acc, S)
  | n + 1, v :: S, acc => av_pop n S (v :: acc)
  | _ + 1, [], _ => none
def av_jmp {α : Type} (bad : α) (go : Nat → av_L → List Value → av_H → α) (pc : Nat) (off : Int) (L : av_L) (S : List Value) (A : av_H) : α :=
  if 0 ≤ (pc : Int) + off then go ((pc : Int) + off).toNat L S A else bad
/-- may a variable of this type (1 int, 2 boolean, 3 byte, 4 char, 5 long, 6 reference) hold the value as it is? -/
def av_ok : Nat → Value → Bool
  | 1, .int _ => true
  | 2, .int v => v == 0 || v == 1
  | 3, .int v => v.toInt8.toInt32 == v
  | 4, .int v => (v.toUInt32 % 65536).toInt32 == v
  | 5, .long _ => true
  | 6, .null => true
  | 6, .ref _ => true
  | _, _ => false
/-- a lambda's arguments: of the kinds that its interface's method takes; where the made method casts the first one: of that class -/
def av_lq (j : Nat) (w : Value) (as : List Value) (A : av_H) : Bool := (!av_lr j || match w with | .ref b => (match A.2.2 b with | some (.inl _) => true | _ => false) | _ => false) && as.length == (av_la j).length && (List.zipWith av_ok (av_la j) as).all id && match av_lk j with
  | none => true
  | some k => match as with
    | .ref a :: _ => match A.2.2 a with
      | some (.inl o) => o.1 == k
      | _ => false
    | _ => false
def av_dflt (k i : Nat) : Value := match av_ft k i with
  | 6 => .null
  | 5 => .long 0
  | _ => .int 0
/-- the class of a cell as checkcast and instanceof ask for it: a new array of type t: 200 + t -/
def av_kind (a : Nat) (c : av_C) : Nat := match c with
  | .inl o => o.1
  | .inr r => if av_K ≤ a then 200 + r.1 else 999
/-- is the index in the array? -/
def av_in (i : Int32) (n : Nat) : Bool := !(decide (i < 0)) && decide (i.toNatClampNeg < n)
def av_cond : Jvm.ClassFile.Cond → Int32 → Int32 → Bool
  | .eq, a, b => a == b
  | .ne, a, b => !(a == b)
  | .lt, a, b => decide (a < b)
  | .ge, a, b => decide (b ≤ a)
  | .gt, a, b => decide (b < a)
  | .le, a, b => decide (a ≤ b)
/-- contents behind System.arraycopy -/
def av_cpy (f g : Nat → Value) (sp dp n : Nat) : Nat → Value := fun k => if dp ≤ k ∧ k < dp + n then f (sp + (k - dp)) else g k
/-- may this value lie in an array of type t? -/
def av_elt (t : Nat) (A : av_H) (v : Value) : Bool := if t < 10 then av_ok (if t = 0 then 1 else 3) v else match v with
  | .null => true
  | .ref a => (match A.2.2 a with | some c => av_asg t (av_kind a c) | none => false)
  | _ => false
/-- one instruction. bad: nothing is said; go: on at a pc; ret: returned; thr: thrown; call: a method's number, its arguments, what follows what it returned -/
def av_step {α : Type} (bad : α) (go : Nat → av_L → List Value → av_H → α) (ret : Option Value → av_H → α) (thr : Nat → av_H → α) (call : Nat → List Value → av_H → (Option Value → av_H → α) → α)
    (y pc : Nat) (L : av_L) (S : List Value) (A : av_H) (ins : Instr) : α :=
  match ins with
  | .aconst_null => go (pc + 1) L (.null :: S) A
  | .iconst n => go (pc + 1) L (.int (Int32.ofInt n) :: S) A
  | .bipush n => go (pc + 2) L (.int (Int8.ofInt n).toInt32 :: S) A
  | .sipush n => go (pc + 3) L (.int (Int16.ofInt n).toInt32 :: S) A
  | .lconst n => go (pc + 1) L (.long (Int64.ofNat (n : Nat)) :: S) A
  | .ldc ix => match av_lnI (av_own y) ix with
    | some v => go (pc + 2) L (.int v :: S) A
    | none => match av_lnS (av_own y) ix with
      | some a => go (pc + 2) L (.ref a :: S) A
      | none => bad
  | .ldc_w ix => match av_lnI (av_own y) ix with
    | some v => go (pc + 3) L (.int v :: S) A
    | none => match av_lnS (av_own y) ix with
      | some a => go (pc + 3) L (.ref a :: S) A
      | none => bad
  | .ldc2_w ix => match av_lnL (av_own y) ix with
    | some v => go (pc + 3) L (.long v :: S) A
    | none => bad
  | .iload i => match av_lget L i with
    | some (.int v) => go (pc + 2) L (.int v :: S) A
    | _ => bad
  | .iload_n i => match av_lget L (i : Nat) with
    | some (.int v) => go (pc + 1) L (.int v :: S) A
    | _ => bad
  | .lload i => match av_lget L i with
    | some (.long v) => go (pc + 2) L (.long v :: S) A
    | _ => bad
  | .lload_n i => match av_lget L (i : Nat) with
    | some (.long v) => go (pc + 1) L (.long v :: S) A
    | _ => bad
  | .aload i => match av_lget L i with
    | some (.ref v) => go (pc + 2) L (.ref v :: S) A
    | some .null => go (pc + 2) L (.null :: S) A
    | _ => bad
  | .aload_n i => match av_lget L (i : Nat) with
    | some (.ref v) => go (pc + 1) L (.ref v :: S) A
    | some .null => go (pc + 1) L (.null :: S) A
    | _ => bad
  | .istore i => match S with
    | .int v :: S => go (pc + 2) (av_lset1 L i (.int v)) S A
    | _ => bad
  | .istore_n i => match S with
    | .int v :: S => go (pc + 1) (av_lset1 L (i : Nat) (.int v)) S A
    | _ => bad
  | .lstore i => match S with
    | .long v :: S => go (pc + 2) (av_lset2 L i (.long v)) S A
    | _ => bad
  | .lstore_n i => match S with
    | .long v :: S => go (pc + 1) (av_lset2 L (i : Nat) (.long v)) S A
    | _ => bad
  | .astore i => match S with
    | .ref v :: S => go (pc + 2) (av_lset1 L i (.ref v)) S A
    | .null :: S => go (pc + 2) (av_lset1 L i .null) S A
    | _ => bad
  | .astore_n i => match S with
    | .ref v :: S => go (pc + 1) (av_lset1 L (i : Nat) (.ref v)) S A
    | .null :: S => go (pc + 1) (av_lset1 L (i : Nat) .null) S A
    | _ => bad
  | .iinc i n => match av_lget L i with
    | some (.int v) => go (pc + 3) (av_lset1 L i (.int (v + Int32.ofInt n))) S A
    | _ => bad
  | .iadd => match S with
    | .int b :: .int a :: S => go (pc + 1) L (.int (a + b) :: S) A
    | _ => bad
  | .isub => match S with
    | .int b :: .int a :: S => go (pc + 1) L (.int (a - b) :: S) A
    | _ => bad
  | .imul => match S with
    | .int b :: .int a :: S => go (pc + 1) L (.int (a * b) :: S) A
    | _ => bad
  | .idiv => match S with
    | .int b :: .int a :: S => if b = 0 then bad else go (pc + 1) L (.int (a / b) :: S) A
    | _ => bad
  | .irem => match S with
    | .int b :: .int a :: S => if b = 0 then bad else go (pc + 1) L (.int (a - a / b * b) :: S) A
    | _ => bad
  | .ineg => match S with
    | .int a :: S => go (pc + 1) L (.int (-a) :: S) A
    | _ => bad
  | .iand => match S with
    | .int b :: .int a :: S => go (pc + 1) L (.int (a &&& b) :: S) A
    | _ => bad
  | .ior => match S with
    | .int b :: .int a :: S => go (pc + 1) L (.int (a ||| b) :: S) A
    | _ => bad
  | .ixor => match S with
    | .int b :: .int a :: S => go (pc + 1) L (.int (a ^^^ b) :: S) A
    | _ => bad
  | .ishl => match S with
    | .int b :: .int a :: S => go (pc + 1) L (.int (a <<< (b &&& 31)) :: S) A
    | _ => bad
  | .ishr => match S with
    | .int b :: .int a :: S => go (pc + 1) L (.int (a >>> (b &&& 31)) :: S) A
    | _ => bad
  | .iushr => match S with
    | .int b :: .int a :: S => go (pc + 1) L (.int (a.toUInt32 >>> (b.toUInt32 &&& Int32.toUInt32 31)).toInt32 :: S) A
    | _ => bad
  | .ladd => match S with
    | .long b :: .long a :: S => go (pc + 1) L (.long (a + b) :: S) A
    | _ => bad
  | .lsub => match S with
    | .long b :: .long a :: S => go (pc + 1) L (.long (a - b) :: S) A
    | _ => bad
  | .lmul => match S with
    | .long b :: .long a :: S => go (pc + 1) L (.long (a * b) :: S) A
    | _ => bad
  | .ldiv => match S with
    | .long b :: .long a :: S => if b = 0 then bad else go (pc + 1) L (.long (a / b) :: S) A
    | _ => bad
  | .lrem => match S with
    | .long b :: .long a :: S => if b = 0 then bad else go (pc + 1) L (.long (a - a / b * b) :: S) A
    | _ => bad
  | .lneg => match S with
    | .long a :: S => go (pc + 1) L (.long (-a) :: S) A
    | _ => bad
  | .land => match S with
    | .long b :: .long a :: S => go (pc + 1) L (.long (a &&& b) :: S) A
    | _ => bad
  | .lcmp => match S with
    | .long b :: .long a :: S => go (pc + 1) L (.int (lg_cmp a b) :: S) A
    | _ => bad
  | .i2l => match S with
    | .int a :: S => go (pc + 1) L (.long a.toInt64 :: S) A
    | _ => bad
  | .l2i => match S with
    | .long a :: S => go (pc + 1) L (.int a.toInt32 :: S) A
    | _ => bad
  | .i2b => match S with
    | .int a :: S => go (pc + 1) L (.int a.toInt8.toInt32 :: S) A
    | _ => bad
  | .i2c => match S with
    | .int a :: S => go (pc + 1) L (.int (a.toUInt32 % 65536).toInt32 :: S) A
    | _ => bad
  | .dup => match S with
    | v :: S => if v.category = 1 then go (pc + 1) L (v :: v :: S) A else bad
    | _ => bad
  | .dup_x1 => match S with
    | v :: w :: S => if v.category = 1 ∧ w.category = 1 then go (pc + 1) L (v :: w :: v :: S) A else bad
    | _ => bad
  | .dup_x2 => match S with
    | v :: w :: u :: S => if v.category = 1 ∧ w.category = 1 ∧ u.category = 1 then go (pc + 1) L (v :: w :: u :: v :: S) A else bad
    | _ => bad
  | .dup2 => match S with
    | v :: w :: S => if v.category = 1 ∧ w.category = 1 then go (pc + 1) L (v :: w :: v :: w :: S) A else bad
    | _ => bad
  | .pop => match S with
    | v :: S => if v.category = 1 then go (pc + 1) L S A else bad
    | _ => bad
  | .goto off => av_jmp bad go pc off L S A
  | .ifCond c off => match S with
    | .int a :: S => if av_cond c a 0 = true then av_jmp bad go pc off L S A else go (pc + 3) L S A
    | _ => bad
  | .if_icmp c off => match S with
    | .int b :: .int a :: S => if av_cond c a b = true then av_jmp bad go pc off L S A else go (pc + 3) L S A
    | _ => bad
  | .if_acmp c off => match S with
    | .ref b :: .ref a :: S => if a = b then (match c with | .eq => av_jmp bad go pc off L S A | .ne => go (pc + 3) L S A)
      else if (A.2.2 a).isSome = true ∧ (A.2.2 b).isSome = true ∧ (av_K ≤ a ∨ av_K ≤ b) then (match c with | .ne => av_jmp bad go pc off L S A | .eq => go (pc + 3) L S A) else bad
    | _ => bad
  | .ifnull off => match S with
    | .null :: S => av_jmp bad go pc off L S A
    | .ref a :: S => if (A.2.2 a).isSome = true then go (pc + 3) L S A else bad
    | _ => bad
  | .ifnonnull off => match S with
    | .null :: S => go (pc + 3) L S A
    | .ref a :: S => if (A.2.2 a).isSome = true then av_jmp bad go pc off L S A else bad
    | _ => bad
  | .tableswitch dflt lo hi offs => match S with
    | .int a :: S => if a.toInt < lo ∨ hi < a.toInt then av_jmp bad go pc dflt L S A
      else match offs[(a.toInt - lo).toNat]? with
        | some off => av_jmp bad go pc off L S A
        | none => bad
    | _ => bad
  | .lookupswitch dflt ps => match S with
    | .int a :: S => if (ps.toList.zip (ps.toList.drop 1)).all (fun (a, next) => a.1 < next.1) = true then av_jmp bad go pc (Op.lookupswitch.offset ps.toList dflt a.toInt) L S A else bad
    | _ => bad
  | .ireturn => match S with
    | [.int v] => if av_ok (av_rt y) (.int v) = true then ret (some (.int v)) A else bad
    | _ => bad
  | .lreturn => match S with
    | [.long v] => if av_rt y = 5 then ret (some (.long v)) A else bad
    | _ => bad
  | .areturn => match S with
    | [.ref v] => if av_rt y = 6 ∧ (A.2.2 v).isSome = true then ret (some (.ref v)) A else bad
    | [.null] => if av_rt y = 6 then ret (some .null) A else bad
    | _ => bad
  | .return_ => match S with
    | [] => if av_rt y = 0 then ret none A else bad
    | _ => bad
  | .athrow => match S with
    | .ref q :: _ => match A.2.2 q with
      | some (.inl (k, _)) => if k = av_kF then thr q A else bad
      | _ => bad
    | _ => bad
  | .getfield ix => match S with
    | .ref a :: S => match A.2.2 a, av_lnF (av_own y) ix with
      | some (.inl (k, g)), some f => match av_fi f k with
        | some i => go (pc + 3) L (g i :: S) A
        | none => bad
      | _, _ => bad
    | _ => bad
  | .putfield ix => match S with
    | v :: .ref a :: S => match A.2.2 a, av_lnF (av_own y) ix with
      | some (.inl (k, g)), some f => match av_fi f k with
        | some i => if av_K ≤ a ∧ av_ok (av_ft k i) v = true ∧ (av_ff f = false ∨ (av_ini y = true ∧ av_own y = av_fo f)) then go (pc + 3) L S (av_set A a (.inl (k, fun j => if j = i then v else g j))) else bad
        | none => bad
      | _, _ => bad
    | _ => bad
  | .getstatic ix => match av_lnG (av_own y) ix with
    | some v => go (pc + 3) L (v :: S) A
    | none => bad
  | .arraylength => match S with
    | .ref a :: S => match A.2.2 a with
      | some (.inr (_, n, _)) => go (pc + 1) L (.int (Int32.ofNat n) :: S) A
      | _ => bad
    | _ => bad
  | .iaload => match S with
    | .int i :: .ref a :: S => match A.2.2 a with
      | some (.inr (t, n, f)) => if t = 0 ∧ av_in i n = true then go (pc + 1) L (f i.toNatClampNeg :: S) A else bad
      | _ => bad
    | _ => bad
  | .baload => match S with
    | .int i :: .ref a :: S => match A.2.2 a with
      | some (.inr (t, n, f)) => if t = 1 ∧ av_in i n = true then go (pc + 1) L (f i.toNatClampNeg :: S) A else bad
      | _ => bad
    | _ => bad
  | .aaload => match S with
    | .int i :: .ref a :: S => match A.2.2 a with
      | some (.inr (t, n, f)) => if 10 ≤ t ∧ av_in i n = true then go (pc + 1) L (f i.toNatClampNeg :: S) A else bad
      | _ => bad
    | _ => bad
  | .iastore => match S with
    | .int v :: .int i :: .ref a :: S => match A.2.2 a with
      | some (.inr (t, n, f)) => if t = 0 ∧ av_in i n = true ∧ av_K ≤ a then go (pc + 1) L S (av_set A a (.inr (t, n, fun j => if j = i.toNatClampNeg then .int v else f j))) else bad
      | _ => bad
    | _ => bad
  | .bastore => match S with
    | .int v :: .int i :: .ref a :: S => match A.2.2 a with
      | some (.inr (t, n, f)) => if t = 1 ∧ av_in i n = true ∧ av_K ≤ a then go (pc + 1) L S (av_set A a (.inr (t, n, fun j => if j = i.toNatClampNeg then .int v.toInt8.toInt32 else f j))) else bad
      | _ => bad
    | _ => bad
  | .aastore => match S with
    | .null :: .int i :: .ref a :: S => match A.2.2 a with
      | some (.inr (t, n, f)) => if 10 ≤ t ∧ t ≤ 20 ∧ t ≠ 12 ∧ t ≠ 16 ∧ t ≠ 19 ∧ av_in i n = true ∧ av_K ≤ a then go (pc + 1) L S (av_set A a (.inr (t, n, fun j => if j = i.toNatClampNeg then .null else f j))) else bad
      | _ => bad
    | .ref v :: .int i :: .ref a :: S => match A.2.2 a, A.2.2 v with
      | some (.inr (t, n, f)), some c => if 10 ≤ t ∧ av_in i n = true ∧ av_K ≤ a ∧ av_asg t (av_kind v c) = true then go (pc + 1) L S (av_set A a (.inr (t, n, fun j => if j = i.toNatClampNeg then .ref v else f j))) else bad
      | _, _ => bad
    | _ => bad
  | .newarray ty => match S with
    | .int n :: S => if 0 ≤ n ∧ n ≤ 100000 then (match ty with
        | .int => go (pc + 2) L (.ref A.1 :: S) (av_new A n.toNatClampNeg (.inr (0, n.toNatClampNeg, fun _ => .int 0)))
        | .byte => go (pc + 2) L (.ref A.1 :: S) (av_new A n.toNatClampNeg (.inr (1, n.toNatClampNeg, fun _ => .int 0)))
        | _ => bad) else bad
    | _ => bad
  | .anewarray ix => match S with
    | .int n :: S => match av_lnA (av_own y) ix with
      | some t => if 0 ≤ n ∧ n ≤ 100000 then go (pc + 3) L (.ref A.1 :: S) (av_new A n.toNatClampNeg (.inr (t, n.toNatClampNeg, fun _ => .null))) else bad
      | none => bad
    | _ => bad
  | .multianewarray ix 2 => match S with
    | .int k :: .int n :: S => match av_lnX (av_own y) ix with
      | some (t, u) => if 0 < n ∧ n ≤ 100 ∧ 0 ≤ k ∧ k ≤ 100 then go (pc + 4) L (.ref A.1 :: S)
          (A.1 + 1 + n.toNatClampNeg, A.2.1 + (n.toNatClampNeg + n.toNatClampNeg * k.toNatClampNeg), fun b => if b < A.1 then A.2.2 b else if b = A.1 then some (.inr (t, n.toNatClampNeg, fun j => .ref (A.1 + 1 + j)))
            else if b < A.1 + 1 + n.toNatClampNeg then some (.inr (u, k.toNatClampNeg, fun _ => .null)) else none) else bad
      | none => bad
    | _ => bad
  | .new ix => match av_lnN (av_own y) ix with
    | some k => go (pc + 3) L (.ref A.1 :: S) (av_new A (av_nf k) (.inl (k, av_dflt k)))
    | none => bad
  | .checkcast ix => match S with
    | .null :: S => go (pc + 3) L (.null :: S) A
    | .ref a :: S => match A.2.2 a with
      | some c => if av_cast (av_own y) ix (av_kind a c) = some true then go (pc + 3) L (.ref a :: S) A else bad
      | none => bad
    | _ => bad
  | .instanceof ix => match S with
    | .ref a :: S => match A.2.2 a with
      | some c => match av_cast (av_own y) ix (av_kind a c) with
        | some true => go (pc + 3) L (.int 1 :: S) A
        | some false => go (pc + 3) L (.int 0 :: S) A
        | none => bad
      | none => bad
    | _ => bad
  | .invokedynamic _ => match av_site y pc with
    | some j => match av_pop (av_lt j).length S [] with
      | some (vs, S) => if 12 < S.length then bad else if (av_lt j).isEmpty = true then go (pc + 5) L (.ref (av_lc j) :: S) A
          else if (List.zipWith av_ok (av_lt j) vs).all id = true then go (pc + 5) L (.ref A.1 :: S) (av_new A (av_lt j).length (.inl (100 + j, fun i => (vs[i]?).getD .null))) else bad
      | none => bad
    | none => bad
  | .invokestatic ix => match av_lnM (av_own y) ix with
    | some z => if z = 1001 then (match S with
        | .int n :: .int dp :: .ref d :: .int sp :: .ref b :: S => match A.2.2 b, A.2.2 d with
          | some (.inr (t, m, f)), some (.inr (u, k, g)) => if S.length ≤ 12 ∧ t = u ∧ (t ≤ 1 ∨ (10 ≤ t ∧ t ≤ 20)) ∧ (List.range n.toNatClampNeg).all (fun i => av_elt t A (f (sp.toNatClampNeg + i))) = true ∧ 0 ≤ n ∧ 0 ≤ dp ∧ 0 ≤ sp ∧ sp.toNatClampNeg + n.toNatClampNeg ≤ m ∧ dp.toNatClampNeg + n.toNatClampNeg ≤ k ∧ av_K ≤ d ∧ ¬ b = d
            then go (pc + 3) L S (av_set A d (.inr (u, k, av_cpy f g sp.toNatClampNeg dp.toNatClampNeg n.toNatClampNeg))) else bad
          | _, _ => bad
        | _ => bad)
      else match av_pop (av_na z) S [] with
        | some (as, S) => if S.length ≤ 12 ∧ av_stt z = true then call z as A (fun v A => go (pc + 3) L (v.toList ++ S) A) else bad
        | none => bad
    | none => bad
  | .invokespecial ix => match av_lnM (av_own y) ix with
    | some z => if z = 1000 then (match S with
        | .ref a :: S => if S.length ≤ 12 ∧ (A.2.2 a).isSome = true then go (pc + 3) L S A else bad
        | _ => bad)
      else match av_pop (av_na z) S [] with
        | some (as, .ref b :: S) => match A.2.2 b with
          | some (.inl _) => if S.length ≤ 12 ∧ (av_inz z = true ∨ av_spr (av_own y) z = true) then call z (.ref b :: as) A (fun v A => go (pc + 3) L (v.toList ++ S) A) else bad
          | _ => bad
        | _ => bad
    | none => bad
  | .invokevirtual ix => match av_lnM (av_own y) ix with
    | some z => match av_pop (av_na z) S [] with
        | some (as, .ref b :: S) => match A.2.2 b with
          | some (.inl (k, _)) => match av_sel z k with
            | some z' => if S.length ≤ 12 ∧ av_itf z = false then call z' (.ref b :: as) A (fun v A => go (pc + 3) L (v.toList ++ S) A) else bad
            | none => bad
          | _ => bad
        | _ => bad
    | none => bad
  | .invokeinterface ix _ => match av_lnM (av_own y) ix with
    | some z => match av_pop (av_na z) S [] with
        | some (as, .ref b :: S) => match A.2.2 b with
          | some (.inl (k, _)) => match av_sel z k with
            | some z' => if S.length ≤ 12 ∧ av_itf z = true then call z' (.ref b :: as) A (fun v A => go (pc + 5) L (v.toList ++ S) A) else bad
            | none => bad
          | _ => bad
        | _ => bad
    | none => bad
  | _ => bad
/-- is it a Fault (all that is ever thrown)? -/
def av_isF (A : av_H) (q : Nat) : Bool := match A.2.2 q with
  | some (.inl o) => o.1 == av_kF
  | _ => false
/-- a method's body: R: the calls; fuel: the steps -/
def av_exec (R : Nat → List Value → av_H → Option (av_R × av_H)) (y : Nat) : Nat → Nat → av_L → List Value → av_H → Option (av_R × av_H)
  | 0 => fun _ _ _ _ => none
  | n + 1 => fun pc L S A => match av_fetch y pc with
    | none => none
    | some i => av_step none (fun pc L S A => av_exec R y n pc L S A) (fun v A => some (.inl v, A))
        (fun q A => match av_hnd y pc with | some h => (if av_isF A q = true then av_exec R y n h L [.ref q] A else none) | none => some (.inr q, A))
        (fun z as A k => match R z as A with
          | some (.inl v, A) => k v A
          | some (.inr q, A) => (match av_hnd y pc with | some h => (if av_isF A q = true then av_exec R y n h L [.ref q] A else none) | none => some (.inr q, A))
          | none => none)
        y pc L S A i
/-- a method's locals at its entry -/
def av_ent : Nat → List Value → av_L
  | _, [] => []
  | i, v :: vs => (i, v) :: av_ent (if v.category = 2 then i + 2 else i + 1) vs
/-- how many variables the arguments take -/
def av_wid : List Value → Nat
  | [] => 0
  | v :: vs => (if v.category = 2 then 2 else 1) + av_wid vs
/-- a call: N: the steps of one body; d: the depth. Numbers from 2000 on: a lambda's own method: what it captured goes ahead of the arguments -/
def av_run (N : Nat) : Nat → Nat → List Value → av_H → Option (av_R × av_H)
  | 0 => fun _ _ _ => none
  | d + 1 => fun z as A => if z < 2000 then (if av_wid as ≤ av_ml z then av_exec (fun z as A => av_run N d z as A) z N 0 (av_ent 0 as) [] A else none)
    else match as with
      | .ref b :: as => match A.2.2 b with
        | some (.inl (k, f)) => if k = 100 + (z - 2000) then (if av_lq (z - 2000) (f 0) as A = true then av_run N d (av_ly (z - 2000)) ((List.range (av_lt (z - 2000)).length).map f ++ as) A else none) else none
        | _ => none
      | _ => none
