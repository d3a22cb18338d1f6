/-! THE ABSTRACT MACHINE: cells by address, a kind number and a list of values; one step; a whole run by fuel -/
/-- a cell: its kind (below 1000: the class's number; 1000 + t: an array) and its values -/
abbrev am_C : Type := Nat × List Value
/-- the heap: the cells known, how many there are, how many slots have been made -/
abbrev am_H : Type := (Nat → Option am_C) × Nat × Nat
/-- how a method ends: it returned (a value or none), or threw the object at an address -/
abbrev am_O : Type := Except Nat (Option Value)
/-- an entry of a code table: the instruction, where the next one stands, resolved numbers -/
abbrev am_E : Type := Instr × Nat × List Nat
def am_put (H : am_H) (a : Nat) (c : am_C) : am_H := (fun b => if b = a then some c else H.1 b, H.2)
def am_new (H : am_H) (c : am_C) (n : Nat) : am_H := (fun b => if b = H.2.1 then some c else H.1 b, H.2.1 + 1, H.2.2 + n)
/-- what a step is: on at a pc; a call; an end; a throw -/
abbrev am_S : Type := (Nat × List Value × List Value × am_H) ⊕ ((Nat × List Value × List Value) ⊕ (Option Value ⊕ Nat))
abbrev am_nx (pc : Nat) (ls st : List Value) (H : am_H) : Option am_S := some (.inl (pc, ls, st, H))
abbrev am_cl (M : Nat) (as rest : List Value) : Option am_S := some (.inr (.inl (M, as, rest)))
abbrev am_rt (v : Option Value) : Option am_S := some (.inr (.inr (.inl v)))
abbrev am_th (a : Nat) : Option am_S := some (.inr (.inr (.inr a)))
def am_isR : Value → Bool
  | .null => true
  | .ref _ => true
  | _ => false
def am_is2 : Value → Bool
  | .long _ => true
  | .double _ => true
  | _ => false
/-- the types by number -/
def am_ty : Nat → FieldType
  | 0 => .int
  | 1 => .long
  | 2 => .float
  | 3 => .double
  | 4 => .byte
  | 5 => .char
  | 6 => .boolean
  | 7 => .short
  | _ => .object "java/lang/Object"
/-- the default value of a type's number -/
def am_df : Nat → Value
  | 0 => .int 0
  | 1 => .long 0
  | 2 => .float 0
  | 3 => .double 0
  | 4 => .int 0
  | 5 => .int 0
  | 6 => .int 0
  | 7 => .int 0
  | _ => .null
/-- a value that may be stored in a field of the type, or returned, as it is -/
def am_fit (t : Nat) (v : Value) : Bool := if 9 ≤ t then am_isR v else decide (narrow (am_ty t) v = v) && fits (am_ty t) v
/-- array kinds: 1000 int, 1001 long, 1002 byte, 1003 char, 1004 double, 1005 short, 1010 Object[], 1011 String[], 1012 int[][] -/
def am_aty : Nat → Option FieldType
  | 0 => some .int
  | 1 => some .long
  | 2 => some .byte
  | 3 => some .char
  | 4 => some .double
  | 10 => some (.object "java/lang/Object")
  | 11 => some (.object "java/lang/String")
  | 12 => some (.array .int)
  | _ => none
def am_adf : Nat → Value
  | 0 => .int 0
  | 1 => .long 0
  | 2 => .int 0
  | 3 => .int 0
  | 4 => .double 0
  | _ => .null
def am_ix (i : Int32) (vs : List Value) : Option Value := if i < 0 then none else vs[i.toNatClampNeg]?
/-- a local of category 1 is written -/
def am_st1 (ls : List Value) (k : Nat) (v : Value) : Option (List Value) :=
  if k < ls.length then
    match k with
    | 0 => some (ls.set 0 v)
    | j + 1 => match ls[j]? with
      | some w => if am_is2 w then none else some (ls.set (j + 1) v)
      | none => none
  else none
/-- a local of category 2 is written -/
def am_st2 (ls : List Value) (k : Nat) (v : Value) : Option (List Value) :=
  if k + 1 < ls.length then
    match k with
    | 0 => some ((ls.set 0 v).set 1 (.retAddr 0))
    | j + 1 => match ls[j]? with
      | some w => if am_is2 w then none else some ((ls.set (j + 1) v).set (j + 2) (.retAddr 0))
      | none => none
  else none
def am_cond : ClassFile.Cond → Int32 → Int32 → Bool
  | .eq, a, b => decide (a = b)
  | .ne, a, b => decide (a ≠ b)
  | .lt, a, b => decide (a < b)
  | .ge, a, b => decide (b ≤ a)
  | .gt, a, b => decide (b < a)
  | .le, a, b => decide (a ≤ b)
/-! the operations -/
def am_push (v : Value) (npc : Nat) (ls st : List Value) (H : am_H) : Option am_S := am_nx npc ls (v :: st) H
def am_loadI (k npc : Nat) (ls st : List Value) (H : am_H) : Option am_S := match ls[k]? with
  | some (.int x) => am_nx npc ls (.int x :: st) H
  | _ => none
def am_loadL (k npc : Nat) (ls st : List Value) (H : am_H) : Option am_S := match ls[k]? with
  | some (.long x) => am_nx npc ls (.long x :: st) H
  | _ => none
def am_loadF (k npc : Nat) (ls st : List Value) (H : am_H) : Option am_S := match ls[k]? with
  | some (.float x) => am_nx npc ls (.float x :: st) H
  | _ => none
def am_loadD (k npc : Nat) (ls st : List Value) (H : am_H) : Option am_S := match ls[k]? with
  | some (.double x) => am_nx npc ls (.double x :: st) H
  | _ => none
def am_loadA (k npc : Nat) (ls st : List Value) (H : am_H) : Option am_S := match ls[k]? with
  | some v => if am_isR v then am_nx npc ls (v :: st) H else none
  | _ => none
def am_storeI (k npc : Nat) (ls st : List Value) (H : am_H) : Option am_S := match st with
  | .int x :: st => match am_st1 ls k (.int x) with
    | some l => am_nx npc l st H
    | none => none
  | _ => none
def am_storeF (k npc : Nat) (ls st : List Value) (H : am_H) : Option am_S := match st with
  | .float x :: st => match am_st1 ls k (.float x) with
    | some l => am_nx npc l st H
    | none => none
  | _ => none
def am_storeA (k npc : Nat) (ls st : List Value) (H : am_H) : Option am_S := match st with
  | v :: st => if am_isR v then (match am_st1 ls k v with
    | some l => am_nx npc l st H
    | none => none) else none
  | _ => none
def am_storeL (k npc : Nat) (ls st : List Value) (H : am_H) : Option am_S := match st with
  | .long x :: st => match am_st2 ls k (.long x) with
    | some l => am_nx npc l st H
    | none => none
  | _ => none
def am_storeD (k npc : Nat) (ls st : List Value) (H : am_H) : Option am_S := match st with
  | .double x :: st => match am_st2 ls k (.double x) with
    | some l => am_nx npc l st H
    | none => none
  | _ => none
def am_inc (k : Nat) (n : Int) (npc : Nat) (ls st : List Value) (H : am_H) : Option am_S := match ls[k]? with
  | some (.int x) => match am_st1 ls k (.int (x + Int32.ofInt n)) with
    | some l => am_nx npc l st H
    | none => none
  | _ => none
def am_ib (f : Int32 → Int32 → Int32) (npc : Nat) (ls st : List Value) (H : am_H) : Option am_S := match st with
  | .int y :: .int x :: st => am_nx npc ls (.int (f x y) :: st) H
  | _ => none
def am_ibz (f : Int32 → Int32 → Int32) (npc : Nat) (ls st : List Value) (H : am_H) : Option am_S := match st with
  | .int y :: .int x :: st => if y = 0 then none else am_nx npc ls (.int (f x y) :: st) H
  | _ => none
def am_iu (f : Int32 → Value) (npc : Nat) (ls st : List Value) (H : am_H) : Option am_S := match st with
  | .int x :: st => am_nx npc ls (f x :: st) H
  | _ => none
def am_lb (f : Int64 → Int64 → Int64) (npc : Nat) (ls st : List Value) (H : am_H) : Option am_S := match st with
  | .long y :: .long x :: st => am_nx npc ls (.long (f x y) :: st) H
  | _ => none
def am_l2i (npc : Nat) (ls st : List Value) (H : am_H) : Option am_S := match st with
  | .long x :: st => am_nx npc ls (.int x.toInt32 :: st) H
  | _ => none
def am_lcmp (npc : Nat) (ls st : List Value) (H : am_H) : Option am_S := match st with
  | .long y :: .long x :: st => am_nx npc ls (.int (lg_cmp x y) :: st) H
  | _ => none
def am_fcmp (op : ClassFile.CmpOp) (npc : Nat) (ls st : List Value) (H : am_H) : Option am_S := match st with
  | .float y :: .float x :: st => am_nx npc ls (.int (Op.cmpValue (FP.fcmp x y) op) :: st) H
  | _ => none
def am_dcmp (op : ClassFile.CmpOp) (npc : Nat) (ls st : List Value) (H : am_H) : Option am_S := match st with
  | .double y :: .double x :: st => am_nx npc ls (.int (Op.cmpValue (FP.dcmp x y) op) :: st) H
  | _ => none
def am_n32 (r : UInt32) : Bool := decide (r &&& 0x7fffffff ≤ 0x7f800000)
def am_n64 (r : UInt64) : Bool := decide (r &&& 0x7fffffffffffffff ≤ 0x7ff0000000000000)
def am_f2d (npc : Nat) (ls st : List Value) (H : am_H) : Option am_S := match st with
  | .float x :: st => if am_n64 (FP.f2d x) then am_nx npc ls (.double (FP.f2d x) :: st) H else none
  | _ => none
def am_fdiv (npc : Nat) (ls st : List Value) (H : am_H) : Option am_S := match st with
  | .float y :: .float x :: st => if am_n32 (FP.fdiv x y) then am_nx npc ls (.float (FP.fdiv x y) :: st) H else none
  | _ => none
def am_ddiv (npc : Nat) (ls st : List Value) (H : am_H) : Option am_S := match st with
  | .double y :: .double x :: st => if am_n64 (FP.ddiv x y) then am_nx npc ls (.double (FP.ddiv x y) :: st) H else none
  | _ => none
def am_pop (npc : Nat) (ls st : List Value) (H : am_H) : Option am_S := match st with
  | v :: st => if am_is2 v then none else am_nx npc ls st H
  | _ => none
def am_dup (npc : Nat) (ls st : List Value) (H : am_H) : Option am_S := match st with
  | v :: st => if am_is2 v then none else am_nx npc ls (v :: v :: st) H
  | _ => none
def am_dupx1 (npc : Nat) (ls st : List Value) (H : am_H) : Option am_S := match st with
  | v :: w :: st => if am_is2 v || am_is2 w then none else am_nx npc ls (v :: w :: v :: st) H
  | _ => none
def am_dup2 (npc : Nat) (ls st : List Value) (H : am_H) : Option am_S := match st with
  | v :: w :: st => if am_is2 v then am_nx npc ls (v :: v :: w :: st) H else if am_is2 w then none else am_nx npc ls (v :: w :: v :: w :: st) H
  | _ => none
/-- a jump's target -/
def am_jp (pc : Nat) (off : Int) (k : Nat → Option am_S) : Option am_S := if 0 ≤ (pc : Int) + off then k ((pc : Int) + off).toNat else none
def am_goto (off : Int) (pc : Nat) (ls st : List Value) (H : am_H) : Option am_S := am_jp pc off fun t => am_nx t ls st H
def am_if (c : ClassFile.Cond) (off : Int) (pc npc : Nat) (ls st : List Value) (H : am_H) : Option am_S := match st with
  | .int x :: st => am_jp pc off fun t => if am_cond c x 0 then am_nx t ls st H else am_nx npc ls st H
  | _ => none
def am_icmp (c : ClassFile.Cond) (off : Int) (pc npc : Nat) (ls st : List Value) (H : am_H) : Option am_S := match st with
  | .int y :: .int x :: st => am_jp pc off fun t => if am_cond c x y then am_nx t ls st H else am_nx npc ls st H
  | _ => none
def am_acmp (c : ClassFile.ACond) (off : Int) (pc npc : Nat) (ls st : List Value) (H : am_H) : Option am_S := match st with
  | w :: v :: st => if am_isR v && am_isR w then (am_jp pc off fun t => if (match c with | .eq => decide (v = w) | .ne => decide (v ≠ w)) then am_nx t ls st H else am_nx npc ls st H) else none
  | _ => none
def am_ifnull (off : Int) (pc npc : Nat) (ls st : List Value) (H : am_H) : Option am_S := match st with
  | v :: st => if am_isR v then (am_jp pc off fun t => if v = .null then am_nx t ls st H else am_nx npc ls st H) else none
  | _ => none
def am_ifnonnull (off : Int) (pc npc : Nat) (ls st : List Value) (H : am_H) : Option am_S := match st with
  | v :: st => if am_isR v then (am_jp pc off fun t => if v = .null then am_nx npc ls st H else am_nx t ls st H) else none
  | _ => none
def am_tsw (dflt lo hi : Int) (offs : Array Int) (pc : Nat) (ls st : List Value) (H : am_H) : Option am_S := match st with
  | .int x :: st => if x.toInt < lo ∨ hi < x.toInt then (am_jp pc dflt fun t => am_nx t ls st H) else match offs[(x.toInt - lo).toNat]? with
    | some o => am_jp pc o fun t => am_nx t ls st H
    | none => none
  | _ => none
def am_lsw (dflt : Int) (ps : Array (Int × Int)) (pc : Nat) (ls st : List Value) (H : am_H) : Option am_S := match st with
  | .int x :: st => if (ps.toList.zip (ps.toList.drop 1)).all (fun (a, next) => a.1 < next.1) then (am_jp pc (Op.lookupswitch.offset ps.toList dflt x.toInt) fun t => am_nx t ls st H) else none
  | _ => none
/-- a reference by a number: 0 null, else the address behind it -/
def am_rv (n : Nat) : Value := if n = 0 then .null else .ref (n - 1)
/-- constants: [0, n] the int n; [1, i] the object that E names i; [2, n] a long; [3, i] null or an object -/
def am_const (E : Nat → Nat) (ax : List Nat) (npc : Nat) (ls st : List Value) (H : am_H) : Option am_S := match ax with
  | [0, n] => am_nx npc ls (.int (Int32.ofNat n) :: st) H
  | [1, i] => am_nx npc ls (.ref (E i) :: st) H
  | [2, n] => am_nx npc ls (.long (Int64.ofNat n) :: st) H
  | [3, i] => am_nx npc ls (am_rv (E i) :: st) H
  | _ => none
/-! the heap's operations -/
def am_get (sub : Nat → Nat → Bool) (ax : List Nat) (npc : Nat) (ls st : List Value) (H : am_H) : Option am_S := match ax, st with
  | [c0, j], .ref a :: st => match H.1 a with
    | some (k, vs) => if sub k c0 then (match vs[j]? with
      | some v => am_nx npc ls (v :: st) H
      | none => none) else none
    | none => none
  | _, _ => none
def am_putf (sub : Nat → Nat → Bool) (base : Nat) (ax : List Nat) (npc : Nat) (ls st : List Value) (H : am_H) : Option am_S := match ax, st with
  | [c0, j, t], v :: .ref a :: st => match H.1 a with
    | some (k, vs) => if sub k c0 && decide (base ≤ a) && decide (j < vs.length) && am_fit t v then am_nx npc ls st (am_put H a (k, vs.set j v)) else none
    | none => none
  | _, _ => none
def am_aload (ok : Nat → Bool) (npc : Nat) (ls st : List Value) (H : am_H) : Option am_S := match st with
  | .int i :: .ref a :: st => match H.1 a with
    | some (k, vs) => if ok k then (match am_ix i vs with
      | some v => am_nx npc ls (v :: st) H
      | none => none) else none
    | none => none
  | _ => none
def am_astore (k0 : Nat) (base : Nat) (ok : Value → Bool) (npc : Nat) (ls st : List Value) (H : am_H) : Option am_S := match st with
  | v :: .int i :: .ref a :: st => match H.1 a with
    | some (k, vs) => if decide (k = k0) && decide (base ≤ a) && ok v && (am_ix i vs).isSome then am_nx npc ls st (am_put H a (k, vs.set i.toNatClampNeg v)) else none
    | none => none
  | _ => none
/-- which objects an array of references takes -/
def am_sto (t kb : Nat) : Bool := (t == 10 && decide (kb < 1000)) || (t == 11 && kb == 0)
def am_stok (H : am_H) (t : Nat) : Value → Bool
  | .null => true
  | .ref b => match H.1 b with
    | some (kb, _) => am_sto t kb
    | none => false
  | _ => false
def am_aastore (base : Nat) (npc : Nat) (ls st : List Value) (H : am_H) : Option am_S := match st with
  | v :: .int i :: .ref a :: st => match H.1 a with
    | some (k, vs) => if (k == 1010 || k == 1011) && decide (base ≤ a) && (am_ix i vs).isSome && am_stok H (k - 1000) v then am_nx npc ls st (am_put H a (k, vs.set i.toNatClampNeg v)) else none
    | none => none
  | _ => none
def am_alen (npc : Nat) (ls st : List Value) (H : am_H) : Option am_S := match st with
  | .ref a :: st => match H.1 a with
    | some (k, vs) => if 1000 ≤ k then am_nx npc ls (.int (Int32.ofNat vs.length) :: st) H else none
    | none => none
  | _ => none
/-- no more than ten words lie below -/
def am_cut : Nat → List Value → Bool
  | _, [] => true
  | 0, _ :: _ => false
  | n + 1, _ :: l => am_cut n l
def am_mk (k : Nat) (npc : Nat) (ls st : List Value) (H : am_H) : Option am_S := if am_cut 10 st then am_nx npc ls (.ref H.2.1 :: st) (am_new H (k, []) 6) else none
/-- new: [0, k, n, types ..]; a whole 'new E()' of an exception: [1, k] -/
def am_newo (ax : List Nat) (npc : Nat) (ls st : List Value) (H : am_H) : Option am_S := match ax with
  | 0 :: k :: n :: ts => am_nx npc ls (.ref H.2.1 :: st) (am_new H (k, ts.map am_df) n)
  | [1, k] => am_mk k npc ls st H
  | _ => none
def am_newa (ax : List Nat) (npc : Nat) (ls st : List Value) (H : am_H) : Option am_S := match ax, st with
  | [t], .int n :: st => if n < 0 then none else if 65535 < n.toNatClampNeg then none else am_nx npc ls (.ref H.2.1 :: st) (am_new H (1000 + t, List.replicate n.toNatClampNeg (am_adf t)) n.toNatClampNeg)
  | _, _ => none
def am_cast (ax : List Nat) (npc : Nat) (ls st : List Value) (H : am_H) : Option am_S := match st with
  | .null :: st => am_nx npc ls (.null :: st) H
  | .ref a :: st => match H.1 a with
    | some (k, _) => if ax.contains k then am_nx npc ls (.ref a :: st) H else none
    | none => none
  | _ => none
def am_inst (ax : List Nat) (npc : Nat) (ls st : List Value) (H : am_H) : Option am_S := match st with
  | .null :: st => am_nx npc ls (.int 0 :: st) H
  | .ref a :: st => match H.1 a with
    | some (k, _) => if ax.contains k then am_nx npc ls (.int 1 :: st) H else none
    | none => none
  | _ => none
def am_ret (ok : Value → Bool) (ls st : List Value) (H : am_H) : Option am_S := match st with
  | [v] => if ok v then am_rt (some v) else none
  | _ => none
def am_retI (ax : List Nat) (st : List Value) : Option am_S := match ax, st with
  | [t], [.int x] => if am_fit t (.int x) then am_rt (some (.int x)) else none
  | _, _ => none
def am_retL (st : List Value) : Option am_S := match st with
  | [.long x] => am_rt (some (.long x))
  | _ => none
def am_retF (st : List Value) : Option am_S := match st with
  | [.float x] => am_rt (some (.float x))
  | _ => none
def am_retD (st : List Value) : Option am_S := match st with
  | [.double x] => am_rt (some (.double x))
  | _ => none
def am_retV (st : List Value) : Option am_S := match st with
  | [] => am_rt none
  | _ => none
def am_throw (st : List Value) (H : am_H) : Option am_S := match st with
  | .ref a :: _ => am_th a
  | _ => none
/-! calls -/
/-- n arguments off the stack, in their order; none of category 2 -/
def am_pops : Nat → List Value → List Value → Option (List Value × List Value)
  | 0, acc, st => some (acc, st)
  | n + 1, acc, v :: st => if am_is2 v then none else am_pops n (v :: acc) st
  | _ + 1, _, [] => none
def am_vt (k : Nat) : List Nat → Option Nat
  | a :: b :: r => if a = k then some b else am_vt k r
  | _ => none
def am_arr (a : Nat) (H : am_H) (K : Nat → List Value → Option am_S) : Option am_S := match H.1 a with
  | some (k, vs) => if 1000 ≤ k then K k vs else none
  | none => none
def am_cpy (n sp dp : Nat) (vs vd : List Value) : List Value := vd.take dp ++ ((vs.drop sp).take n ++ vd.drop (dp + n))
def am_copy (base : Nat) (npc : Nat) (ls st : List Value) (H : am_H) : Option am_S := match st with
  | .int n :: .int dp :: .ref d :: .int sp :: .ref s :: rest => am_arr s H fun k vs => am_arr d H fun k' vd =>
    if decide (k = k') && decide (base ≤ d) && !decide (n < 0) && !decide (sp < 0) && !decide (dp < 0) && decide (sp.toNatClampNeg + n.toNatClampNeg ≤ vs.length) && decide (dp.toNatClampNeg + n.toNatClampNeg ≤ vd.length) && am_cut 10 rest && (decide (k < 1010) || ((vs.drop sp.toNatClampNeg).take n.toNatClampNeg).all (am_stok H (k - 1000)))
    then am_nx npc ls rest (am_put H d (k, am_cpy n.toNatClampNeg sp.toNatClampNeg dp.toNatClampNeg vs vd)) else none
  | _ => none
def am_callS (M n : Nat) (st : List Value) : Option am_S := match am_pops n [] st with
  | some (as, rest) => if am_cut 10 rest then am_cl M as rest else none
  | none => none
def am_callI (M n : Nat) (st : List Value) : Option am_S := match am_pops n [] st with
  | some (as, .ref a :: rest) => if am_cut 10 rest then am_cl M (.ref a :: as) rest else none
  | _ => none
def am_callU (M n : Nat) (st : List Value) (H : am_H) : Option am_S := match am_pops n [] st with
  | some (as, .ref a :: rest) => match H.1 a with
    | some (k, _) => if decide (k < 1000) && am_cut 10 rest then am_cl M (.ref a :: as) rest else none
    | none => none
  | _ => none
def am_callV (n : Nat) (tb : List Nat) (st : List Value) (H : am_H) : Option am_S := match am_pops n [] st with
  | some (as, .ref a :: rest) => match H.1 a with
    | some (k, _) => match am_vt k tb with
      | some M => if am_cut 10 rest then am_cl M (.ref a :: as) rest else none
      | none => none
    | none => none
  | _ => none
def am_objI (npc : Nat) (ls st : List Value) (H : am_H) : Option am_S := match st with
  | .ref _ :: rest => if am_cut 10 rest then am_nx npc ls rest H else none
  | _ => none
def am_clone (t base : Nat) (npc : Nat) (ls st : List Value) (H : am_H) : Option am_S := match st with
  | .ref a :: rest => am_arr a H fun k vs => if decide (k = 1000 + t) && decide (base ≤ a) && am_cut 10 rest then am_nx npc ls (.ref H.2.1 :: rest) (am_new H (k, vs) vs.length) else none
  | _ => none
def am_gcls (v : Nat) (npc : Nat) (ls st : List Value) (H : am_H) : Option am_S := match st with
  | .ref a :: rest => am_arr a H fun k _ => if decide (k = 1010) && am_cut 10 rest then am_nx npc ls (.ref v :: rest) H else none
  | _ => none
def am_static (base : Nat) (ax : List Nat) (npc : Nat) (ls st : List Value) (H : am_H) : Option am_S := match ax with
  | [0, M, n] => am_callS M n st
  | [1] => am_copy base npc ls st H
  | _ => none
def am_special (ax : List Nat) (npc : Nat) (ls st : List Value) (H : am_H) : Option am_S := match ax with
  | [0, M, n] => am_callI M n st
  | [5, M, n] => am_callU M n st H
  | [4] => am_objI npc ls st H
  | _ => none
def am_virt (base : Nat) (E : Nat → Nat) (ax : List Nat) (npc : Nat) (ls st : List Value) (H : am_H) : Option am_S := match ax with
  | 0 :: n :: tb => am_callV n tb st H
  | [2, t] => am_clone t base npc ls st H
  | [3, i] => am_gcls (E i) npc ls st H
  | _ => none
/-- the equals of a record of class k, ints alone -/
def am_recEq (ax : List Nat) (npc : Nat) (ls st : List Value) (H : am_H) : Option am_S := match ax, st with
  | [k0], .ref b :: .ref a :: rest => match H.1 a, H.1 b with
    | some (k, vs), some (k', vs') => if decide (k = k0) && decide (k' = k0) && am_cut 10 rest then am_nx npc ls (.int (if vs = vs' then 1 else 0) :: rest) H else none
    | _, _ => none
  | _, _ => none
/-- new int[n][k] -/
def am_grid (n k : Nat) (H : am_H) : am_H :=
  (fun b => if b = H.2.1 then some (1012, (List.range n).map fun j => .ref (H.2.1 + 1 + j)) else if H.2.1 < b ∧ b ≤ H.2.1 + n then some (1000, List.replicate k (.int 0)) else H.1 b, H.2.1 + 1 + n, H.2.2 + n + n * k)
def am_multi (npc : Nat) (ls st : List Value) (H : am_H) : Option am_S := match st with
  | .int k :: .int n :: rest => if n < 0 ∨ k < 0 ∨ 255 < n.toNatClampNeg ∨ 255 < k.toNatClampNeg then none else am_nx npc ls (.ref H.2.1 :: rest) (am_grid n.toNatClampNeg k.toNatClampNeg H)
  | _ => none
/-! one step -/
/-- which kinds are under which; the first address that may be written; the constants' addresses; which exceptions a handler's class takes -/
abbrev am_G : Type := (Nat → Nat → Bool) × Nat × (Nat → Nat) × (Nat → Nat → Option Bool)
def am_step (G : am_G) (pc : Nat) (e : am_E) (ls st : List Value) (H : am_H) : Option am_S :=
  let n := e.2.1
  match e.1 with
  | .aconst_null => am_push .null n ls st H
  | .iconst x => am_push (.int (Int32.ofInt x)) n ls st H
  | .bipush x => am_push (.int (Int8.ofInt x).toInt32) n ls st H
  | .sipush x => am_push (.int (Int16.ofInt x).toInt32) n ls st H
  | .lconst x => am_push (.long (Int64.ofNat x.val)) n ls st H
  | .ldc _ => am_const G.2.2.1 e.2.2 n ls st H
  | .ldc_w _ => am_const G.2.2.1 e.2.2 n ls st H
  | .ldc2_w _ => am_const G.2.2.1 e.2.2 n ls st H
  | .getstatic _ => am_const G.2.2.1 e.2.2 n ls st H
  | .iload k => am_loadI k n ls st H
  | .iload_n k => am_loadI k.val n ls st H
  | .lload k => am_loadL k n ls st H
  | .lload_n k => am_loadL k.val n ls st H
  | .fload k => am_loadF k n ls st H
  | .fload_n k => am_loadF k.val n ls st H
  | .dload k => am_loadD k n ls st H
  | .dload_n k => am_loadD k.val n ls st H
  | .aload k => am_loadA k n ls st H
  | .aload_n k => am_loadA k.val n ls st H
  | .istore k => am_storeI k n ls st H
  | .istore_n k => am_storeI k.val n ls st H
  | .lstore k => am_storeL k n ls st H
  | .lstore_n k => am_storeL k.val n ls st H
  | .fstore k => am_storeF k n ls st H
  | .fstore_n k => am_storeF k.val n ls st H
  | .dstore k => am_storeD k n ls st H
  | .dstore_n k => am_storeD k.val n ls st H
  | .astore k => am_storeA k n ls st H
  | .astore_n k => am_storeA k.val n ls st H
  | .iinc k x => am_inc k x n ls st H
  | .iadd => am_ib (· + ·) n ls st H
  | .isub => am_ib (· - ·) n ls st H
  | .imul => am_ib (· * ·) n ls st H
  | .iand => am_ib (· &&& ·) n ls st H
  | .ior => am_ib (· ||| ·) n ls st H
  | .ixor => am_ib (· ^^^ ·) n ls st H
  | .ishl => am_ib (fun x y => x <<< (y &&& 31)) n ls st H
  | .ishr => am_ib (fun x y => x >>> (y &&& 31)) n ls st H
  | .iushr => am_ib (fun x y => (x.toUInt32 >>> (y.toUInt32 &&& Int32.toUInt32 31)).toInt32) n ls st H
  | .idiv => am_ibz (· / ·) n ls st H
  | .irem => am_ibz (fun x y => x - x / y * y) n ls st H
  | .ineg => am_iu (fun x => .int (-x)) n ls st H
  | .i2l => am_iu (fun x => .long x.toInt64) n ls st H
  | .i2f => am_iu (fun x => .float (FP.i2f x)) n ls st H
  | .i2d => am_iu (fun x => .double (FP.i2d x)) n ls st H
  | .i2b => am_iu (fun x => .int x.toInt8.toInt32) n ls st H
  | .i2c => am_iu (fun x => .int (x.toUInt32 % 65536).toInt32) n ls st H
  | .ladd => am_lb (· + ·) n ls st H
  | .land => am_lb (· &&& ·) n ls st H
  | .lor => am_lb (· ||| ·) n ls st H
  | .l2i => am_l2i n ls st H
  | .lcmp => am_lcmp n ls st H
  | .fcmp op => am_fcmp op n ls st H
  | .dcmp op => am_dcmp op n ls st H
  | .f2d => am_f2d n ls st H
  | .fdiv => am_fdiv n ls st H
  | .ddiv => am_ddiv n ls st H
  | .pop => am_pop n ls st H
  | .dup => am_dup n ls st H
  | .dup_x1 => am_dupx1 n ls st H
  | .dup2 => am_dup2 n ls st H
  | .goto off => am_goto off pc ls st H
  | .ifCond c off => am_if c off pc n ls st H
  | .if_icmp c off => am_icmp c off pc n ls st H
  | .if_acmp c off => am_acmp c off pc n ls st H
  | .ifnull off => am_ifnull off pc n ls st H
  | .ifnonnull off => am_ifnonnull off pc n ls st H
  | .tableswitch d lo hi os => am_tsw d lo hi os pc ls st H
  | .lookupswitch d ps => am_lsw d ps pc ls st H
  | .getfield _ => am_get G.1 e.2.2 n ls st H
  | .putfield _ => am_putf G.1 G.2.1 e.2.2 n ls st H
  | .iaload => am_aload (fun k => k == 1000) n ls st H
  | .laload => am_aload (fun k => k == 1001) n ls st H
  | .baload => am_aload (fun k => k == 1002) n ls st H
  | .caload => am_aload (fun k => k == 1003) n ls st H
  | .daload => am_aload (fun k => k == 1004) n ls st H
  | .aaload => am_aload (fun k => k == 1010 || k == 1011 || k == 1012) n ls st H
  | .iastore => am_astore 1000 G.2.1 (am_fit 0) n ls st H
  | .lastore => am_astore 1001 G.2.1 (am_fit 1) n ls st H
  | .bastore => am_astore 1002 G.2.1 (am_fit 4) n ls st H
  | .castore => am_astore 1003 G.2.1 (am_fit 5) n ls st H
  | .dastore => am_astore 1004 G.2.1 (am_fit 3) n ls st H
  | .aastore => am_aastore G.2.1 n ls st H
  | .arraylength => am_alen n ls st H
  | .new _ => am_newo e.2.2 n ls st H
  | .newarray _ => am_newa e.2.2 n ls st H
  | .anewarray _ => am_newa e.2.2 n ls st H
  | .multianewarray _ _ => am_multi n ls st H
  | .checkcast _ => am_cast e.2.2 n ls st H
  | .instanceof _ => am_inst e.2.2 n ls st H
  | .ireturn => am_retI e.2.2 st
  | .lreturn => am_retL st
  | .freturn => am_retF st
  | .dreturn => am_retD st
  | .areturn => am_ret am_isR ls st H
  | .return_ => am_retV st
  | .athrow => am_throw st H
  | .invokestatic _ => am_static G.2.1 e.2.2 n ls st H
  | .invokespecial _ => am_special e.2.2 n ls st H
  | .invokevirtual _ => am_virt G.2.1 G.2.2.1 e.2.2 n ls st H
  | .invokeinterface _ _ => am_virt G.2.1 G.2.2.1 e.2.2 n ls st H
  | .invokedynamic _ => am_recEq e.2.2 n ls st H
  | _ => none
/-! a run: P = (code by method and pc, locals' number by method, handlers by method) -/
abbrev am_P : Type := (Nat → Nat → Option am_E) × (Nat → Nat) × (Nat → List (Nat × Nat × Nat × Nat))
/-- a handler's row: from, to, where, the class (999: any) -/
def am_hnd (xs : Nat → Nat → Option Bool) (pc k : Nat) : List (Nat × Nat × Nat × Nat) → Option (Option Nat)
  | [] => some none
  | (f, t, h, c) :: r => if f ≤ pc ∧ pc < t then (if c = 999 then some (some h) else match xs k c with
      | none => none
      | some true => some (some h)
      | some false => am_hnd xs pc k r) else am_hnd xs pc k r
def am_ent (L : Nat) (as : List Value) : List Value := as ++ List.replicate (L - as.length) (.retAddr 0)
def am_run (P : am_P) (G : am_G) : Nat → Nat → Nat → Nat → List Value → List Value → am_H → Option (am_O × am_H)
  | 0, _, _, _, _, _, _ => none
  | n + 1, d, M, pc, ls, st, H => match P.1 M pc with
    | none => none
    | some e =>
      let thrown (a : Nat) (H : am_H) : Option (am_O × am_H) := match H.1 a with
        | none => none
        | some (k, _) => match am_hnd G.2.2.2 pc k (P.2.2 M) with
          | some (some h) => am_run P G n d M h ls [.ref a] H
          | some none => if G.2.1 ≤ a then some (.error a, H) else none
          | none => none
      match am_step G pc e ls st H with
      | none => none
      | some (.inl (pc', ls', st', H')) => am_run P G n d M pc' ls' st' H'
      | some (.inr (.inl (M', as, rest))) => match d with
        | 0 => none
        | d' + 1 => if as.length ≤ P.2.1 M' then (match am_run P G n d' M' 0 (am_ent (P.2.1 M') as) [] H with
          | none => none
          | some (.ok v, H') => am_run P G n (d' + 1) M e.2.1 ls (v.toList ++ rest) H'
          | some (.error a, H') => thrown a H') else none
      | some (.inr (.inr (.inl v))) => some (.ok v, H)
      | some (.inr (.inr (.inr a))) => thrown a H
