set_option maxRecDepth 100000
/-! ===== A PURE MACHINE: one step of a method's bytecode over a pure memory =====
Values: .ref k is the k-th object of the memory; .retAddr j is the j-th thing that lies outside (a constant, a text); .float 0 marks an unset local. -/
/-- how many objects; their tags; arrays' lengths; how many cells and slots were made -/
abbrev gx_G : Type := Nat × (Nat → Nat) × (Nat → Nat) × Nat × Nat
/-- references, ints, longs: by object and place -/
abbrev gx_M : Type := (Nat → Nat → Value) × (Nat → Nat → Int32) × (Nat → Nat → Int64)
abbrev gx_S : Type := gx_G × gx_M
abbrev gx_R : Type := (Option Value ⊕ Nat) × gx_S
/-- what a step asks for: to go on, an end, a call, a throw -/
abbrev gx_A : Type := (Nat × List Value × List Value × gx_S) ⊕ gx_R ⊕ (gx_Y × List Value × gx_S × Nat × List Value × List Value) ⊕ (Nat × gx_S)
def gx_n (S : gx_S) : Nat := S.1.1
def gx_tag (S : gx_S) (a : Nat) : Nat := S.1.2.1 a
def gx_len (S : gx_S) (a : Nat) : Nat := S.1.2.2.1 a
def gx_un : Value := .float 0
def gx_up {α : Type} (f : Nat → Nat → α) (a k : Nat) (v : α) : Nat → Nat → α := fun b j => if b = a ∧ j = k then v else f b j
def gx_u1 {α : Type} (f : Nat → α) (a : Nat) (v : α) : Nat → α := fun b => if b = a then v else f b
def gx_isR (v : Value) : Bool := match v with
  | .null => true
  | .ref _ => true
  | .retAddr _ => true
  | _ => false
def gx_c1 (v : Value) : Bool := match v with
  | .int _ => true
  | .null => true
  | .ref _ => true
  | .retAddr _ => true
  | _ => false
/-- 0 an int, 1 a long, 2 a reference, 3 none of ours -/
def gx_kd (ty : FieldType) : Nat := match ty with
  | .int => 0
  | .boolean => 0
  | .byte => 0
  | .short => 0
  | .char => 0
  | .long => 1
  | .object _ => 2
  | .array _ => 2
  | _ => 3
def gx_val (S : gx_S) (a k : Nat) (kd : Nat) : Value := match kd with
  | 0 => .int (S.2.2.1 a k)
  | 1 => .long (S.2.2.2 a k)
  | _ => S.2.1 a k
def gx_put (S : gx_S) (a k : Nat) (v : Value) : gx_S := match v with
  | .int x => (S.1, S.2.1, gx_up S.2.2.1 a k x, S.2.2.2)
  | .long x => (S.1, S.2.1, S.2.2.1, gx_up S.2.2.2 a k x)
  | v => (S.1, gx_up S.2.1 a k v, S.2.2.1, S.2.2.2)
/-- a new object or array, all zero -/
def gx_mk (S : gx_S) (tg ln dc ds : Nat) : gx_S :=
  ((S.1.1 + 1, gx_u1 S.1.2.1 S.1.1 tg, gx_u1 S.1.2.2.1 S.1.1 ln, S.1.2.2.2.1 + dc, S.1.2.2.2.2 + ds), gx_u1 S.2.1 S.1.1 (fun _ => .null), gx_u1 S.2.2.1 S.1.1 (fun _ => 0), gx_u1 S.2.2.2 S.1.1 (fun _ => 0))
def gx_k (len n : Nat) (x : Option gx_A) : Option gx_A := if len = n then x else none
def gx_go (pc : Nat) (ls st : List Value) (S : gx_S) : Option gx_A := some (.inl (pc, ls, st, S))
def gx_thr (q : Nat) (S : gx_S) : Option gx_A := some (.inr (.inr (.inr (q, S))))
/-- the machine makes an exception by itself and throws it -/
def gx_exc (S : gx_S) (tg dc ds : Nat) : Option gx_A := gx_thr S.1.1 (gx_mk S tg 0 dc ds)
def gx_npe (S : gx_S) : Option gx_A := gx_exc S 11 1 8
/-- behind an array's end; the array isn't longer than 65536 (the message's length) -/
def gx_oob (S : gx_S) (n : Nat) : Option gx_A := if n ≤ 65536 then gx_exc S 13 3 1010 else none
/-- what lies below a call's values takes no more than eight words -/
def gx_w8 (st : List Value) : Bool := decide (st.length ≤ 4) || decide ((st.map fun v => v.category).sum ≤ 8)
def gx_st1 (ls : List Value) (i : Nat) (v : Value) : List Value := match i with
  | 0 => ls.set 0 v
  | j + 1 => match ls[j]? with
    | some (.long _) => (ls.set j gx_un).set (j + 1) v
    | _ => ls.set (j + 1) v
def gx_st2 (ls : List Value) (i : Nat) (v : Value) : List Value := (gx_st1 ls i v).set (i + 1) gx_un
def gx_br (pc : Nat) (off : Int) (f : Nat → Option gx_A) : Option gx_A := if 0 ≤ (pc : Int) + off then f ((pc : Int) + off).toNat else none
def gx_ldI (ls : List Value) (i : Nat) (f : Value → Option gx_A) : Option gx_A := match ls[i]? with
  | some (.int x) => f (.int x)
  | _ => none
def gx_ldJ (ls : List Value) (i : Nat) (f : Value → Option gx_A) : Option gx_A := match ls[i]? with
  | some (.long x) => f (.long x)
  | _ => none
def gx_ldR (ls : List Value) (i : Nat) (f : Value → Option gx_A) : Option gx_A := match ls[i]? with
  | some v => if gx_isR v = true then f v else none
  | _ => none
def gx_stI (Y : gx_Y) (i : Nat) (ls st : List Value) (f : List Value → List Value → Option gx_A) : Option gx_A := match st with
  | .int x :: st' => if i < gx_mL Y then f (gx_st1 ls i (.int x)) st' else none
  | _ => none
def gx_stJ (Y : gx_Y) (i : Nat) (ls st : List Value) (f : List Value → List Value → Option gx_A) : Option gx_A := match st with
  | .long x :: st' => if i + 1 < gx_mL Y then f (gx_st2 ls i (.long x)) st' else none
  | _ => none
def gx_stR (Y : gx_Y) (i : Nat) (ls st : List Value) (f : List Value → List Value → Option gx_A) : Option gx_A := match st with
  | v :: st' => if i < gx_mL Y ∧ gx_isR v = true then f (gx_st1 ls i v) st' else none
  | _ => none
def gx_ii (st : List Value) (f : Int32 → Int32 → Option Value) (k : List Value → Option gx_A) : Option gx_A := match st with
  | .int y :: .int x :: st' => match f x y with
    | some v => k (v :: st')
    | none => none
  | _ => none
def gx_jj (st : List Value) (f : Int64 → Int64 → Option Value) (k : List Value → Option gx_A) : Option gx_A := match st with
  | .long y :: .long x :: st' => match f x y with
    | some v => k (v :: st')
    | none => none
  | _ => none
def gx_i1 (st : List Value) (f : Int32 → Value) (k : List Value → Option gx_A) : Option gx_A := match st with
  | .int x :: st' => k (f x :: st')
  | _ => none
def gx_j1 (st : List Value) (f : Int64 → Value) (k : List Value → Option gx_A) : Option gx_A := match st with
  | .long x :: st' => k (f x :: st')
  | _ => none
def gx_if1 (c : Jvm.ClassFile.Cond) (x : Int32) (A B : Option gx_A) : Option gx_A := match c with
  | .eq => if x = 0 then A else B
  | .ne => if x = 0 then B else A
  | .lt => if x < 0 then A else B
  | .ge => if 0 ≤ x then A else B
  | .gt => if 0 < x then A else B
  | .le => if x ≤ 0 then A else B
def gx_if2 (c : Jvm.ClassFile.Cond) (x y : Int32) (A B : Option gx_A) : Option gx_A := match c with
  | .eq => if x = y then A else B
  | .ne => if x = y then B else A
  | .lt => if x < y then A else B
  | .ge => if y ≤ x then A else B
  | .gt => if y < x then A else B
  | .le => if x ≤ y then A else B
/-- references that may be compared: objects, null, the constants 0 .. 4, the empty array 5 -/
def gx_cmp (v w : Value) : Bool := match v, w with
  | .retAddr i, .retAddr j => decide ((i < 5 ∧ j < 5) ∨ (i = 5 ∧ j = 5))
  | .retAddr i, w => decide (i < 6) && gx_isR w
  | v, .retAddr j => decide (j < 6) && gx_isR v
  | v, w => gx_isR v && gx_isR w
def gx_ifa (c : ACond) (v w : Value) (A B : Option gx_A) : Option gx_A := match c with
  | .eq => if v = w then A else B
  | .ne => if v = w then B else A
/-- may a value lie in a field of this type -/
def gx_fit (ty : FieldType) (v : Value) : Bool := match ty, v with
  | .int, .int _ => true
  | .boolean, .int x => decide (x = 0 ∨ x = 1)
  | .long, .long _ => true
  | .object _, v => gx_isR v
  | .array _, v => gx_isR v
  | _, _ => false
/-- a field of a thing outside: the texts' value (0) and coder (1) -/
def gx_xf (j : Nat) (f : Nat) : Option Value := if 16 ≤ j ∧ j < 31 then (if f = 0 then some (.retAddr (j + 32)) else some (.int 0)) else none
/-- the script -/
def gx_scL (Y : gx_Y) : Nat := gx_sk Y % 1024
def gx_scV (Y : gx_Y) (i : Nat) : Int32 := Int32.ofNat ((gx_sk Y / 1024 - 1) / 2 ^ (32 * i))
/-- the length of an array outside -/
def gx_xl (Y : gx_Y) (j : Nat) : Option Nat := if j = 64 ∧ 0 < gx_sk Y then some (gx_scL Y) else if j = 5 then some 0 else if 48 ≤ j ∧ j < 63 then some (gx_slen.getD (j - 48) 0) else none
def gx_xb (j k : Nat) : Int32 := (gx_sbyt.getD (j - 48) []).getD k 0
/-- the values on the stack that are a call's, in their order, and what lies below -/
def gx_pop (n : Nat) (st : List Value) : Option (List Value × List Value) := if n ≤ st.length then some ((st.take n).reverse, st.drop n) else none
def gx_ent (Y : gx_Y) (args : List Value) : List Value :=
  let l := args.flatMap (fun v => if v.category = 2 then [v, gx_un] else [v])
  l ++ List.replicate (gx_mL Y - l.length) gx_un
/-- a call: room below, and the values of the frame's stack that stay -/
def gx_call (Y Y' : gx_Y) (args : List Value) (S : gx_S) (npc : Nat) (ls rest : List Value) : Option gx_A :=
  if gx_ht Y' + 1 ≤ gx_ht Y ∧ gx_w8 rest = true ∧ gx_mL Y' ≤ 45 ∧ gx_sk Y' = 0 ∧ (args.map fun v => v.category).sum ≤ gx_mL Y' then some (.inr (.inr (.inl (Y', args, S, npc, ls, rest)))) else none
def gx_lower (Y Y' : gx_Y) : gx_Y := if gx_nm Y = gx_nm Y' then (gx_nm Y', gx_cd Y', gx_mL Y', gx_rt Y', gx_hh Y', gx_oc Y', gx_ht Y - 1) else Y'
def gx_vcall (Y : gx_Y) (ix npc : Nat) (ls st : List Value) (S : gx_S) (b : Value) (tg n : Nat) (as rest : List Value) : Option gx_A :=
  match (gx_vT (gx_oc Y)).find? (fun e => e.1 == ix && e.2.1 == tg) with
  | some e => if e.2.2.2.1 = n then gx_call Y e.2.2.2.2 (b :: as) S npc ls rest else none
  | none => none
/-- how many values a virtual call takes, without its object -/
def gx_vn (oc ix : Nat) : Option Nat := ((gx_vT oc).find? (fun e => e.1 == ix)).map (fun e => e.2.2.2.1)
/-- arraycopy of arrays of ints, bytes, shorts, longs -/
def gx_copy (Y : gx_Y) (pc : Nat) (ls st : List Value) (S : gx_S) : Option gx_A := match st with
  | .int n :: .int dp :: .ref a :: .int sp :: .ref b :: st' =>
    if gx_w8 st' = true ∧ 1 ≤ gx_ht Y then
      if gx_tag S a ≠ gx_tag S b then
        (if (32 ≤ gx_tag S a ∧ gx_tag S a ≤ 36) ∧ (32 ≤ gx_tag S b ∧ gx_tag S b ≤ 36) then gx_exc S 14 3 1010 else none)
      else if sp < 0 ∨ dp < 0 ∨ n < 0 ∨ gx_len S b < sp.toNatClampNeg + n.toNatClampNeg ∨ gx_len S a < dp.toNatClampNeg + n.toNatClampNeg then
        (if 32 ≤ gx_tag S a ∧ gx_tag S a ≤ 36 then gx_oob S (max (gx_len S a) (gx_len S b)) else none)
      else if gx_tag S a = 36 then gx_go (pc + 3) ls st' (S.1, S.2.1, S.2.2.1, gx_u1 S.2.2.2 a (va_cpy (S.2.2.2 b) (S.2.2.2 a) sp.toNatClampNeg dp.toNatClampNeg n.toNatClampNeg))
      else if 32 ≤ gx_tag S a ∧ gx_tag S a < 36 then gx_go (pc + 3) ls st' (S.1, S.2.1, gx_u1 S.2.2.1 a (va_cpy (S.2.2.1 b) (S.2.2.1 a) sp.toNatClampNeg dp.toNatClampNeg n.toNatClampNeg), S.2.2.2)
      else none
    else none
  | .int _ :: .int _ :: .null :: .int _ :: .ref _ :: st' => if gx_w8 st' = true ∧ 1 ≤ gx_ht Y then gx_npe S else none
  | .int _ :: .int _ :: v :: .int _ :: .null :: st' => if gx_w8 st' = true ∧ 1 ≤ gx_ht Y ∧ gx_isR v = true then gx_npe S else none
  | _ => none
def gx_bi (Y : gx_Y) (b pc : Nat) (ls st : List Value) (S : gx_S) : Option gx_A := match b with
  | 1 => match st with
    | .int y :: .int x :: st' => if gx_w8 st' = true ∧ 1 ≤ gx_ht Y then gx_go (pc + 3) ls (.int (if y < x then y else x) :: st') S else none
    | _ => none
  | 2 => match st with
    | .int y :: .int x :: st' => if gx_w8 st' = true ∧ 1 ≤ gx_ht Y then gx_go (pc + 3) ls (.int (if x < y then y else x) :: st') S else none
    | _ => none
  | 3 => match st with
    | .long x :: st' => if gx_w8 st' = true ∧ 1 ≤ gx_ht Y then gx_go (pc + 3) ls (.long (if 0 < x then x else -x) :: st') S else none
    | _ => none
  | 4 => gx_copy Y pc ls st S
  | _ => none
/-- reading an array's place -/
def gx_ald (S : gx_S) (a : Nat) (i : Int32) (v : Value) (pc : Nat) (ls st : List Value) : Option gx_A :=
  if i < 0 ∨ gx_len S a ≤ i.toNatClampNeg then gx_oob S (gx_len S a) else gx_go (pc + 1) ls (v :: st) S
def gx_ast (S : gx_S) (a : Nat) (i : Int32) (v : Value) (pc : Nat) (ls st : List Value) : Option gx_A :=
  if i < 0 ∨ gx_len S a ≤ i.toNatClampNeg then gx_oob S (gx_len S a) else gx_go (pc + 1) ls st (gx_put S a i.toNatClampNeg v)
def gx_rok (Y : gx_Y) (v : Int32) : Bool := match gx_rt Y with
  | some .int => true
  | some .boolean => decide (v = 0 ∨ v = 1)
  | some .char => decide (narrow .char (.int v) = .int v)
  | some .byte => decide (narrow .byte (.int v) = .int v)
  | _ => false
def gx_rr (Y : gx_Y) : Bool := match gx_rt Y with
  | some (.object _) => true
  | some (.array _) => true
  | _ => false
def gx_done (v : Option Value) (S : gx_S) : Option gx_A := some (.inr (.inl (.inl v, S)))
/-- one instruction -/
def gx_ins (Y : gx_Y) (pc len : Nat) (ls st : List Value) (S : gx_S) (i : Instr) : Option gx_A := match i with
  | .aconst_null => gx_k len 1 (gx_go (pc + 1) ls (.null :: st) S)
  | .iconst n => gx_k len 1 (gx_go (pc + 1) ls (.int (Int32.ofInt n) :: st) S)
  | .lconst n => gx_k len 1 (gx_go (pc + 1) ls (.long (Int64.ofNat (n : Nat)) :: st) S)
  | .bipush n => gx_k len 2 (gx_go (pc + 2) ls (.int (Int8.ofInt n).toInt32 :: st) S)
  | .sipush n => gx_k len 3 (gx_go (pc + 3) ls (.int (Int16.ofInt n).toInt32 :: st) S)
  | .ldc ix => gx_k len 2 (match (gx_lT (gx_oc Y)).find? (fun e => e.1 == ix) with
    | some e => gx_go (pc + 2) ls (e.2 :: st) S
    | none => none)
  | .ldc_w ix => gx_k len 3 (match (gx_lT (gx_oc Y)).find? (fun e => e.1 == ix) with
    | some (_, .int v) => gx_go (pc + 3) ls (.int v :: st) S
    | _ => none)
  | .ldc2_w ix => gx_k len 3 (match (gx_jT (gx_oc Y)).find? (fun e => e.1 == ix) with
    | some e => gx_go (pc + 3) ls (.long e.2 :: st) S
    | none => none)
  | .iload_n k => gx_k len 1 (gx_ldI ls (k : Nat) fun v => gx_go (pc + 1) ls (v :: st) S)
  | .iload k => gx_k len 2 (gx_ldI ls k fun v => gx_go (pc + 2) ls (v :: st) S)
  | .lload_n k => gx_k len 1 (gx_ldJ ls (k : Nat) fun v => gx_go (pc + 1) ls (v :: st) S)
  | .lload k => gx_k len 2 (gx_ldJ ls k fun v => gx_go (pc + 2) ls (v :: st) S)
  | .aload_n k => gx_k len 1 (gx_ldR ls (k : Nat) fun v => gx_go (pc + 1) ls (v :: st) S)
  | .istore_n k => gx_k len 1 (gx_stI Y (k : Nat) ls st fun ls' st' => gx_go (pc + 1) ls' st' S)
  | .istore k => gx_k len 2 (gx_stI Y k ls st fun ls' st' => gx_go (pc + 2) ls' st' S)
  | .lstore_n k => gx_k len 1 (gx_stJ Y (k : Nat) ls st fun ls' st' => gx_go (pc + 1) ls' st' S)
  | .lstore k => gx_k len 2 (gx_stJ Y k ls st fun ls' st' => gx_go (pc + 2) ls' st' S)
  | .astore_n k => gx_k len 1 (gx_stR Y (k : Nat) ls st fun ls' st' => gx_go (pc + 1) ls' st' S)
  | .astore k => gx_k len 2 (gx_stR Y k ls st fun ls' st' => gx_go (pc + 2) ls' st' S)
  | .iinc k n => gx_k len 3 (match ls[k]? with
    | some (.int x) => if k < gx_mL Y then gx_go (pc + 3) (gx_st1 ls k (.int (x + Int32.ofInt n))) st S else none
    | _ => none)
  | .iadd => gx_k len 1 (gx_ii st (fun x y => some (.int (x + y))) fun st' => gx_go (pc + 1) ls st' S)
  | .isub => gx_k len 1 (gx_ii st (fun x y => some (.int (x - y))) fun st' => gx_go (pc + 1) ls st' S)
  | .imul => gx_k len 1 (gx_ii st (fun x y => some (.int (x * y))) fun st' => gx_go (pc + 1) ls st' S)
  | .idiv => gx_k len 1 (gx_ii st (fun x y => if y = 0 then none else some (.int (x / y))) fun st' => gx_go (pc + 1) ls st' S)
  | .irem => gx_k len 1 (gx_ii st (fun x y => if y = 0 then none else some (.int (x - x / y * y))) fun st' => gx_go (pc + 1) ls st' S)
  | .iand => gx_k len 1 (gx_ii st (fun x y => some (.int (x &&& y))) fun st' => gx_go (pc + 1) ls st' S)
  | .ior => gx_k len 1 (gx_ii st (fun x y => some (.int (x ||| y))) fun st' => gx_go (pc + 1) ls st' S)
  | .ixor => gx_k len 1 (gx_ii st (fun x y => some (.int (x ^^^ y))) fun st' => gx_go (pc + 1) ls st' S)
  | .ishl => gx_k len 1 (gx_ii st (fun x y => some (.int (x <<< (y &&& 31)))) fun st' => gx_go (pc + 1) ls st' S)
  | .ishr => gx_k len 1 (gx_ii st (fun x y => some (.int (x >>> (y &&& 31)))) fun st' => gx_go (pc + 1) ls st' S)
  | .iushr => gx_k len 1 (gx_ii st (fun x y => some (.int (x.toUInt32 >>> (y.toUInt32 &&& Int32.toUInt32 31)).toInt32)) fun st' => gx_go (pc + 1) ls st' S)
  | .ineg => gx_k len 1 (gx_i1 st (fun x => .int (-x)) fun st' => gx_go (pc + 1) ls st' S)
  | .i2l => gx_k len 1 (gx_i1 st (fun x => .long x.toInt64) fun st' => gx_go (pc + 1) ls st' S)
  | .i2b => gx_k len 1 (gx_i1 st (fun x => .int x.toInt8.toInt32) fun st' => gx_go (pc + 1) ls st' S)
  | .i2s => gx_k len 1 (gx_i1 st (fun x => .int x.toInt16.toInt32) fun st' => gx_go (pc + 1) ls st' S)
  | .i2c => gx_k len 1 (gx_i1 st (fun x => .int (x.toUInt32 % 65536).toInt32) fun st' => gx_go (pc + 1) ls st' S)
  | .l2i => gx_k len 1 (gx_j1 st (fun x => .int x.toInt32) fun st' => gx_go (pc + 1) ls st' S)
  | .ladd => gx_k len 1 (gx_jj st (fun x y => some (.long (x + y))) fun st' => gx_go (pc + 1) ls st' S)
  | .lsub => gx_k len 1 (gx_jj st (fun x y => some (.long (x - y))) fun st' => gx_go (pc + 1) ls st' S)
  | .lmul => gx_k len 1 (gx_jj st (fun x y => some (.long (x * y))) fun st' => gx_go (pc + 1) ls st' S)
  | .ldiv => gx_k len 1 (gx_jj st (fun x y => if y = 0 then none else some (.long (x / y))) fun st' => gx_go (pc + 1) ls st' S)
  | .lrem => gx_k len 1 (gx_jj st (fun x y => if y = 0 then none else some (.long (x - x / y * y))) fun st' => gx_go (pc + 1) ls st' S)
  | .land => gx_k len 1 (gx_jj st (fun x y => some (.long (x &&& y))) fun st' => gx_go (pc + 1) ls st' S)
  | .lor => gx_k len 1 (gx_jj st (fun x y => some (.long (x ||| y))) fun st' => gx_go (pc + 1) ls st' S)
  | .lcmp => gx_k len 1 (gx_jj st (fun x y => some (.int (lg_cmp x y))) fun st' => gx_go (pc + 1) ls st' S)
  | .lshl => gx_k len 1 (match st with
    | .int y :: .long x :: st' => gx_go (pc + 1) ls (.long (x <<< (y.toInt64 &&& 63)) :: st') S
    | _ => none)
  | .dup => gx_k len 1 (match st with
    | v :: st' => if gx_c1 v = true then gx_go (pc + 1) ls (v :: v :: st') S else none
    | _ => none)
  | .dup2 => gx_k len 1 (match st with
    | v :: w :: st' => if gx_c1 v = true ∧ gx_c1 w = true then gx_go (pc + 1) ls (v :: w :: v :: w :: st') S else none
    | _ => none)
  | .dup_x1 => gx_k len 1 (match st with
    | v :: w :: st' => if gx_c1 v = true ∧ gx_c1 w = true then gx_go (pc + 1) ls (v :: w :: v :: st') S else none
    | _ => none)
  | .pop => gx_k len 1 (match st with
    | v :: st' => if gx_c1 v = true then gx_go (pc + 1) ls st' S else none
    | _ => none)
  | .goto off => gx_k len 3 (gx_br pc off fun t => gx_go t ls st S)
  | .ifCond c off => gx_k len 3 (match st with
    | .int x :: st' => gx_br pc off fun t => gx_if1 c x (gx_go t ls st' S) (gx_go (pc + 3) ls st' S)
    | _ => none)
  | .if_icmp c off => gx_k len 3 (match st with
    | .int y :: .int x :: st' => gx_br pc off fun t => gx_if2 c x y (gx_go t ls st' S) (gx_go (pc + 3) ls st' S)
    | _ => none)
  | .if_acmp c off => gx_k len 3 (match st with
    | w :: v :: st' => if gx_cmp v w = true then gx_br pc off fun t => gx_ifa c v w (gx_go t ls st' S) (gx_go (pc + 3) ls st' S) else none
    | _ => none)
  | .ifnonnull off => gx_k len 3 (match st with
    | .null :: st' => gx_go (pc + 3) ls st' S
    | .ref _ :: st' => gx_br pc off fun t => gx_go t ls st' S
    | _ => none)
  | .tableswitch d lo hi offs => match st with
    | .int x :: st' => if x.toInt < lo ∨ hi < x.toInt then gx_br pc d fun t => gx_go t ls st' S else match offs[(x.toInt - lo).toNat]? with
      | some off => gx_br pc off fun t => gx_go t ls st' S
      | none => none
    | _ => none
  | .getstatic ix => gx_k len 3 (match (gx_gT (gx_oc Y)).find? (fun e => e.1 == ix) with
    | some e => gx_go (pc + 3) ls ((gx_st e.2).2.2.2 :: st) S
    | none => none)
  | .getfield ix => gx_k len 3 (match st with
    | .ref a :: st' => match (gx_flT (gx_oc Y)).find? (fun e => e.1 == ix && e.2.1 == gx_tag S a) with
      | some e => gx_go (pc + 3) ls (gx_val S a e.2.2.1 (gx_kd (gx_ty e.2.1 e.2.2.1)) :: st') S
      | none => none
    | .retAddr j :: st' => match (gx_xT (gx_oc Y)).find? (fun e => e.1 == ix) with
      | some e => match gx_xf j e.2 with
        | some v => gx_go (pc + 3) ls (v :: st') S
        | none => none
      | none => none
    | _ => none)
  | .putfield ix => gx_k len 3 (match st with
    | v :: .ref a :: st' => match (gx_flT (gx_oc Y)).find? (fun e => e.1 == ix && e.2.1 == gx_tag S a) with
      | some e => if gx_fit (gx_ty e.2.1 e.2.2.1) v = true ∧ ((gx_T e.2.1 e.2.2.1).2.2.2 = false ∨ ((gx_nm Y).name = "<init>" ∧ e.2.2.2 = 0 ∧ (gx_T e.2.1 e.2.2.1).1 = gx_cname (gx_oc Y))) then gx_go (pc + 3) ls st' (gx_put S a e.2.2.1 v) else none
      | none => none
    | _ => none)
  | .iaload => gx_k len 1 (match st with
    | .int i :: .ref a :: st' => if gx_tag S a = 32 then gx_ald S a i (.int (S.2.2.1 a i.toNatClampNeg)) pc ls st' else none
    | .int _ :: .null :: _ => gx_npe S
    | .int i :: .retAddr j :: st' => if (j = 64 ∧ 0 < gx_sk Y) ∧ ¬ (i < 0 ∨ gx_scL Y ≤ i.toNatClampNeg) then gx_go (pc + 1) ls (.int (gx_scV Y i.toNatClampNeg) :: st') S else none
    | _ => none)
  | .baload => gx_k len 1 (match st with
    | .int i :: .ref a :: st' => if gx_tag S a = 33 ∨ gx_tag S a = 34 then gx_ald S a i (.int (S.2.2.1 a i.toNatClampNeg)) pc ls st' else none
    | .int i :: .retAddr j :: st' => if (48 ≤ j ∧ j < 63) ∧ ¬ (i < 0 ∨ gx_slen.getD (j - 48) 0 ≤ i.toNatClampNeg) then gx_go (pc + 1) ls (.int (gx_xb j i.toNatClampNeg) :: st') S else none
    | _ => none)
  | .saload => gx_k len 1 (match st with
    | .int i :: .ref a :: st' => if gx_tag S a = 35 then gx_ald S a i (.int (S.2.2.1 a i.toNatClampNeg)) pc ls st' else none
    | _ => none)
  | .laload => gx_k len 1 (match st with
    | .int i :: .ref a :: st' => if gx_tag S a = 36 then gx_ald S a i (.long (S.2.2.2 a i.toNatClampNeg)) pc ls st' else none
    | .int _ :: .null :: _ => gx_npe S
    | _ => none)
  | .aaload => gx_k len 1 (match st with
    | .int i :: .ref a :: st' => if (37 ≤ gx_tag S a ∧ gx_tag S a ≤ 39) ∧ ¬ (i < 0 ∨ gx_len S a ≤ i.toNatClampNeg) then (match S.2.1 a i.toNatClampNeg with
      | .ref b => gx_go (pc + 1) ls (.ref b :: st') S
      | .null => gx_go (pc + 1) ls (.null :: st') S
      | _ => none) else none
    | _ => none)
  | .iastore => gx_k len 1 (match st with
    | .int x :: .int i :: .ref a :: st' => if gx_tag S a = 32 then gx_ast S a i (.int x) pc ls st' else none
    | _ => none)
  | .bastore => gx_k len 1 (match st with
    | .int x :: .int i :: .ref a :: st' => if gx_tag S a = 33 then gx_ast S a i (.int (vp_nar .byte x)) pc ls st' else if gx_tag S a = 34 then gx_ast S a i (.int (vp_nar .boolean x)) pc ls st' else none
    | _ => none)
  | .sastore => gx_k len 1 (match st with
    | .int x :: .int i :: .ref a :: st' => if gx_tag S a = 35 then gx_ast S a i (.int (vp_nar .short x)) pc ls st' else none
    | _ => none)
  | .lastore => gx_k len 1 (match st with
    | .long x :: .int i :: .ref a :: st' => if gx_tag S a = 36 then gx_ast S a i (.long x) pc ls st' else none
    | .long _ :: .int _ :: .null :: _ => gx_npe S
    | _ => none)
  | .aastore => gx_k len 1 (match st with
    | .null :: .int i :: .ref a :: st' => if (37 ≤ gx_tag S a ∧ gx_tag S a ≤ 39) ∧ ¬ (i < 0 ∨ gx_len S a ≤ i.toNatClampNeg) then gx_go (pc + 1) ls st' (gx_put S a i.toNatClampNeg .null) else none
    | .ref b :: .int i :: .ref a :: st' => if ¬ (i < 0 ∨ gx_len S a ≤ i.toNatClampNeg) ∧ ((gx_tag S a = 37 ∧ 2 ≤ gx_tag S b ∧ gx_tag S b ≤ 5) ∨ (gx_tag S a = 38 ∧ gx_tag S b = 6) ∨ (gx_tag S a = 39 ∧ gx_tag S b = 1)) then gx_go (pc + 1) ls st' (gx_put S a i.toNatClampNeg (.ref b)) else none
    | _ => none)
  | .arraylength => gx_k len 1 (match st with
    | .ref a :: st' => if 32 ≤ gx_tag S a ∧ gx_tag S a ≤ 39 then gx_go (pc + 1) ls (.int (Int32.ofNat (gx_len S a)) :: st') S else none
    | .null :: _ => gx_npe S
    | .retAddr j :: st' => match gx_xl Y j with
      | some n => gx_go (pc + 1) ls (.int (Int32.ofNat n) :: st') S
      | none => none
    | _ => none)
  | .new ix => gx_k len 3 (match (gx_nT (gx_oc Y)).find? (fun e => e.1 == ix) with
    | some e => gx_go (pc + 3) ls (.ref S.1.1 :: st) (gx_mk S e.2 0 1 (gx_N e.2))
    | none => none)
  | .newarray at_ => gx_k len 2 (match st with
    | .int n :: st' => match (match at_ with
        | .int => some 32
        | .byte => some 33
        | .boolean => some 34
        | .short => some 35
        | .long => some 36
        | _ => none : Option Nat) with
      | some t => if n < 0 then gx_exc S 12 3 1010 else if n.toNatClampNeg ≤ 65536 then gx_go (pc + 2) ls (.ref S.1.1 :: st') (gx_mk S t n.toNatClampNeg 1 n.toNatClampNeg) else none
      | none => none
    | _ => none)
  | .anewarray ix => gx_k len 3 (match st with
    | .int n :: st' => match (gx_aT (gx_oc Y)).find? (fun e => e.1 == ix) with
      | some e => if ¬ n < 0 ∧ n.toNatClampNeg ≤ 65536 then gx_go (pc + 3) ls (.ref S.1.1 :: st') (gx_mk S e.2 n.toNatClampNeg 1 n.toNatClampNeg) else none
      | none => none
    | _ => none)
  | .checkcast ix => gx_k len 3 (match st with
    | .null :: st' => gx_go (pc + 3) ls (.null :: st') S
    | .ref a :: st' => match (gx_cT (gx_oc Y)).find? (fun e => e.1 == ix && e.2 == gx_tag S a) with
      | some _ => gx_go (pc + 3) ls (.ref a :: st') S
      | none => none
    | _ => none)
  | .instanceof ix => gx_k len 3 (match st with
    | .null :: st' => gx_go (pc + 3) ls (.int 0 :: st') S
    | .ref a :: st' => match (gx_iT (gx_oc Y)).find? (fun e => e.1 == ix && e.2.1 == gx_tag S a) with
      | some e => if e.2.2 = 0 then gx_go (pc + 3) ls (.int 0 :: st') S else gx_go (pc + 3) ls (.int 1 :: st') S
      | none => none
    | _ => none)
  | .athrow => gx_k len 1 (match st with
    | .ref q :: _ => if gx_tag S q = 9 ∨ (11 ≤ gx_tag S q ∧ gx_tag S q ≤ 14) then gx_thr q S else none
    | _ => none)
  | .return_ => gx_k len 1 (match st, gx_rt Y with
    | [], none => gx_done none S
    | _, _ => none)
  | .ireturn => gx_k len 1 (match st with
    | [.int v] => if gx_rok Y v = true then gx_done (some (.int v)) S else none
    | _ => none)
  | .lreturn => gx_k len 1 (match st, gx_rt Y with
    | [.long v], some .long => gx_done (some (.long v)) S
    | _, _ => none)
  | .areturn => gx_k len 1 (match st with
    | [v] => if gx_rr Y = true ∧ gx_isR v = true then gx_done (some v) S else none
    | _ => none)
  | .invokestatic ix => gx_k len 3 (match (gx_bT (gx_oc Y)).find? (fun e => e.1 == ix) with
    | some e => gx_bi Y e.2 pc ls st S
    | none => match (gx_sT (gx_oc Y)).find? (fun e => e.1 == ix) with
      | some e => match gx_pop e.2.2.1 st with
        | some (as, rest) => gx_call Y (gx_lower Y e.2.2.2) as S (pc + 3) ls rest
        | none => none
      | none => none)
  | .invokespecial ix => gx_k len 3 (match (gx_bT (gx_oc Y)).find? (fun e => e.1 == ix) with
    | some e => match st with
      | .ref a :: st' => if e.2 = 5 ∧ gx_w8 st' = true ∧ 1 ≤ gx_ht Y then gx_go (pc + 3) ls st' S else none
      | _ => none
    | none => match (gx_pT (gx_oc Y)).find? (fun e => e.1 == ix) with
      | some e => match gx_pop e.2.2.1 st with
        | some (as, .ref a :: rest) => if gx_tag S a < 15 then gx_call Y e.2.2.2 (.ref a :: as) S (pc + 3) ls rest else none
        | _ => none
      | none => none)
  | .invokevirtual ix => gx_k len 3 (match gx_vn (gx_oc Y) ix with
    | some n => match gx_pop n st with
      | some (as, .ref a :: rest) => gx_vcall Y ix (pc + 3) ls st S (.ref a) (gx_tag S a) n as rest
      | some (as, .retAddr j :: rest) => if 16 ≤ j ∧ j < 31 then gx_vcall Y ix (pc + 3) ls st S (.retAddr j) 200 n as rest else none
      | _ => none
    | none => none)
  | _ => none
def gx_step (Y : gx_Y) (pc : Nat) (ls st : List Value) (S : gx_S) : Option gx_A := if st.length ≤ 32 then (match decode (gx_cd Y) pc with
  | .ok (i, len) => gx_ins Y pc len ls st S i
  | _ => none) else none
/-- who takes what is thrown at pc: none: no word of it; some none: nobody here -/
def gx_hd (oc : Nat) (tg pc : Nat) : List (Nat × Nat × Nat × Nat) → Option (Option Nat)
  | [] => some none
  | (s, e, h, ct) :: rest => if s ≤ pc ∧ pc < e then
      (if ct = 0 then none else match (gx_hT oc).find? (fun z => z.1 == ct && z.2.1 == tg) with
        | some z => if z.2.2 = 0 then gx_hd oc tg pc rest else some (some h)
        | none => none)
    else gx_hd oc tg pc rest
/-- the same, for a method (nothing is said of the law's own table) -/
def gx_hdY (Y : gx_Y) (tg pc : Nat) : Option (Option Nat) := if 0 < gx_sk Y then none else gx_hd (gx_oc Y) tg pc (gx_hh Y)
/-- what a call's answer lays on the stack -/
def gx_ret (Y : gx_Y) (v : Option Value) : Option (List Value) := match gx_rt Y, v with
  | none, none => some []
  | some .long, some (.long x) => some [.long x]
  | some (.object _), some v => if gx_isR v = true then some [v] else none
  | some (.array _), some v => if gx_isR v = true then some [v] else none
  | some .int, some (.int x) => some [.int x]
  | some .boolean, some (.int x) => some [.int x]
  | some .byte, some (.int x) => some [.int x]
  | some .char, some (.int x) => some [.int x]
  | _, _ => none
def gx_run : Nat → gx_Y → Nat → List Value → List Value → gx_S → Option gx_R
  | 0, _, _, _, _, _ => none
  | n + 1, Y, pc, ls, st, S => match gx_step Y pc ls st S with
    | none => none
    | some (.inl (pc', ls', st', S')) => gx_run n Y pc' ls' st' S'
    | some (.inr (.inl r)) => some r
    | some (.inr (.inr (.inl (Y', as, S1, npc, ls', st')))) => match gx_run n Y' 0 (gx_ent Y' as) [] S1 with
      | none => none
      | some (.inl v, S') => match gx_ret Y' v with
        | some vs => gx_run n Y npc ls' (vs ++ st') S'
        | none => none
      | some (.inr q, S') => match gx_hdY Y (gx_tag S' q) pc with
        | none => none
        | some none => some (.inr q, S')
        | some (some h) => gx_run n Y h ls' [.ref q] S'
    | some (.inr (.inr (.inr (q, S')))) => match gx_hdY Y (gx_tag S' q) pc with
      | none => none
      | some none => some (.inr q, S')
      | some (some h) => gx_run n Y h ls [.ref q] S'
