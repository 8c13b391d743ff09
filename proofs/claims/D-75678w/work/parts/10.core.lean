/-! THE SMALL EVALUATOR: abstract memory, one step, evaluation by fuel and call depth -/
/-- an abstract value: int, long, reference, the unset place -/
abbrev ck_A : Type := Int ⊕ (Int ⊕ (Option Nat ⊕ Unit))
abbrev vi (x : Int) : ck_A := .inl x
abbrev vl (x : Int) : ck_A := .inr (.inl x)
abbrev vr (x : Option Nat) : ck_A := .inr (.inr (.inl x))
abbrev vu : ck_A := .inr (.inr (.inr ()))
/-- memory: numbers, references, kinds (tag, length), how many ids, how many slots -/
def ck_M : Type := (Nat → Nat → Int) × (Nat → Nat → Option Nat) × (Nat → Nat × Nat) × Nat × Nat
def ck_M.V (M : ck_M) : Nat → Nat → Int := M.1
def ck_M.R (M : ck_M) : Nat → Nat → Option Nat := M.2.1
def ck_M.K (M : ck_M) : Nat → Nat × Nat := M.2.2.1
def ck_M.n (M : ck_M) : Nat := M.2.2.2.1
def ck_M.z (M : ck_M) : Nat := M.2.2.2.2
def ck_u2 {α : Type} (f : Nat → Nat → α) (i k : Nat) (v : α) : Nat → Nat → α := fun a b => if a = i then (if b = k then v else f a b) else f a b
def ck_u1 {α : Type} (f : Nat → α) (i : Nat) (v : α) : Nat → α := fun a => if a = i then v else f a
def ck_M.sV (M : ck_M) (i k : Nat) (v : Int) : ck_M := (ck_u2 M.V i k v, M.R, M.K, M.n, M.z)
def ck_M.sR (M : ck_M) (i k : Nat) (v : Option Nat) : ck_M := (M.V, ck_u2 M.R i k v, M.K, M.n, M.z)
/-- a new cell of a tag, of n places -/
def ck_M.mk (M : ck_M) (tag n : Nat) : ck_M := (ck_u1 M.V M.n (fun _ => 0), ck_u1 M.R M.n (fun _ => none), ck_u1 M.K M.n (tag, n), M.n + 1, M.z + n)
/-- the first n references of i copied over those of j -/
def ck_M.cp (M : ck_M) (i j n : Nat) : ck_M := (M.V, ck_u1 M.R j (fun k => if k < n then M.R i k else M.R j k), M.K, M.n, M.z)
/-- how many ids are of the start -/
abbrev ck_NS : Nat := 50
abbrev ck_i32 (x : Int) : Prop := -2147483648 ≤ x ∧ x < 2147483648
/-- a long, wrapped -/
def ck_w64 (x : Int) : Int := (Int64.ofInt x).toInt
def ck_and (x y : Int) : Int := (Int32.ofInt x &&& Int32.ofInt y).toInt
def ck_or (x y : Int) : Int := (Int32.ofInt x ||| Int32.ofInt y).toInt
def ck_xor (x y : Int) : Int := (Int32.ofInt x ^^^ Int32.ofInt y).toInt
def ck_ushr (x y : Int) : Int := ((Int32.ofInt x).toUInt32 >>> ((Int32.ofInt y).toUInt32 &&& Int32.toUInt32 31)).toInt32.toInt
def ck_land (x y : Int) : Int := (Int64.ofInt x &&& Int64.ofInt y).toInt
def ck_lor (x y : Int) : Int := (Int64.ofInt x ||| Int64.ofInt y).toInt
def ck_lshl (x y : Int) : Int := (Int64.ofInt x <<< ((Int32.ofInt y).toInt64 &&& 63)).toInt
def ck_b8 (x : Int) : Int := (Int32.ofInt x).toInt8.toInt32.toInt
def ck_c16 (x : Int) : Int := ((Int32.ofInt x).toUInt32 % 65536).toInt32.toInt
/-- how many words the values take -/
def ck_cat : List ck_A → Nat
  | [] => 0
  | .inr (.inl _) :: l => 2 + ck_cat l
  | _ :: l => 1 + ck_cat l
/-- the locals at an entry: a long takes two places; the rest unset, n in all -/
def ck_ent : Nat → List ck_A → List ck_A
  | 0, _ => []
  | n + 1, [] => vu :: ck_ent n []
  | 1, .inr (.inl _) :: _ => [vu]
  | n + 2, .inr (.inl x) :: l => vl x :: vu :: ck_ent n l
  | n + 1, v :: l => v :: ck_ent n l
section CkHelpers
variable {α : Type} (bad : α)
/-- a value that is set -/
def ck_nu (v : ck_A) (k : α) : α := match v with | .inr (.inr (.inr _)) => bad | _ => k
/-- pop n values: given top first, they come as arguments in order -/
def ck_pop : Nat → List ck_A → List ck_A → (List ck_A → List ck_A → α) → α
  | 0, acc, st, k => k acc st
  | n + 1, acc, v :: st, k => ck_nu bad v (ck_pop n (v :: acc) st k)
  | _ + 1, _, [], _ => bad
/-- read a local -/
def ck_lg : Nat → List ck_A → (ck_A → α) → α
  | 0, v :: _, k => k v
  | n + 1, _ :: l, k => ck_lg n l k
  | _, [], _ => bad
/-- write a local of one word (a long whose second half it hits is lost) -/
def ck_ls : Nat → ck_A → List ck_A → (List ck_A → α) → α
  | 0, v, _ :: l, k => k (v :: l)
  | 1, v, .inr (.inl _) :: _ :: l, k => k (vu :: v :: l)
  | n + 1, v, w :: l, k => ck_ls n v l (fun l' => k (w :: l'))
  | _, _, [], _ => bad
/-- write a long -/
def ck_ll : Nat → Int → List ck_A → (List ck_A → α) → α
  | 0, x, _ :: _ :: l, k => k (vl x :: vu :: l)
  | 1, x, .inr (.inl _) :: _ :: _ :: l, k => k (vu :: vl x :: vu :: l)
  | n + 1, x, w :: l, k => ck_ll n x l (fun l' => k (w :: l'))
  | _, _, [], _ => bad
  | 0, _, [_], _ => bad
def ck_pI (st : List ck_A) (k : Int → List ck_A → α) : α := match st with | .inl x :: st => k x st | _ => bad
def ck_pL (st : List ck_A) (k : Int → List ck_A → α) : α := match st with | .inr (.inl x) :: st => k x st | _ => bad
def ck_pR (st : List ck_A) (k : Option Nat → List ck_A → α) : α := match st with | .inr (.inr (.inl x)) :: st => k x st | _ => bad
def ck_p1 (st : List ck_A) (k : ck_A → List ck_A → α) : α := match st with | .inl x :: st => k (vi x) st | .inr (.inr (.inl x)) :: st => k (vr x) st | _ => bad
def ck_aI (v : ck_A) (k : Int → α) : α := match v with | .inl x => k x | _ => bad
def ck_aL (v : ck_A) (k : Int → α) : α := match v with | .inr (.inl x) => k x | _ => bad
def ck_aR (v : ck_A) (k : Option Nat → α) : α := match v with | .inr (.inr (.inl x)) => k x | _ => bad
def ck_nl (st : List ck_A) (k : α) : α := match st with | [] => k | _ => bad
def ck_sm (r : Option Nat) (k : Nat → α) : α := match r with | some x => k x | none => bad
end CkHelpers
/-- an entry of a class's table: tag, three numbers, a whole number -/
abbrev ck_E : Type := Nat × Nat × Nat × Nat × Int
/-- a method: its code (instruction, next place, target), its class's table, locals, what it answers (0 nothing, 1 int, 2 boolean, 3 byte, 4 char, 5 long, 6 reference), whether a constructor, handlers (from, to, at) -/
abbrev ck_D : Type := (Nat → Option (Instr × Nat × Nat)) × (Nat → Option ck_E) × Nat × Nat × Bool × List (Nat × Nat × Nat)
section CkHelpers2
variable {α : Type} (bad : α)
/-- a class's entry of a kind: field (any: 1; final: 11), static 2, method 3, int 4, long 5, text 6, class 8, array class 9 -/
def ck_eF (e : Option ck_E) (k : Nat → Nat → Nat → α) : α := match e with | some (1, c, f, ty, _) => k c f ty | some (11, c, f, ty, _) => k c f ty | some (12, c, f, ty, _) => k c f ty | _ => bad
def ck_eP (e : Option ck_E) (init : Bool) (k : Nat → Nat → Nat → α) : α := match e with | some (1, c, f, ty, _) => k c f ty | some (11, c, f, ty, _) => (match init with | true => k c f ty | false => bad) | _ => bad
def ck_eS (e : Option ck_E) (k : Nat → Nat → α) : α := match e with | some (2, f, ty, _, _) => k f ty | _ => bad
def ck_eM (ks : List Nat) (e : Option ck_E) (k : ck_E → α) : α := match e with | some (3, a, b, c, d) => bif ks.elem a then k (3, a, b, c, d) else bad | _ => bad
def ck_eC (e : Option ck_E) (k : Nat → Nat → α) : α := match e with | some (8, c, n, _, _) => k c n | _ => bad
def ck_eA (e : Option ck_E) (k : Nat → α) : α := match e with | some (9, t, _, _, _) => k t | some (8, _, _, t + 1, _) => k (t + 1) | _ => bad
def ck_eK (e : Option ck_E) (k : ck_A → α) : α := match e with | some (4, _, _, _, n) => k (vi n) | some (6, i, _, _, _) => k (vr (some i)) | _ => bad
def ck_eL (e : Option ck_E) (k : Int → α) : α := match e with | some (5, _, _, _, n) => k n | _ => bad
def ck_ty (ty : Nat) (kI kL kR : α) : α := match ty with | 4 => kR | 3 => kL | _ => kI
def ck_cR (init : Bool) (a b : α) : α := match init with | true => a | false => b
def ck_at (t : ArrayType) (k : Nat → α) : α := match t with | .int => k 100 | .byte => k 101 | .boolean => k 102 | .long => k 103 | _ => bad
def ck_cd (c : Jvm.ClassFile.Cond) (eq ne lt ge gt le : α) : α := match c with | .eq => eq | .ne => ne | .lt => lt | .ge => ge | .gt => gt | .le => le
def ck_ac (c : ACond) (eq ne : α) : α := match c with | .eq => eq | .ne => ne
end CkHelpers2
section CkStep
variable {α : Type} (bad : α) (ite : (c : Prop) → Decidable c → α → α → α) (req : (c : Prop) → Decidable c → α → α) (nam : Int → (Int → α) → α) (nar : Option Nat → (Option Nat → α) → α) (nmm : ck_M → (ck_M → α) → α)
    (idx : Int → Nat → (Nat → α) → α) (der : Option Nat → (Nat → α) → α) (nxt : Nat → List ck_A → List ck_A → ck_M → α) (cal : ck_E → List ck_A → Nat → List ck_A → List ck_A → ck_M → α) (ret : Option ck_A → ck_M → α) (thr : Nat → List ck_A → ck_M → α)
/-- one step, for any kind of answer -/
def ck_stp (D : ck_D) (ins : Instr) (pc nx tg : Nat) (l st : List ck_A) (M : ck_M) : α :=
  match ins with
  | .iconst n => nxt nx l (vi n :: st) M
  | .bipush n => nxt nx l (vi n :: st) M
  | .sipush n => nxt nx l (vi n :: st) M
  | .lconst n => nxt nx l (vl (n.val : Int) :: st) M
  | .aconst_null => nxt nx l (vr none :: st) M
  | .iload k => ck_lg bad k l fun v => ck_aI bad v fun x => nxt nx l (vi x :: st) M
  | .iload_n k => ck_lg bad k.val l fun v => ck_aI bad v fun x => nxt nx l (vi x :: st) M
  | .lload k => ck_lg bad k l fun v => ck_aL bad v fun x => nxt nx l (vl x :: st) M
  | .lload_n k => ck_lg bad k.val l fun v => ck_aL bad v fun x => nxt nx l (vl x :: st) M
  | .aload k => ck_lg bad k l fun v => ck_aR bad v fun x => nxt nx l (vr x :: st) M
  | .aload_n k => ck_lg bad k.val l fun v => ck_aR bad v fun x => nxt nx l (vr x :: st) M
  | .istore k => ck_pI bad st fun x st => ck_ls bad k (vi x) l fun l => nxt nx l st M
  | .istore_n k => ck_pI bad st fun x st => ck_ls bad k.val (vi x) l fun l => nxt nx l st M
  | .lstore k => ck_pL bad st fun x st => ck_ll bad k x l fun l => nxt nx l st M
  | .lstore_n k => ck_pL bad st fun x st => ck_ll bad k.val x l fun l => nxt nx l st M
  | .astore k => ck_pR bad st fun x st => ck_ls bad k (vr x) l fun l => nxt nx l st M
  | .astore_n k => ck_pR bad st fun x st => ck_ls bad k.val (vr x) l fun l => nxt nx l st M
  | .iinc k n => ck_lg bad k l fun v => ck_aI bad v fun x => ck_ls bad k (vi (x + n)) l fun l => nxt nx l st M
  | .iadd => ck_pI bad st fun y st => ck_pI bad st fun x st => nxt nx l (vi (x + y) :: st) M
  | .isub => ck_pI bad st fun y st => ck_pI bad st fun x st => nxt nx l (vi (x - y) :: st) M
  | .imul => ck_pI bad st fun y st => ck_pI bad st fun x st => nxt nx l (vi (x * y) :: st) M
  | .ineg => ck_pI bad st fun x st => nxt nx l (vi (-x) :: st) M
  | .iand => ck_pI bad st fun y st => ck_pI bad st fun x st => nam (ck_and x y) fun v => nxt nx l (vi v :: st) M
  | .ior => ck_pI bad st fun y st => ck_pI bad st fun x st => nam (ck_or x y) fun v => nxt nx l (vi v :: st) M
  | .ixor => ck_pI bad st fun y st => ck_pI bad st fun x st => nam (ck_xor x y) fun v => nxt nx l (vi v :: st) M
  | .iushr => ck_pI bad st fun y st => ck_pI bad st fun x st => nam (ck_ushr x y) fun v => nxt nx l (vi v :: st) M
  | .idiv => ck_pI bad st fun y st => ck_pI bad st fun x st => req (ck_i32 x ∧ ck_i32 y ∧ y ≠ 0) inferInstance (nam (x.tdiv y) fun v => nxt nx l (vi v :: st) M)
  | .irem => ck_pI bad st fun y st => ck_pI bad st fun x st => req (ck_i32 x ∧ ck_i32 y ∧ y ≠ 0) inferInstance (nam (x.tmod y) fun v => nxt nx l (vi v :: st) M)
  | .ishl => ck_pI bad st fun y st => ck_pI bad st fun x st => req (0 ≤ y ∧ y < 32) inferInstance (nam (x * 2 ^ y.toNat) fun v => nxt nx l (vi v :: st) M)
  | .ishr => ck_pI bad st fun y st => ck_pI bad st fun x st => req (ck_i32 x ∧ 0 ≤ y ∧ y < 32) inferInstance (nam (x / 2 ^ y.toNat) fun v => nxt nx l (vi v :: st) M)
  | .ladd => ck_pL bad st fun y st => ck_pL bad st fun x st => nam (ck_w64 (x + y)) fun v => nxt nx l (vl v :: st) M
  | .lsub => ck_pL bad st fun y st => ck_pL bad st fun x st => nam (ck_w64 (x - y)) fun v => nxt nx l (vl v :: st) M
  | .lmul => ck_pL bad st fun y st => ck_pL bad st fun x st => nam (ck_w64 (x * y)) fun v => nxt nx l (vl v :: st) M
  | .ldiv => ck_pL bad st fun y st => ck_pL bad st fun x st => req (ck_w64 x = x ∧ ck_w64 y = y ∧ y ≠ 0) inferInstance (nam (ck_w64 (x.tdiv y)) fun v => nxt nx l (vl v :: st) M)
  | .lrem => ck_pL bad st fun y st => ck_pL bad st fun x st => req (ck_w64 x = x ∧ ck_w64 y = y ∧ y ≠ 0) inferInstance (nam (x.tmod y) fun v => nxt nx l (vl v :: st) M)
  | .land => ck_pL bad st fun y st => ck_pL bad st fun x st => nam (ck_land x y) fun v => nxt nx l (vl v :: st) M
  | .lor => ck_pL bad st fun y st => ck_pL bad st fun x st => nam (ck_lor x y) fun v => nxt nx l (vl v :: st) M
  | .lshl => ck_pI bad st fun y st => ck_pL bad st fun x st => nam (ck_lshl x y) fun v => nxt nx l (vl v :: st) M
  | .lcmp => ck_pL bad st fun y st => ck_pL bad st fun x st => req (ck_w64 x = x ∧ ck_w64 y = y) inferInstance (nam (if x < y then -1 else if x = y then 0 else 1) fun v => nxt nx l (vi v :: st) M)
  | .i2l => ck_pI bad st fun x st => req (ck_i32 x) inferInstance (nxt nx l (vl x :: st) M)
  | .l2i => ck_pL bad st fun x st => nxt nx l (vi x :: st) M
  | .i2b => ck_pI bad st fun x st => nam (ck_b8 x) fun v => nxt nx l (vi v :: st) M
  | .i2c => ck_pI bad st fun x st => nam (ck_c16 x) fun v => nxt nx l (vi v :: st) M
  | .dup => ck_p1 bad st fun v st => nxt nx l (v :: v :: st) M
  | .pop => ck_p1 bad st fun _ st => nxt nx l st M
  | .dup2 => ck_pI bad st fun y st => ck_pR bad st fun x st => nxt nx l (vi y :: vr x :: vi y :: vr x :: st) M
  | .dup_x1 => ck_pR bad st fun y st => ck_pR bad st fun x st => nxt nx l (vr y :: vr x :: vr y :: st) M
  | .ifCond c _ => ck_pI bad st fun x st => req (ck_i32 x) inferInstance (ck_cd c
      (ite (x = 0) inferInstance (nxt tg l st M) (nxt nx l st M))
      (ite (x = 0) inferInstance (nxt nx l st M) (nxt tg l st M))
      (ite (x < 0) inferInstance (nxt tg l st M) (nxt nx l st M))
      (ite (x < 0) inferInstance (nxt nx l st M) (nxt tg l st M))
      (ite (0 < x) inferInstance (nxt tg l st M) (nxt nx l st M))
      (ite (0 < x) inferInstance (nxt nx l st M) (nxt tg l st M)))
  | .if_icmp c _ => ck_pI bad st fun y st => ck_pI bad st fun x st => req (ck_i32 x ∧ ck_i32 y) inferInstance (ck_cd c
      (ite (x = y) inferInstance (nxt tg l st M) (nxt nx l st M))
      (ite (x = y) inferInstance (nxt nx l st M) (nxt tg l st M))
      (ite (x < y) inferInstance (nxt tg l st M) (nxt nx l st M))
      (ite (x < y) inferInstance (nxt nx l st M) (nxt tg l st M))
      (ite (y < x) inferInstance (nxt tg l st M) (nxt nx l st M))
      (ite (y < x) inferInstance (nxt nx l st M) (nxt tg l st M)))
  | .if_acmp c _ => ck_pR bad st fun y st => ck_pR bad st fun x st => ck_sm bad x fun x => ck_sm bad y fun y => req (x = y) inferInstance (ck_ac c (nxt tg l st M) (nxt nx l st M))
  | .ifnull _ => ck_pR bad st fun x st => ite (x = none) inferInstance (nxt tg l st M) (nxt nx l st M)
  | .ifnonnull _ => ck_pR bad st fun x st => ite (x = none) inferInstance (nxt nx l st M) (nxt tg l st M)
  | .goto _ => nxt tg l st M
  | .tableswitch d lo hi offs => ck_pI bad st fun x st => req (ck_i32 x) inferInstance (ite (x < lo ∨ hi < x) inferInstance (nxt ((pc : Int) + d).toNat l st M) (nxt ((pc : Int) + (offs.toList.getD (x - lo).toNat 0)).toNat l st M))
  | .getfield k => ck_eF bad (D.2.1 k) fun c f ty => ck_pR bad st fun r st => der r fun i => req ((M.K i).1 = c) inferInstance (ck_ty ty
        (nam (M.V i f) fun v => nxt nx l (vi v :: st) M)
        (nam (M.V i f) fun v => nxt nx l (vl v :: st) M)
        (nar (M.R i f) fun v => nxt nx l (vr v :: st) M))
  | .putfield k => ck_eP bad (D.2.1 k) D.2.2.2.2.1 fun c f ty => ck_ty ty
      (ck_pI bad st fun x st => ck_pR bad st fun r st => der r fun i => req ((M.K i).1 = c ∧ ck_NS ≤ i ∧ (ty = 0 ∨ ty = 1 ∧ 0 ≤ x ∧ x < 2)) inferInstance (nmm (M.sV i f x) fun M => nxt nx l st M))
      (ck_pL bad st fun x st => ck_pR bad st fun r st => der r fun i => req ((M.K i).1 = c ∧ ck_NS ≤ i) inferInstance (nmm (M.sV i f x) fun M => nxt nx l st M))
      (ck_pR bad st fun x st => ck_pR bad st fun r st => der r fun i => req ((M.K i).1 = c ∧ ck_NS ≤ i) inferInstance (nmm (M.sR i f x) fun M => nxt nx l st M))
  | .getstatic k => ck_eS bad (D.2.1 k) fun f ty => ck_ty ty
        (nam (M.V 0 f) fun v => nxt nx l (vi v :: st) M)
        (nam (M.V 0 f) fun v => nxt nx l (vl v :: st) M)
        (nar (M.R 0 f) fun v => nxt nx l (vr v :: st) M)
  | .ldc k => ck_eK bad (D.2.1 k) fun v => nxt nx l (v :: st) M
  | .ldc_w k => ck_eK bad (D.2.1 k) fun v => nxt nx l (v :: st) M
  | .ldc2_w k => ck_eL bad (D.2.1 k) fun v => nxt nx l (vl v :: st) M
  | .new k => ck_eC bad (D.2.1 k) fun c n => nmm (M.mk c n) fun M' => nxt nx l (vr (some M.n) :: st) M'
  | .newarray t => ck_at bad t fun a => ck_pI bad st fun x st => req (0 ≤ x ∧ x < 65536) inferInstance (nmm (M.mk a x.toNat) fun M' => nxt nx l (vr (some M.n) :: st) M')
  | .anewarray k => ck_eA bad (D.2.1 k) fun a => ck_pI bad st fun x st => req (0 ≤ x ∧ x < 65536) inferInstance (nmm (M.mk a x.toNat) fun M' => nxt nx l (vr (some M.n) :: st) M')
  | .arraylength => ck_pR bad st fun r st => der r fun i => req (100 ≤ (M.K i).1 ∧ (M.K i).1 < 108) inferInstance (nam ((M.K i).2 : Int) fun v => nxt nx l (vi v :: st) M)
  | .iaload => ck_pI bad st fun x st => ck_pR bad st fun r st => der r fun i => req ((M.K i).1 = 100) inferInstance (idx x (M.K i).2 fun j => nam (M.V i j) fun v => nxt nx l (vi v :: st) M)
  | .baload => ck_pI bad st fun x st => ck_pR bad st fun r st => der r fun i => req ((M.K i).1 = 101 ∨ (M.K i).1 = 102) inferInstance (idx x (M.K i).2 fun j => nam (M.V i j) fun v => nxt nx l (vi v :: st) M)
  | .laload => ck_pI bad st fun x st => ck_pR bad st fun r st => der r fun i => req ((M.K i).1 = 103) inferInstance (idx x (M.K i).2 fun j => nam (M.V i j) fun v => nxt nx l (vl v :: st) M)
  | .aaload => ck_pI bad st fun x st => ck_pR bad st fun r st => der r fun i => req (104 ≤ (M.K i).1 ∧ (M.K i).1 < 108) inferInstance (idx x (M.K i).2 fun j => nar (M.R i j) fun v => nxt nx l (vr v :: st) M)
  | .iastore => ck_pI bad st fun v st => ck_pI bad st fun x st => ck_pR bad st fun r st => der r fun i => req ((M.K i).1 = 100 ∧ ck_NS ≤ i) inferInstance (idx x (M.K i).2 fun j => nmm (M.sV i j v) fun M => nxt nx l st M)
  | .bastore => ck_pI bad st fun v st => ck_pI bad st fun x st => ck_pR bad st fun r st => der r fun i => req (((M.K i).1 = 101 ∧ -128 ≤ v ∧ v < 128 ∨ (M.K i).1 = 102 ∧ 0 ≤ v ∧ v < 2) ∧ ck_NS ≤ i) inferInstance (idx x (M.K i).2 fun j => nmm (M.sV i j v) fun M => nxt nx l st M)
  | .lastore => ck_pL bad st fun v st => ck_pI bad st fun x st => ck_pR bad st fun r st => der r fun i => req ((M.K i).1 = 103 ∧ ck_NS ≤ i) inferInstance (idx x (M.K i).2 fun j => nmm (M.sV i j v) fun M => nxt nx l st M)
  | .aastore => ck_pR bad st fun v st => ck_pI bad st fun x st => ck_pR bad st fun r st => der v fun w => der r fun i => req (((M.K i).1 = 104 ∧ (M.K w).1 < 17 ∨ (M.K i).1 = 105 ∧ (M.K w).1 = 3 ∨ (M.K i).1 = 106 ∧ (M.K w).1 = 15) ∧ ck_NS ≤ i ∧ ck_NS ≤ w) inferInstance (idx x (M.K i).2 fun j => nmm (M.sR i j (some w)) fun M => nxt nx l st M)
  | .checkcast k => ck_eC bad (D.2.1 k) fun c _ => ck_pR bad st fun r st => der r fun i => req ((M.K i).1 = c ∧ ck_NS ≤ i) inferInstance (nxt nx l (vr (some i) :: st) M)
  | .invokevirtual k => ck_eM bad [0, 3, 6, 8, 21] (D.2.1 k) fun e => ck_pop bad e.2.2.2.1 [] st fun as st => req (ck_cat st ≤ 8) inferInstance (cal e as nx l st M)
  | .invokespecial k => ck_eM bad [2, 5, 7, 22] (D.2.1 k) fun e => ck_pop bad e.2.2.2.1 [] st fun as st => req (ck_cat st ≤ 8) inferInstance (cal e as nx l st M)
  | .invokestatic k => ck_eM bad [1, 4, 20, 23, 24] (D.2.1 k) fun e => ck_pop bad e.2.2.2.1 [] st fun as st => req (ck_cat st ≤ 8) inferInstance (cal e as nx l st M)
  | .return_ => ck_nl bad st (req (D.2.2.2.1 = 0) inferInstance (ret none M))
  | .ireturn => ck_pI bad st fun x st => ck_nl bad st (req (D.2.2.2.1 = 1 ∨ D.2.2.2.1 = 2 ∧ 0 ≤ x ∧ x < 2 ∨ D.2.2.2.1 = 3 ∧ -128 ≤ x ∧ x < 128 ∨ D.2.2.2.1 = 4 ∧ 0 ≤ x ∧ x < 65536) inferInstance (ret (some (vi x)) M))
  | .lreturn => ck_pL bad st fun x st => ck_nl bad st (req (D.2.2.2.1 = 5) inferInstance (ret (some (vl x)) M))
  | .areturn => ck_pR bad st fun x st => ck_nl bad st (req (D.2.2.2.1 = 6) inferInstance (ret (some (vr x)) M))
  | .athrow => ck_pR bad st fun x _ => der x fun i => req ((M.K i).1 = 4 ∧ ck_NS ≤ i) inferInstance (thr i l M)
  | _ => bad
end CkStep
/-! THE STEP's HELPERS, each: what it goes on with, or that it is stuck -/
theorem ck_lg_inv : ∀ (n : Nat) (l : List ck_A), (∃ v, l[n]? = some v ∧ ∀ {α : Type} (bad : α) (k : ck_A → α), ck_lg bad n l k = k v) ∨ ∀ {α : Type} (bad : α) (k : ck_A → α), ck_lg bad n l k = bad
  | 0, [] => Or.inr fun _ _ => rfl
  | 0, v :: l => Or.inl ⟨v, rfl, fun _ _ => rfl⟩
  | n + 1, [] => Or.inr fun _ _ => rfl
  | n + 1, v :: l => by
    rcases ck_lg_inv n l with ⟨w, h1, h2⟩ | h
    · exact Or.inl ⟨w, by simpa using h1, fun b k => h2 b k⟩
    · exact Or.inr fun b k => h b k
def ck_sto (n : Nat) (v : ck_A) (l l' : List ck_A) : Prop := l'.length = l.length ∧ n < l.length ∧ l'[n]? = some v ∧ ∀ j, j ≠ n → (l'[j]? = l[j]? ∧ (j + 1 = n → ∀ x, l[j]? ≠ some (vl x))) ∨ l'[j]? = some vu
theorem ck_sto.cons {n : Nat} {v w : ck_A} {l l' : List ck_A} (h : ck_sto n v l l') (hw : n = 0 → ∀ x, w ≠ vl x) : ck_sto (n + 1) v (w :: l) (w :: l') := by
  obtain ⟨h1, h2, h3, h4⟩ := h
  refine ⟨by simp [h1], by simp; omega, by simpa using h3, fun j hj => ?_⟩
  cases j with
  | zero => exact Or.inl ⟨by simp, fun h x hx => hw (by omega) x (by simpa using hx)⟩
  | succ j =>
    rcases h4 j (by omega) with ⟨a, b⟩ | a
    · exact Or.inl ⟨by simpa using a, fun h x => by simpa using b (by omega) x⟩
    · exact Or.inr (by simpa using a)
theorem ck_ls_inv : ∀ (n : Nat) (v : ck_A) (l : List ck_A), (∃ l', ck_sto n v l l' ∧ ∀ {α : Type} (bad : α) (k : List ck_A → α), ck_ls bad n v l k = k l') ∨ ∀ {α : Type} (bad : α) (k : List ck_A → α), ck_ls bad n v l k = bad
  | 0, v, [] => Or.inr fun _ _ => rfl
  | 0, v, w :: l => Or.inl ⟨v :: l, ⟨rfl, by simp, rfl, fun j hj => by cases j with | zero => exact absurd rfl hj | succ j => exact Or.inl ⟨rfl, fun h => by omega⟩⟩, fun _ _ => rfl⟩
  | 1, v, [] => Or.inr fun _ _ => rfl
  | 1, v, [w] => by rcases w with x | x | x | x <;> exact Or.inr fun _ _ => rfl
  | 1, v, w :: u :: l => by
    have key : ∀ (_ : ∀ x, w ≠ vl x), ck_sto 1 v (w :: u :: l) (w :: v :: l) := fun hw => ck_sto.cons (n := 0) ⟨rfl, by simp, rfl, fun j hj => by cases j with | zero => exact absurd rfl hj | succ j => exact Or.inl ⟨rfl, fun h => by omega⟩⟩ (fun _ => hw)
    rcases w with x | x | x | x
    · exact Or.inl ⟨_, key (fun x => by simp), fun _ _ => rfl⟩
    · refine Or.inl ⟨vu :: v :: l, ⟨rfl, by simp, rfl, fun j hj => ?_⟩, fun _ _ => rfl⟩
      match j with
      | 0 => exact Or.inr rfl
      | 1 => exact absurd rfl hj
      | j + 2 => exact Or.inl ⟨rfl, fun h => by omega⟩
    · exact Or.inl ⟨_, key (fun x => by simp), fun _ _ => rfl⟩
    · exact Or.inl ⟨_, key (fun x => by simp), fun _ _ => rfl⟩
  | n + 2, v, [] => Or.inr fun _ _ => rfl
  | n + 2, v, w :: l => by
    rcases ck_ls_inv (n + 1) v l with ⟨l', h1, h2⟩ | h
    · exact Or.inl ⟨w :: l', h1.cons (fun h => by omega), fun b k => h2 b _⟩
    · exact Or.inr fun b k => h b _
def ck_sto2 (n : Nat) (x : Int) (l l' : List ck_A) : Prop := l'.length = l.length ∧ n + 1 < l.length ∧ l'[n]? = some (vl x) ∧ l'[n + 1]? = some vu ∧ ∀ j, j ≠ n → j ≠ n + 1 → (l'[j]? = l[j]? ∧ (j + 1 = n → ∀ x, l[j]? ≠ some (vl x))) ∨ l'[j]? = some vu
theorem ck_sto2.cons {n : Nat} {v : Int} {w : ck_A} {l l' : List ck_A} (h : ck_sto2 n v l l') (hw : n = 0 → ∀ x, w ≠ vl x) : ck_sto2 (n + 1) v (w :: l) (w :: l') := by
  obtain ⟨h1, h2, h3, h5, h4⟩ := h
  refine ⟨by simp [h1], by simp; omega, by simpa using h3, by simpa using h5, fun j hj hj2 => ?_⟩
  cases j with
  | zero => exact Or.inl ⟨by simp, fun h x hx => hw (by omega) x (by simpa using hx)⟩
  | succ j =>
    rcases h4 j (by omega) (by omega) with ⟨a, b⟩ | a
    · exact Or.inl ⟨by simpa using a, fun h x => by simpa using b (by omega) x⟩
    · exact Or.inr (by simpa using a)
theorem ck_ll_inv : ∀ (n : Nat) (v : Int) (l : List ck_A), (∃ l', ck_sto2 n v l l' ∧ ∀ {α : Type} (bad : α) (k : List ck_A → α), ck_ll bad n v l k = k l') ∨ ∀ {α : Type} (bad : α) (k : List ck_A → α), ck_ll bad n v l k = bad
  | 0, v, [] => Or.inr fun _ _ => rfl
  | 0, v, [w] => Or.inr fun _ _ => rfl
  | 0, v, w :: u :: l => Or.inl ⟨vl v :: vu :: l, ⟨rfl, by simp, rfl, rfl, fun j hj hj2 => by match j with | 0 => exact absurd rfl hj | 1 => exact absurd rfl hj2 | j + 2 => exact Or.inl ⟨rfl, fun h => by omega⟩⟩, fun _ _ => rfl⟩
  | 1, v, [] => Or.inr fun _ _ => rfl
  | 1, v, [w] => by rcases w with x | x | x | x <;> exact Or.inr fun _ _ => rfl
  | 1, v, [w, u] => by rcases w with x | x | x | x <;> exact Or.inr fun _ _ => rfl
  | 1, v, w :: u :: u2 :: l => by
    have key : ∀ (_ : ∀ x, w ≠ vl x), ck_sto2 1 v (w :: u :: u2 :: l) (w :: vl v :: vu :: l) := fun hw => ck_sto2.cons (n := 0) ⟨rfl, by simp, rfl, rfl, fun j hj hj2 => by match j with | 0 => exact absurd rfl hj | 1 => exact absurd rfl hj2 | j + 2 => exact Or.inl ⟨rfl, fun h => by omega⟩⟩ (fun _ => hw)
    rcases w with x | x | x | x
    · exact Or.inl ⟨_, key (fun x => by simp), fun _ _ => rfl⟩
    · refine Or.inl ⟨vu :: vl v :: vu :: l, ⟨rfl, by simp, rfl, rfl, fun j hj hj2 => ?_⟩, fun _ _ => rfl⟩
      match j with
      | 0 => exact Or.inr rfl
      | 1 => exact absurd rfl hj
      | 2 => exact absurd rfl hj2
      | j + 3 => exact Or.inl ⟨rfl, fun h => by omega⟩
    · exact Or.inl ⟨_, key (fun x => by simp), fun _ _ => rfl⟩
    · exact Or.inl ⟨_, key (fun x => by simp), fun _ _ => rfl⟩
  | n + 2, v, [] => Or.inr fun _ _ => rfl
  | n + 2, v, w :: l => by
    rcases ck_ll_inv (n + 1) v l with ⟨l', h1, h2⟩ | h
    · exact Or.inl ⟨w :: l', h1.cons (fun h => by omega), fun b k => h2 b _⟩
    · exact Or.inr fun b k => h b _
theorem ck_pop_inv : ∀ (n : Nat) (acc st : List ck_A), (∃ as st', acc.reverse ++ st = as.reverse ++ st' ∧ as.length = acc.length + n ∧ (∀ a ∈ as, a ∈ acc ∨ a ≠ vu) ∧ ∀ {α : Type} (bad : α) (k : List ck_A → List ck_A → α), ck_pop bad n acc st k = k as st') ∨ ∀ {α : Type} (bad : α) (k : List ck_A → List ck_A → α), ck_pop bad n acc st k = bad
  | 0, acc, st => Or.inl ⟨acc, st, rfl, rfl, fun a h => Or.inl h, fun _ _ => rfl⟩
  | n + 1, acc, [] => Or.inr fun _ _ => rfl
  | n + 1, acc, v :: st => by
    by_cases hv : v = vu
    · subst hv; exact Or.inr fun _ _ => rfl
    · have e : ∀ {α : Type} (bad k : α), ck_nu bad v k = k := by
        intro α bad k
        rcases v with x | x | x | x
        · rfl
        · rfl
        · rfl
        · exact absurd rfl hv
      rcases ck_pop_inv n (v :: acc) st with ⟨as, st', h1, h2, h4, h3⟩ | h
      · refine Or.inl ⟨as, st', by simpa using h1, by simp at h2; omega, fun a ha => ?_, fun b k => (e _ _).trans (h3 b k)⟩
        rcases h4 a ha with q | q
        · rcases List.mem_cons.mp q with q | q
          · subst q; exact Or.inr hv
          · exact Or.inl q
        · exact Or.inr q
      · exact Or.inr fun b k => (e _ _).trans (h b k)
theorem ck_pI_inv (st : List ck_A) : (∃ x st', st = vi x :: st' ∧ ∀ {α : Type} (bad : α) (k : Int → List ck_A → α), ck_pI bad st k = k x st') ∨ ∀ {α : Type} (bad : α) (k : Int → List ck_A → α), ck_pI bad st k = bad := by
  rcases st with _ | ⟨x | x | x | x, st⟩
  · exact Or.inr fun _ _ => rfl
  · exact Or.inl ⟨x, st, rfl, fun _ _ => rfl⟩
  all_goals exact Or.inr fun _ _ => rfl
theorem ck_pL_inv (st : List ck_A) : (∃ x st', st = vl x :: st' ∧ ∀ {α : Type} (bad : α) (k : Int → List ck_A → α), ck_pL bad st k = k x st') ∨ ∀ {α : Type} (bad : α) (k : Int → List ck_A → α), ck_pL bad st k = bad := by
  rcases st with _ | ⟨x | x | x | x, st⟩
  · exact Or.inr fun _ _ => rfl
  · exact Or.inr fun _ _ => rfl
  · exact Or.inl ⟨x, st, rfl, fun _ _ => rfl⟩
  all_goals exact Or.inr fun _ _ => rfl
theorem ck_pR_inv (st : List ck_A) : (∃ x st', st = vr x :: st' ∧ ∀ {α : Type} (bad : α) (k : Option Nat → List ck_A → α), ck_pR bad st k = k x st') ∨ ∀ {α : Type} (bad : α) (k : Option Nat → List ck_A → α), ck_pR bad st k = bad := by
  rcases st with _ | ⟨x | x | x | x, st⟩
  · exact Or.inr fun _ _ => rfl
  · exact Or.inr fun _ _ => rfl
  · exact Or.inr fun _ _ => rfl
  · exact Or.inl ⟨x, st, rfl, fun _ _ => rfl⟩
  · exact Or.inr fun _ _ => rfl
theorem ck_p1_inv (st : List ck_A) : (∃ x st', st = x :: st' ∧ ((∃ i, x = vi i) ∨ ∃ r, x = vr r) ∧ ∀ {α : Type} (bad : α) (k : ck_A → List ck_A → α), ck_p1 bad st k = k x st') ∨ ∀ {α : Type} (bad : α) (k : ck_A → List ck_A → α), ck_p1 bad st k = bad := by
  rcases st with _ | ⟨x | x | x | x, st⟩
  · exact Or.inr fun _ _ => rfl
  · exact Or.inl ⟨vi x, st, rfl, Or.inl ⟨x, rfl⟩, fun _ _ => rfl⟩
  · exact Or.inr fun _ _ => rfl
  · exact Or.inl ⟨vr x, st, rfl, Or.inr ⟨x, rfl⟩, fun _ _ => rfl⟩
  · exact Or.inr fun _ _ => rfl
theorem ck_aI_inv (v : ck_A) : (∃ x, v = vi x ∧ ∀ {α : Type} (bad : α) (k : Int → α), ck_aI bad v k = k x) ∨ ∀ {α : Type} (bad : α) (k : Int → α), ck_aI bad v k = bad := by
  rcases v with x | x | x | x
  · exact Or.inl ⟨x, rfl, fun _ _ => rfl⟩
  all_goals exact Or.inr fun _ _ => rfl
theorem ck_aL_inv (v : ck_A) : (∃ x, v = vl x ∧ ∀ {α : Type} (bad : α) (k : Int → α), ck_aL bad v k = k x) ∨ ∀ {α : Type} (bad : α) (k : Int → α), ck_aL bad v k = bad := by
  rcases v with x | x | x | x
  · exact Or.inr fun _ _ => rfl
  · exact Or.inl ⟨x, rfl, fun _ _ => rfl⟩
  all_goals exact Or.inr fun _ _ => rfl
theorem ck_aR_inv (v : ck_A) : (∃ x, v = vr x ∧ ∀ {α : Type} (bad : α) (k : Option Nat → α), ck_aR bad v k = k x) ∨ ∀ {α : Type} (bad : α) (k : Option Nat → α), ck_aR bad v k = bad := by
  rcases v with x | x | x | x
  · exact Or.inr fun _ _ => rfl
  · exact Or.inr fun _ _ => rfl
  · exact Or.inl ⟨x, rfl, fun _ _ => rfl⟩
  · exact Or.inr fun _ _ => rfl
theorem ck_sm_inv (v : Option Nat) : (∃ x, v = some x ∧ ∀ {α : Type} (bad : α) (k : Nat → α), ck_sm bad v k = k x) ∨ ∀ {α : Type} (bad : α) (k : Nat → α), ck_sm bad v k = bad := by
  rcases v with _ | x
  · exact Or.inr fun _ _ => rfl
  · exact Or.inl ⟨x, rfl, fun _ _ => rfl⟩
theorem ck_nl_inv (st : List ck_A) : (st = [] ∧ ∀ {α : Type} (bad k : α), ck_nl bad st k = k) ∨ ∀ {α : Type} (bad k : α), ck_nl bad st k = bad := by
  rcases st with _ | ⟨v, st⟩
  · exact Or.inl ⟨rfl, fun _ _ => rfl⟩
  · exact Or.inr fun _ _ => rfl
theorem ck_eF_inv (e : Option ck_E) : (∃ t c f ty z, e = some (t, c, f, ty, z) ∧ (t = 1 ∨ t = 11 ∨ t = 12) ∧ ∀ {α : Type} (bad : α) (k : Nat → Nat → Nat → α), ck_eF bad e k = k c f ty) ∨ ∀ {α : Type} (bad : α) (k : Nat → Nat → Nat → α), ck_eF bad e k = bad := by
  rcases e with _ | ⟨t, c, f, ty, z⟩
  · exact Or.inr fun _ _ => rfl
  · by_cases h1 : t = 1
    · subst h1; exact Or.inl ⟨_, c, f, ty, z, rfl, Or.inl rfl, fun _ _ => rfl⟩
    · by_cases h2 : t = 11
      · subst h2; exact Or.inl ⟨_, c, f, ty, z, rfl, Or.inr (Or.inl rfl), fun _ _ => rfl⟩
      · by_cases h3 : t = 12
        · subst h3; exact Or.inl ⟨_, c, f, ty, z, rfl, Or.inr (Or.inr rfl), fun _ _ => rfl⟩
        · refine Or.inr fun bad k => ?_
          unfold ck_eF
          split <;> simp_all
theorem ck_eP_inv (e : Option ck_E) (i : Bool) : (∃ t c f ty z, e = some (t, c, f, ty, z) ∧ (t = 1 ∨ t = 11 ∧ i = true) ∧ ∀ {α : Type} (bad : α) (k : Nat → Nat → Nat → α), ck_eP bad e i k = k c f ty) ∨ ∀ {α : Type} (bad : α) (k : Nat → Nat → Nat → α), ck_eP bad e i k = bad := by
  rcases e with _ | ⟨t, c, f, ty, z⟩
  · exact Or.inr fun _ _ => rfl
  · by_cases h1 : t = 1
    · subst h1; exact Or.inl ⟨_, c, f, ty, z, rfl, Or.inl rfl, fun _ _ => rfl⟩
    · by_cases h2 : t = 11
      · subst h2
        cases i with
        | true => exact Or.inl ⟨_, c, f, ty, z, rfl, Or.inr ⟨rfl, rfl⟩, fun _ _ => rfl⟩
        | false => exact Or.inr fun _ _ => rfl
      · refine Or.inr fun bad k => ?_
        unfold ck_eP
        split <;> simp_all
theorem ck_eS_inv (e : Option ck_E) : (∃ f ty c z, e = some (2, f, ty, c, z) ∧ ∀ {α : Type} (bad : α) (k : Nat → Nat → α), ck_eS bad e k = k f ty) ∨ ∀ {α : Type} (bad : α) (k : Nat → Nat → α), ck_eS bad e k = bad := by
  rcases e with _ | ⟨t, c, f, ty, z⟩
  · exact Or.inr fun _ _ => rfl
  · by_cases h1 : t = 2
    · subst h1; exact Or.inl ⟨_, _, _, _, rfl, fun _ _ => rfl⟩
    · refine Or.inr fun bad k => ?_
      unfold ck_eS
      split <;> simp_all
theorem ck_eM_inv (ks : List Nat) (e : Option ck_E) : (∃ a b c d, e = some (3, a, b, c, d) ∧ ks.elem a = true ∧ ∀ {α : Type} (bad : α) (k : ck_E → α), ck_eM bad ks e k = k (3, a, b, c, d)) ∨ ∀ {α : Type} (bad : α) (k : ck_E → α), ck_eM bad ks e k = bad := by
  rcases e with _ | ⟨t, c, f, ty, z⟩
  · exact Or.inr fun _ _ => rfl
  · by_cases h1 : t = 3
    · subst h1
      cases h : ks.elem c with
      | true => exact Or.inl ⟨_, _, _, _, rfl, h, fun bad k => by show (bif ks.elem c then _ else _) = _; rw [h]; rfl⟩
      | false => exact Or.inr fun bad k => by show (bif ks.elem c then _ else _) = _; rw [h]; rfl
    · refine Or.inr fun bad k => ?_
      unfold ck_eM
      split <;> simp_all
theorem ck_eC_inv (e : Option ck_E) : (∃ f ty c z, e = some (8, f, ty, c, z) ∧ ∀ {α : Type} (bad : α) (k : Nat → Nat → α), ck_eC bad e k = k f ty) ∨ ∀ {α : Type} (bad : α) (k : Nat → Nat → α), ck_eC bad e k = bad := by
  rcases e with _ | ⟨t, c, f, ty, z⟩
  · exact Or.inr fun _ _ => rfl
  · by_cases h1 : t = 8
    · subst h1; exact Or.inl ⟨_, _, _, _, rfl, fun _ _ => rfl⟩
    · refine Or.inr fun bad k => ?_
      unfold ck_eC
      split <;> simp_all
theorem ck_eA_inv (e : Option ck_E) : (∃ v a b c z, (e = some (9, v, b, c, z) ∨ e = some (8, a, b, v, z)) ∧ ∀ {α : Type} (bad : α) (k : Nat → α), ck_eA bad e k = k v) ∨ ∀ {α : Type} (bad : α) (k : Nat → α), ck_eA bad e k = bad := by
  rcases e with _ | ⟨t, c, f, ty, z⟩
  · exact Or.inr fun _ _ => rfl
  · by_cases h1 : t = 9
    · subst h1; exact Or.inl ⟨_, 0, _, _, _, Or.inl rfl, fun _ _ => rfl⟩
    · by_cases h2 : t = 8
      · subst h2
        cases ty with
        | zero => exact Or.inr fun _ _ => rfl
        | succ ty => exact Or.inl ⟨_, _, _, 0, _, Or.inr rfl, fun _ _ => rfl⟩
      · refine Or.inr fun bad k => ?_
        unfold ck_eA
        split <;> simp_all
theorem ck_eK_inv (e : Option ck_E) : (∃ v f ty c z, (e = some (4, f, ty, c, z) ∧ v = vi z ∨ e = some (6, f, ty, c, z) ∧ v = vr (some f)) ∧ ∀ {α : Type} (bad : α) (k : ck_A → α), ck_eK bad e k = k v) ∨ ∀ {α : Type} (bad : α) (k : ck_A → α), ck_eK bad e k = bad := by
  rcases e with _ | ⟨t, c, f, ty, z⟩
  · exact Or.inr fun _ _ => rfl
  · by_cases h1 : t = 4
    · subst h1; exact Or.inl ⟨_, _, _, _, _, Or.inl ⟨rfl, rfl⟩, fun _ _ => rfl⟩
    · by_cases h2 : t = 6
      · subst h2; exact Or.inl ⟨_, _, _, _, _, Or.inr ⟨rfl, rfl⟩, fun _ _ => rfl⟩
      · refine Or.inr fun bad k => ?_
        unfold ck_eK
        split <;> simp_all
theorem ck_eL_inv (e : Option ck_E) : (∃ f ty c z, e = some (5, f, ty, c, z) ∧ ∀ {α : Type} (bad : α) (k : Int → α), ck_eL bad e k = k z) ∨ ∀ {α : Type} (bad : α) (k : Int → α), ck_eL bad e k = bad := by
  rcases e with _ | ⟨t, c, f, ty, z⟩
  · exact Or.inr fun _ _ => rfl
  · by_cases h1 : t = 5
    · subst h1; exact Or.inl ⟨_, _, _, _, rfl, fun _ _ => rfl⟩
    · refine Or.inr fun bad k => ?_
      unfold ck_eL
      split <;> simp_all
theorem ck_ty_inv (ty : Nat) : (ty = 4 ∧ ∀ {α : Type} (a b c : α), ck_ty ty a b c = c) ∨ (ty = 3 ∧ ∀ {α : Type} (a b c : α), ck_ty ty a b c = b) ∨ (ty ≠ 3 ∧ ty ≠ 4 ∧ ∀ {α : Type} (a b c : α), ck_ty ty a b c = a) := by
  by_cases h1 : ty = 4
  · subst h1; exact Or.inl ⟨rfl, fun _ _ _ => rfl⟩
  · by_cases h2 : ty = 3
    · subst h2; exact Or.inr (Or.inl ⟨rfl, fun _ _ _ => rfl⟩)
    · refine Or.inr (Or.inr ⟨h2, h1, fun a b c => ?_⟩)
      unfold ck_ty
      split <;> simp_all
section CkRel
variable {α β : Type} (Rl : α → β → Prop) {bad : α} {bad' : β}
theorem ck_rel_pI (hb : Rl bad bad') {st : List ck_A} {k : Int → List ck_A → α} {k' : Int → List ck_A → β} (h : ∀ x st, Rl (k x st) (k' x st)) : Rl (ck_pI bad st k) (ck_pI bad' st k') := by
  rcases ck_pI_inv st with ⟨x, s, -, e⟩ | e <;> rw [e, e]; exact h _ _; exact hb
theorem ck_rel_pL (hb : Rl bad bad') {st : List ck_A} {k : Int → List ck_A → α} {k' : Int → List ck_A → β} (h : ∀ x st, Rl (k x st) (k' x st)) : Rl (ck_pL bad st k) (ck_pL bad' st k') := by
  rcases ck_pL_inv st with ⟨x, s, -, e⟩ | e <;> rw [e, e]; exact h _ _; exact hb
theorem ck_rel_pR (hb : Rl bad bad') {st : List ck_A} {k : Option Nat → List ck_A → α} {k' : Option Nat → List ck_A → β} (h : ∀ x st, Rl (k x st) (k' x st)) : Rl (ck_pR bad st k) (ck_pR bad' st k') := by
  rcases ck_pR_inv st with ⟨x, s, -, e⟩ | e <;> rw [e, e]; exact h _ _; exact hb
theorem ck_rel_p1 (hb : Rl bad bad') {st : List ck_A} {k : ck_A → List ck_A → α} {k' : ck_A → List ck_A → β} (h : ∀ x st, Rl (k x st) (k' x st)) : Rl (ck_p1 bad st k) (ck_p1 bad' st k') := by
  rcases ck_p1_inv st with ⟨x, s, -, -, e⟩ | e <;> rw [e, e]; exact h _ _; exact hb
theorem ck_rel_pop (hb : Rl bad bad') {n : Nat} {acc st : List ck_A} {k : List ck_A → List ck_A → α} {k' : List ck_A → List ck_A → β} (h : ∀ x st, Rl (k x st) (k' x st)) : Rl (ck_pop bad n acc st k) (ck_pop bad' n acc st k') := by
  rcases ck_pop_inv n acc st with ⟨x, s, -, -, -, e⟩ | e <;> rw [e, e]; exact h _ _; exact hb
theorem ck_rel_aI (hb : Rl bad bad') {v : ck_A} {k : Int → α} {k' : Int → β} (h : ∀ x, Rl (k x) (k' x)) : Rl (ck_aI bad v k) (ck_aI bad' v k') := by
  rcases ck_aI_inv v with ⟨x, -, e⟩ | e <;> rw [e, e]; exact h _; exact hb
theorem ck_rel_aL (hb : Rl bad bad') {v : ck_A} {k : Int → α} {k' : Int → β} (h : ∀ x, Rl (k x) (k' x)) : Rl (ck_aL bad v k) (ck_aL bad' v k') := by
  rcases ck_aL_inv v with ⟨x, -, e⟩ | e <;> rw [e, e]; exact h _; exact hb
theorem ck_rel_aR (hb : Rl bad bad') {v : ck_A} {k : Option Nat → α} {k' : Option Nat → β} (h : ∀ x, Rl (k x) (k' x)) : Rl (ck_aR bad v k) (ck_aR bad' v k') := by
  rcases ck_aR_inv v with ⟨x, -, e⟩ | e <;> rw [e, e]; exact h _; exact hb
theorem ck_rel_sm (hb : Rl bad bad') {v : Option Nat} {k : Nat → α} {k' : Nat → β} (h : ∀ x, Rl (k x) (k' x)) : Rl (ck_sm bad v k) (ck_sm bad' v k') := by
  rcases ck_sm_inv v with ⟨x, -, e⟩ | e <;> rw [e, e]; exact h _; exact hb
theorem ck_rel_nl (hb : Rl bad bad') {st : List ck_A} {k : α} {k' : β} (h : Rl k k') : Rl (ck_nl bad st k) (ck_nl bad' st k') := by
  rcases ck_nl_inv st with ⟨-, e⟩ | e <;> rw [e, e]; exact h; exact hb
theorem ck_rel_lg (hb : Rl bad bad') {n : Nat} {l : List ck_A} {k : ck_A → α} {k' : ck_A → β} (h : ∀ x, Rl (k x) (k' x)) : Rl (ck_lg bad n l k) (ck_lg bad' n l k') := by
  rcases ck_lg_inv n l with ⟨x, -, e⟩ | e <;> rw [e, e]; exact h _; exact hb
theorem ck_rel_ls (hb : Rl bad bad') {n : Nat} {v : ck_A} {l : List ck_A} {k : List ck_A → α} {k' : List ck_A → β} (h : ∀ x, Rl (k x) (k' x)) : Rl (ck_ls bad n v l k) (ck_ls bad' n v l k') := by
  rcases ck_ls_inv n v l with ⟨x, -, e⟩ | e <;> rw [e, e]; exact h _; exact hb
theorem ck_rel_ll (hb : Rl bad bad') {n : Nat} {v : Int} {l : List ck_A} {k : List ck_A → α} {k' : List ck_A → β} (h : ∀ x, Rl (k x) (k' x)) : Rl (ck_ll bad n v l k) (ck_ll bad' n v l k') := by
  rcases ck_ll_inv n v l with ⟨x, -, e⟩ | e <;> rw [e, e]; exact h _; exact hb
theorem ck_rel_eF (hb : Rl bad bad') {o : Option ck_E} {k : Nat → Nat → Nat → α} {k' : Nat → Nat → Nat → β} (h : ∀ x y z, Rl (k x y z) (k' x y z)) : Rl (ck_eF bad o k) (ck_eF bad' o k') := by
  rcases ck_eF_inv o with ⟨_, _, _, _, _, -, -, e⟩ | e <;> rw [e, e]; exact h _ _ _; exact hb
theorem ck_rel_eP (hb : Rl bad bad') {o : Option ck_E} {i : Bool} {k : Nat → Nat → Nat → α} {k' : Nat → Nat → Nat → β} (h : ∀ x y z, Rl (k x y z) (k' x y z)) : Rl (ck_eP bad o i k) (ck_eP bad' o i k') := by
  rcases ck_eP_inv o i with ⟨_, _, _, _, _, -, -, e⟩ | e <;> rw [e, e]; exact h _ _ _; exact hb
theorem ck_rel_eS (hb : Rl bad bad') {o : Option ck_E} {k : Nat → Nat → α} {k' : Nat → Nat → β} (h : ∀ x y, Rl (k x y) (k' x y)) : Rl (ck_eS bad o k) (ck_eS bad' o k') := by
  rcases ck_eS_inv o with ⟨_, _, _, _, -, e⟩ | e <;> rw [e, e]; exact h _ _; exact hb
theorem ck_rel_eM (hb : Rl bad bad') {ks : List Nat} {o : Option ck_E} {k : ck_E → α} {k' : ck_E → β} (h : ∀ x, Rl (k x) (k' x)) : Rl (ck_eM bad ks o k) (ck_eM bad' ks o k') := by
  rcases ck_eM_inv ks o with ⟨_, _, _, _, -, -, e⟩ | e <;> rw [e, e]; exact h _; exact hb
theorem ck_rel_eC (hb : Rl bad bad') {o : Option ck_E} {k : Nat → Nat → α} {k' : Nat → Nat → β} (h : ∀ x y, Rl (k x y) (k' x y)) : Rl (ck_eC bad o k) (ck_eC bad' o k') := by
  rcases ck_eC_inv o with ⟨_, _, _, _, -, e⟩ | e <;> rw [e, e]; exact h _ _; exact hb
theorem ck_rel_eA (hb : Rl bad bad') {o : Option ck_E} {k : Nat → α} {k' : Nat → β} (h : ∀ x, Rl (k x) (k' x)) : Rl (ck_eA bad o k) (ck_eA bad' o k') := by
  rcases ck_eA_inv o with ⟨_, _, _, _, _, -, e⟩ | e <;> rw [e, e]; exact h _; exact hb
theorem ck_rel_eK (hb : Rl bad bad') {o : Option ck_E} {k : ck_A → α} {k' : ck_A → β} (h : ∀ x, Rl (k x) (k' x)) : Rl (ck_eK bad o k) (ck_eK bad' o k') := by
  rcases ck_eK_inv o with ⟨_, _, _, _, _, -, e⟩ | e <;> rw [e, e]; exact h _; exact hb
theorem ck_rel_eL (hb : Rl bad bad') {o : Option ck_E} {k : Int → α} {k' : Int → β} (h : ∀ x, Rl (k x) (k' x)) : Rl (ck_eL bad o k) (ck_eL bad' o k') := by
  rcases ck_eL_inv o with ⟨_, _, _, _, -, e⟩ | e <;> rw [e, e]; exact h _; exact hb
theorem ck_rel_ty {ty : Nat} {a b c : α} {a' b' c' : β} (h1 : Rl a a') (h2 : Rl b b') (h3 : Rl c c') : Rl (ck_ty ty a b c) (ck_ty ty a' b' c') := by
  rcases ck_ty_inv ty with ⟨-, e⟩ | ⟨-, e⟩ | ⟨-, -, e⟩ <;> rw [e, e] <;> assumption
theorem ck_rel_at (hb : Rl bad bad') {t : ArrayType} {k : Nat → α} {k' : Nat → β} (h : ∀ x, Rl (k x) (k' x)) : Rl (ck_at bad t k) (ck_at bad' t k') := by
  cases t <;> first | exact hb | exact h _
theorem ck_rel_cd {c : Jvm.ClassFile.Cond} {a1 a2 a3 a4 a5 a6 : α} {b1 b2 b3 b4 b5 b6 : β} (h1 : Rl a1 b1) (h2 : Rl a2 b2) (h3 : Rl a3 b3) (h4 : Rl a4 b4) (h5 : Rl a5 b5) (h6 : Rl a6 b6) : Rl (ck_cd c a1 a2 a3 a4 a5 a6) (ck_cd c b1 b2 b3 b4 b5 b6) := by
  cases c <;> assumption
theorem ck_rel_ac {c : ACond} {a1 a2 : α} {b1 b2 : β} (h1 : Rl a1 b1) (h2 : Rl a2 b2) : Rl (ck_ac c a1 a2) (ck_ac c b1 b2) := by
  cases c <;> assumption
variable {ite : (c : Prop) → Decidable c → α → α → α} {req : (c : Prop) → Decidable c → α → α} {nam : Int → (Int → α) → α} {nar : Option Nat → (Option Nat → α) → α} {nmm : ck_M → (ck_M → α) → α}
    {idx : Int → Nat → (Nat → α) → α} {der : Option Nat → (Nat → α) → α} {nxt : Nat → List ck_A → List ck_A → ck_M → α} {cal : ck_E → List ck_A → Nat → List ck_A → List ck_A → ck_M → α} {ret : Option ck_A → ck_M → α} {thr : Nat → List ck_A → ck_M → α}
variable {ite' : (c : Prop) → Decidable c → β → β → β} {req' : (c : Prop) → Decidable c → β → β} {nam' : Int → (Int → β) → β} {nar' : Option Nat → (Option Nat → β) → β} {nmm' : ck_M → (ck_M → β) → β}
    {idx' : Int → Nat → (Nat → β) → β} {der' : Option Nat → (Nat → β) → β} {nxt' : Nat → List ck_A → List ck_A → ck_M → β} {cal' : ck_E → List ck_A → Nat → List ck_A → List ck_A → ck_M → β} {ret' : Option ck_A → ck_M → β} {thr' : Nat → List ck_A → ck_M → β}
set_option maxHeartbeats 4000000 in
/-- two steps that are alike in their parts are alike -/
theorem ck_stp_rel (hb : Rl bad bad') (hite : ∀ c h a b a' b', (c → Rl a a') → (¬ c → Rl b b') → Rl (ite c h a b) (ite' c h a' b')) (hreq : ∀ c h a a', (c → Rl a a') → Rl (req c h a) (req' c h a'))
    (hnam : ∀ x k k', (∀ v, v = x → Rl (k v) (k' v)) → Rl (nam x k) (nam' x k')) (hnar : ∀ x k k', (∀ v, v = x → Rl (k v) (k' v)) → Rl (nar x k) (nar' x k')) (hnmm : ∀ x k k', (∀ v, v = x → Rl (k v) (k' v)) → Rl (nmm x k) (nmm' x k'))
    (hidx : ∀ (x : Int) n k k', (∀ j : Nat, x = (j : Int) → j < n → Rl (k j) (k' j)) → Rl (idx x n k) (idx' x n k')) (hder : ∀ r k k', (∀ i, r = some i → Rl (k i) (k' i)) → Rl (der r k) (der' r k'))
    (hnxt : ∀ pc l st M, Rl (nxt pc l st M) (nxt' pc l st M)) (hcal : ∀ e as nx l st M, Rl (cal e as nx l st M) (cal' e as nx l st M)) (hret : ∀ v M, Rl (ret v M) (ret' v M)) (hthr : ∀ i l M, Rl (thr i l M) (thr' i l M))
    (D : ck_D) (ins : Instr) (pc nx tg : Nat) (l st : List ck_A) (M : ck_M) :
    Rl (ck_stp bad ite req nam nar nmm idx der nxt cal ret thr D ins pc nx tg l st M) (ck_stp bad' ite' req' nam' nar' nmm' idx' der' nxt' cal' ret' thr' D ins pc nx tg l st M) := by
  cases ins <;> unfold ck_stp <;> dsimp only <;> first
    | exact hb
    | (repeat' first
        | exact hnxt _ _ _ _ | exact hcal _ _ _ _ _ _ | exact hret _ _ | exact hthr _ _ _
        | (apply ck_rel_pI Rl hb; intro _ _) | (apply ck_rel_pL Rl hb; intro _ _) | (apply ck_rel_pR Rl hb; intro _ _) | (apply ck_rel_p1 Rl hb; intro _ _) | (apply ck_rel_pop Rl hb; intro _ _)
        | (apply ck_rel_aI Rl hb; intro _) | (apply ck_rel_aL Rl hb; intro _) | (apply ck_rel_aR Rl hb; intro _) | (apply ck_rel_sm Rl hb; intro _) | (apply ck_rel_lg Rl hb; intro _) | (apply ck_rel_ls Rl hb; intro _) | (apply ck_rel_ll Rl hb; intro _)
        | (apply ck_rel_eF Rl hb; intro _ _ _) | (apply ck_rel_eP Rl hb; intro _ _ _) | (apply ck_rel_eS Rl hb; intro _ _) | (apply ck_rel_eM Rl hb; intro _) | (apply ck_rel_eC Rl hb; intro _ _) | (apply ck_rel_eA Rl hb; intro _) | (apply ck_rel_eK Rl hb; intro _) | (apply ck_rel_eL Rl hb; intro _)
        | apply ck_rel_nl Rl hb | apply ck_rel_ty Rl | (apply ck_rel_at Rl hb; intro _) | apply ck_rel_cd Rl | apply ck_rel_ac Rl
        | (apply hite <;> intro _) | (apply hreq; intro _) | (apply hnam; intro _ _) | (apply hnar; intro _ _) | (apply hnmm; intro _ _) | (apply hidx; intro _ _ _) | (apply hder; intro _ _))
end CkRel
