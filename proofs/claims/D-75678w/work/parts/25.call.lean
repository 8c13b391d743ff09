/-! METHODS AND CALLS: what the tables say of them -/
abbrev ck_Y : Type := MethodName × ByteArray × Option FieldType
def ck_nMH (y : MethodName) : Prop := y.cls ≠ "java/lang/invoke/MethodHandle" ∧ y.cls ≠ "java/lang/invoke/VarHandle"
def ck_np (y : MethodName) (n : Nat) : Prop := (parseMethodDescriptor y.desc).map (fun d => d.parameters.length) = some n
/-- a call's entry: by its kind -/
def ck_Mok (my : Nat → ck_Y) (own : String) (k : Nat) (kind mid na : Nat) (z : Int) : Prop :=
  (kind = 0 → ∃ (C : String) (T : u_T) (N : Nat), ck_CL[z.toNat]? = some (C, T, N) ∧ (my mid).1.cls = C ∧ Cond.methodLink own k (my mid).1 ∈ lw_all ∧ Cond.instanceMethod (my mid).1 ∈ lw_all ∧ Cond.selects C (my mid).1 (my mid).1 ∈ lw_all ∧ Cond.initialized C ∈ lw_all ∧ ck_nMH (my mid).1 ∧ 0 < na ∧ ck_np (my mid).1 (na - 1)) ∧
  (kind = 1 → Cond.methodLink own k (my mid).1 ∈ lw_all ∧ Cond.static (my mid).1 ∈ lw_all ∧ Cond.initialized (my mid).1.cls ∈ lw_all ∧ ck_nMH (my mid).1 ∧ ck_np (my mid).1 na) ∧
  (kind = 2 → Cond.methodLink own k (my mid).1 ∈ lw_all ∧ Cond.instanceMethod (my mid).1 ∈ lw_all ∧ Cond.initialized (my mid).1.cls ∈ lw_all ∧ (my mid).1.name = "<init>" ∧ (my mid).2.2 = none ∧ ck_nMH (my mid).1 ∧ 0 < na ∧ ck_np (my mid).1 (na - 1)) ∧
  (kind = 3 → ∃ (C : String) (T : u_T) (N : Nat) (host : String), ck_CL[z.toNat]? = some (C, T, N) ∧ (my mid).1.cls = C ∧ Cond.methodLinkNest own k (my mid).1 host ∈ lw_tbl ∧ Cond.instanceMethod (my mid).1 ∈ lw_all ∧ Cond.selects C (my mid).1 (my mid).1 ∈ lw_all ∧ Cond.initialized C ∈ lw_all ∧ ck_nMH (my mid).1 ∧ 0 < na ∧ ck_np (my mid).1 (na - 1)) ∧
  (kind = 4 → ∃ host, Cond.methodLinkNest own k (my mid).1 host ∈ lw_tbl ∧ Cond.static (my mid).1 ∈ lw_all ∧ Cond.initialized (my mid).1.cls ∈ lw_all ∧ ck_nMH (my mid).1 ∧ ck_np (my mid).1 na) ∧
  (kind = 5 → ∃ host, Cond.methodLinkNest own k (my mid).1 host ∈ lw_tbl ∧ Cond.instanceMethod (my mid).1 ∈ lw_all ∧ Cond.initialized (my mid).1.cls ∈ lw_all ∧ (my mid).1.name = "<init>" ∧ (my mid).2.2 = none ∧ ck_nMH (my mid).1 ∧ 0 < na ∧ ck_np (my mid).1 (na - 1)) ∧
  (kind = 6 → ∃ x : MethodName, Cond.methodLink own k x ∈ lw_all ∧ Cond.sameMethod x.cls x.cls x.name x.desc ∈ lw_all ∧ Cond.declares ⟨x.cls, x.name, x.desc⟩ ∈ lw_tbl ∧ ck_nMH x ∧ 0 < na ∧ ck_np x (na - 1) ∧
    ∀ cn, (cn = 8 ∨ cn = 9 ∨ cn = 10 ∨ cn = 12 ∨ cn = 13 ∨ cn = 14) → ((my (mid + cn)).2.1 = ByteArray.empty ∨ ∃ (C : String) (T : u_T) (N : Nat), ck_CL[cn]? = some (C, T, N) ∧ Cond.selects C x (my (mid + cn)).1 ∈ lw_all ∧ Cond.instanceMethod (my (mid + cn)).1 ∈ lw_all ∧ Cond.initialized (my (mid + cn)).1.cls ∈ lw_all)) ∧
  (kind = 7 → na = 1 ∧ Cond.methodLink own k Lib.objectInit ∈ lw_all ∧ Cond.instanceMethod Lib.objectInit ∈ lw_all ∧ Cond.code Lib.objectInit ⟨#[0xb1]⟩ 1 none ∈ lw_all) ∧
  (kind = 8 → (my mid).1.cls = "java/lang/String" ∧ Cond.methodLink own k (my mid).1 ∈ lw_all ∧ Cond.instanceMethod (my mid).1 ∈ lw_all ∧ Cond.selects "java/lang/String" (my mid).1 (my mid).1 ∈ lw_all ∧ Cond.initialized "java/lang/String" ∈ lw_all ∧ 0 < na ∧ ck_np (my mid).1 (na - 1)) ∧
  (kind = 20 → na = 5 ∧ Cond.methodLink own k arraycopyName ∈ lw_all ∧ Cond.native arraycopyName ∈ lw_all ∧ Cond.static arraycopyName ∈ lw_all ∧ Cond.initialized "java/lang/System" ∈ lw_all) ∧
  (kind = 21 → na = 1 ∧ Cond.methodLink own k ⟨"java/lang/Object", "getClass", "()Ljava/lang/Class;"⟩ ∈ lw_all ∧ Cond.declares ⟨"java/lang/Object", "getClass", "()Ljava/lang/Class;"⟩ ∈ lw_tbl ∧ Cond.selects "[Ljava/lang/Object;" ⟨"java/lang/Object", "getClass", "()Ljava/lang/Class;"⟩ ⟨"java/lang/Object", "getClass", "()Ljava/lang/Class;"⟩ ∈ lw_all ∧ Cond.instanceMethod ⟨"java/lang/Object", "getClass", "()Ljava/lang/Class;"⟩ ∈ lw_all ∧ Cond.native ⟨"java/lang/Object", "getClass", "()Ljava/lang/Class;"⟩ ∈ lw_all) ∧
  (kind = 22 → na = 1 ∧ own = "ConkerYard$Wrong" ∧ k = 1) ∧
  (kind = 23 → na = 2 ∧ Cond.methodLink own k Lib.Math.max.name ∈ lw_all ∧ Cond.static Lib.Math.max.name ∈ lw_all ∧ Cond.initialized "java/lang/Math" ∈ lw_all ∧ Cond.code Lib.Math.max.name Lib.Math.max.code 2 (some .int) ∈ lw_all) ∧
  (kind = 24 → na = 2 ∧ Cond.methodLink own k Lib.Math.min.name ∈ lw_all ∧ Cond.static Lib.Math.min.name ∈ lw_all ∧ Cond.initialized "java/lang/Math" ∈ lw_all ∧ Cond.code Lib.Math.min.name Lib.Math.min.code 2 (some .int) ∈ lw_all) ∧ ((kind < 9 ∨ kind = 20 ∨ kind = 21 ∨ kind = 22 ∨ kind = 23 ∨ kind = 24) ∧ (kind ≠ 0 → mid ≠ 91 ∧ mid ≠ 102) ∧ (kind = 6 → 200 ≤ mid))
/-- an entry of a class's table -/
def ck_Eok (my : Nat → ck_Y) (own : String) (k : Nat) (en : ck_E) : Prop :=
  ((en.1 = 1 ∨ en.1 = 11 ∨ en.1 = 12) → (en.2.1 < 17 ∧ ck_FL own k en.2.1 en.2.2.1 en.2.2.2.1 en.1) ∨ (en.2.1 = 50 ∧ (en.2.2.1 = 0 ∧ en.2.2.2.1 = 4 ∧ Cond.fieldLink own k "java/lang/String" "value" "[B" ∈ lw_all ∨ en.2.2.1 = 1 ∧ en.2.2.2.1 = 2 ∧ Cond.fieldLink own k "java/lang/String" "coder" "B" ∈ lw_all))) ∧
  (en.1 = 2 → (en.2.1 = 0 ∧ en.2.2.1 = 1 ∧ Cond.fieldLink own k "java/lang/String" "COMPACT_STRINGS" "Z" ∈ lw_all) ∨ (en.2.1 = 1 ∧ en.2.2.1 = 4 ∧ Cond.fieldLink own k "ConkerYard" "NAMES" "[Ljava/lang/String;" ∈ lw_all) ∨ (en.2.1 = 4 ∧ en.2.2.1 = 4 ∧ Cond.fieldLink own k "jdk/internal/util/Preconditions" "SIOOBE_FORMATTER" "Ljava/util/function/BiFunction;" ∈ lw_all)) ∧
  (en.1 = 4 → Cond.constant own k (Int32.ofInt en.2.2.2.2) ∈ lw_all) ∧
  (en.1 = 5 → Cond.constantLong own k (Int64.ofInt en.2.2.2.2) ∈ lw_all) ∧
  (en.1 = 6 → en.2.1 < 50 ∧ ((∃ tx, (own, k, tx, en.2.1) ∈ ck_strs) ∨ en.2.1 = 3 ∧ Cond.classLink own k "[Ljava/lang/Object;" ∈ lw_all)) ∧
  (en.1 = 8 → ∃ (C : String) (T : u_T) (tf : Nat → FieldType), ck_Cls en.2.1 C T en.2.2.1 tf ∧ en.2.1 < 17 ∧ Cond.classLink own k C ∈ lw_all ∧ (en.2.2.2.1 ≠ 0 → 104 ≤ en.2.2.2.1 ∧ en.2.2.2.1 ≤ 106 ∧ ck_aty en.2.2.2.1 = .object C ∧ Cond.arrayOver (.object C) ∈ lw_tbl)) ∧
  (en.1 = 9 → ∃ C, 104 ≤ en.2.1 ∧ en.2.1 ≤ 106 ∧ ck_aty en.2.1 = .object C ∧ Cond.classLink own k C ∈ lw_all ∧ Cond.arrayOver (.object C) ∈ lw_tbl) ∧
  (en.1 = 3 → ck_Mok my own k en.2.1 en.2.2.1 en.2.2.2.1 en.2.2.2.2)
/-- a row of a method's code -/
def ck_chk (pc : Nat) (ins : Instr) (nx tg : Nat) : Bool := match ins with
  | .bipush n => nx == pc + 2 && decide (-128 ≤ n ∧ n < 128)
  | .sipush n => nx == pc + 3 && decide (-32768 ≤ n ∧ n < 32768)
  | .iload _ | .lload _ | .aload _ | .istore _ | .lstore _ | .astore _ | .ldc _ | .newarray _ => nx == pc + 2
  | .iinc _ _ | .getfield _ | .putfield _ | .getstatic _ | .ldc_w _ | .ldc2_w _ | .new _ | .anewarray _ | .checkcast _ | .invokevirtual _ | .invokespecial _ | .invokestatic _ => nx == pc + 3
  | .ifCond _ o | .if_icmp _ o | .if_acmp _ o | .ifnull o | .ifnonnull o | .goto o => nx == pc + 3 && decide ((pc : Int) + o = (tg : Int))
  | .tableswitch d lo hi os => Nat.ble (pc + 1) nx && decide (0 ≤ (pc : Int) + d) && decide ((os.size : Int) = hi - lo + 1) && os.toList.all (fun o => decide (0 ≤ (pc : Int) + o))
  | _ => nx == pc + 1
def ck_iok (cc : ByteArray) (pc : Nat) (ins : Instr) (nx tg : Nat) : Prop := decode cc pc = .ok (ins, nx - pc) ∧ ck_chk pc ins nx tg = true
/-- what a method answers -/
def ck_rok (r : Nat) (rt : Option FieldType) : Prop := (r = 0 → rt = none) ∧ (r = 1 → rt = some .int) ∧ (r = 2 → rt = some .boolean) ∧ (r = 3 → rt = some .byte) ∧ (r = 4 → rt = some .char) ∧ (r = 5 → rt = some .long) ∧ (r = 6 → ∃ u, rt = some u ∧ ((∃ n, u = .object n) ∨ ∃ t, u = .array t))
/-- a row of a method's code, and its class's table -/
def ck_row2 (ct : Nat → Option ck_E) (ins : Instr) : Bool := match ins with
  | .ldc_w k => (match ct k with | some (6, _) => false | _ => true)
  | .anewarray k => (match ct k with | some (8, _, _, 0, _) => false | _ => true)
  | _ => true
/-- a method's table -/
def ck_MOk (my : Nat → ck_Y) (Dm : ck_D) (y : ck_Y) : Prop :=
  (∀ pc ins nx tg, Dm.1 pc = some (ins, nx, tg) → ck_iok y.2.1 pc ins nx tg ∧ ck_row2 Dm.2.1 ins = true) ∧ (∀ k en, Dm.2.1 k = some en → ck_Eok my y.1.cls k en) ∧ ck_rok Dm.2.2.2.1 y.2.2 ∧ (Dm.2.2.2.2.1 = true → y.1.name = "<init>") ∧ Dm.2.2.1 ≤ 45
/-- a method that is called -/
def ck_MCd (Dm : ck_D) (y : ck_Y) : Prop := plainName y.1.cls = true ∧ ((Dm.2.2.2.2.2 = [] ∧ Cond.code y.1 y.2.1 Dm.2.2.1 y.2.2 ∈ lw_all) ∨
  ∃ a b t k hh, Dm.2.2.2.2.2 = [(a, b, t)] ∧ Cond.codeWith y.1 y.2.1 Dm.2.2.1 y.2.2 ((a, b, t, k) :: hh) ∈ lw_all ∧ k ≠ 0 ∧ Cond.classLink y.1.cls k "ConkerYard$Wrong" ∈ lw_all)
abbrev ck_rm (d mc ms : Nat) : Room := { frames := d + 8, cells := mc, slots := ms, locals := 64 * d + 256 }
section CkC1
variable {s0 : State} {D : va_G} {dA : Nat → ClassId} {sa : Nat → Nat} {SM : ck_M}
def ck_Pc (s0 : State) (D : va_G) (dA : Nat → ClassId) (sa : Nat → Nat) (SM : ck_M) (as : List ck_A) (M : ck_M) : Array Value → State → Prop := fun v U => v = (as.map (ck_sv (ck_ad s0 sa))).toArray ∧ s0.WarmedH U.vm ∧ ck_Rl s0 D dA sa SM M U.heap
def ck_Qc (s0 : State) (D : va_G) (dA : Nat → ClassId) (sa : Nat → Nat) (SM : ck_M) (v : Option ck_A) (M : ck_M) : Array Value → State → Outcome → State → Prop := fun _ _ o t => o = .returned (v.map (ck_sv (ck_ad s0 sa))) ∧ ck_Rl s0 D dA sa SM M t.heap
def ck_Xc (s0 : State) (D : va_G) (dA : Nat → ClassId) (sa : Nat → Nat) (SM : ck_M) (i : Nat) (M : ck_M) : String → Addr → State → State → Prop := fun E q _ t => E = "ConkerYard$Wrong" ∧ q = ck_ad s0 sa i ∧ ck_Rl s0 D dA sa SM M t.heap ∧ (M.K i).1 = 4
theorem ck_blind (as : List ck_A) (M : ck_M) : FrameBlind (ck_Pc s0 D dA sa SM as M) := fun _ _ _ _ h => h
theorem ck_cat_sum (ad : Nat → Nat) : ∀ st : List ck_A, ((st.map (ck_sv ad)).map fun v => v.category).sum = ck_cat st
  | [] => rfl
  | .inl x :: st => by rw [List.map_cons, List.map_cons, List.sum_cons, ck_cat_sum ad st]; rfl
  | .inr (.inl x) :: st => by rw [List.map_cons, List.map_cons, List.sum_cons, ck_cat_sum ad st]; rfl
  | .inr (.inr (.inl x)) :: st => by
    have h : (ck_sv ad (vr x)).category = 1 := by cases x <;> rfl
    rw [List.map_cons, List.map_cons, List.sum_cons, ck_cat_sum ad st, show (ck_sv ad (.inr (.inr (.inl x)))).category = 1 from h]
    rfl
  | .inr (.inr (.inr x)) :: st => by rw [List.map_cons, List.map_cons, List.sum_cons, ck_cat_sum ad st]; rfl
/-- the locals at an entry -/
theorem ck_ent_len : ∀ (n : Nat) (as : List ck_A), (ck_ent n as).length = n
  | 0, _ => rfl
  | n + 1, [] => by show (ck_ent n []).length + 1 = _; rw [ck_ent_len n []]
  | 1, .inr (.inl _) :: _ => rfl
  | n + 2, .inr (.inl x) :: l => by show (ck_ent n l).length + 1 + 1 = _; rw [ck_ent_len n l]
  | n + 1, .inl x :: l => by
    cases n <;> (show (ck_ent _ l).length + 1 = _; rw [ck_ent_len _ l])
  | n + 1, .inr (.inr (.inl x)) :: l => by
    cases n <;> (show (ck_ent _ l).length + 1 = _; rw [ck_ent_len _ l])
  | n + 1, .inr (.inr (.inr x)) :: l => by
    cases n <;> (show (ck_ent _ l).length + 1 = _; rw [ck_ent_len _ l])
theorem ck_ent_args (ad : Nat → Nat) : ∀ (n : Nat) (as : List ck_A) (i j : Nat) (v : ck_A) (w : Value), (∀ a ∈ as, a ≠ vu) → (ck_ent n as)[j]? = some v → ck_cv ad v = some w → (i + j, w) ∈ lv_args i (as.map (ck_sv ad))
  | 0, _, _, _, _, _, _, h, _ => by simp [ck_ent] at h
  | n + 1, [], i, j, v, w, ha, h, hv => by
    exfalso
    have key : ∀ (n j : Nat), (ck_ent n [])[j]? = some v → False := by
      intro n
      induction n with
      | zero => intro j h; simp [ck_ent] at h
      | succ n ih =>
        intro j h
        cases j with
        | zero =>
          have : v = vu := (Option.some.inj h).symm
          subst this; cases hv
        | succ j => exact ih j h
    exact key (n + 1) j h
  | 1, .inr (.inl x) :: l, i, j, v, w, ha, h, hv => by
    exfalso
    cases j with
    | zero => have : v = vu := (Option.some.inj h).symm; subst this; cases hv
    | succ j => exact absurd h (by simp [ck_ent])
  | n + 2, .inr (.inl x) :: l, i, j, v, w, ha, h, hv => by
    match j, h with
    | 0, h =>
      have : v = vl x := (Option.some.inj h).symm
      subst this; cases hv
      exact List.mem_cons_self
    | 1, h => have : v = vu := (Option.some.inj h).symm; subst this; cases hv
    | j + 2, h =>
      have := ck_ent_args ad n l (i + 2) j v w (fun a q => ha a (List.mem_cons_of_mem _ q)) h hv
      rw [show i + 2 + j = i + (j + 2) by omega] at this
      exact List.mem_cons_of_mem _ this
  | n + 1, .inl x :: l, i, j, v, w, ha, h, hv => by
    have e : ck_ent (n + 1) (vi x :: l) = vi x :: ck_ent n l := by cases n <;> rfl
    rw [show ck_ent (n + 1) (.inl x :: l) = vi x :: ck_ent n l from e] at h
    cases j with
    | zero =>
      have : v = vi x := (Option.some.inj h).symm
      subst this; cases hv
      exact List.mem_cons_self
    | succ j =>
      have := ck_ent_args ad n l (i + 1) j v w (fun a q => ha a (List.mem_cons_of_mem _ q)) h hv
      rw [show i + 1 + j = i + (j + 1) by omega] at this
      exact List.mem_cons_of_mem _ this
  | n + 1, .inr (.inr (.inl x)) :: l, i, j, v, w, ha, h, hv => by
    have e : ck_ent (n + 1) (vr x :: l) = vr x :: ck_ent n l := by cases n <;> rfl
    rw [show ck_ent (n + 1) (.inr (.inr (.inl x)) :: l) = vr x :: ck_ent n l from e] at h
    cases j with
    | zero =>
      have : v = vr x := (Option.some.inj h).symm
      subst this
      have e2 : w = ck_sv ad (vr x) := by unfold ck_sv; rw [hv]; rfl
      subst e2
      exact List.mem_cons_self
    | succ j =>
      have := ck_ent_args ad n l (i + 1) j v w (fun a q => ha a (List.mem_cons_of_mem _ q)) h hv
      rw [show i + 1 + j = i + (j + 1) by omega] at this
      refine List.mem_cons_of_mem _ ?_
      have hc : (ck_sv ad (vr x)).category = 1 := by cases x <;> rfl
      show _ ∈ lv_args (if (ck_sv ad (vr x)).category = 2 then i + 2 else i + 1) _
      rw [hc]
      exact this
  | n + 1, .inr (.inr (.inr x)) :: l, i, j, v, w, ha, h, hv => absurd rfl (ha _ List.mem_cons_self)
end CkC1
