theorem ck_i_ne0 {y : Int} (hy : ck_i32 y) (h : y ≠ 0) : ¬ Int32.ofInt y = 0 := fun q => h ((ck_i_eq hy (show ck_i32 0 by decide)).mp q)
theorem ck_l_ne0 {y : Int} (hy : ck_w64 y = y) (h : y ≠ 0) : ¬ Int64.ofInt y = 0 := fun q => h (by rw [← ck_l_in hy, q]; rfl)
theorem ck_l_cmp {x y : Int} (hx : ck_w64 x = x) (hy : ck_w64 y = y) : lg_cmp (Int64.ofInt x) (Int64.ofInt y) = Int32.ofInt (if x < y then -1 else if x = y then 0 else 1) := by
  unfold lg_cmp
  simp only [Int64.lt_iff_toInt_lt, ← Int64.toInt_inj, ck_l_in hx, ck_l_in hy]
  split <;> split <;> first | rfl | (split <;> first | rfl | omega) | omega
theorem ck_b8_k : ∀ k : Fin 256, (Int8.ofInt ((k.val : Int) - 128)).toInt32 = Int32.ofInt ((k.val : Int) - 128) := by decide +kernel
theorem ck_i_b8 {n : Int} (h : -128 ≤ n ∧ n < 128) : (Int8.ofInt n).toInt32 = Int32.ofInt n := by
  have := ck_b8_k ⟨(n + 128).toNat, by omega⟩
  rwa [show (((⟨(n + 128).toNat, by omega⟩ : Fin 256).val : Nat) : Int) - 128 = n by show ((n + 128).toNat : Int) - 128 = n; omega] at this
theorem ck_i_s16 {n : Int} (h : -32768 ≤ n ∧ n < 32768) : (Int16.ofInt n).toInt32 = Int32.ofInt n := by
  rw [← Int32.toInt_inj, Int16.toInt_toInt32, ck_i_toInt ⟨by omega, by omega⟩]
  exact Int16.toInt_ofInt_of_le (by simp; omega) (by simp; omega)
theorem ck_sv_cat (ad : Nat → Nat) {v : ck_A} (h : (∃ i, v = vi i) ∨ ∃ r, v = vr r) : (ck_sv ad v).category = 1 := by
  rcases h with ⟨i, rfl⟩ | ⟨r, rfl⟩
  · rfl
  · cases r <;> rfl
/-! ONE INSTRUCTION, EVALUATED AND RUN: constants, locals, stack, reckoning, branches (printed by gen/steps1.py) -/
section CkSteps1
variable {p : Program} {lc : Launch} {e : Env} {R : Room} {s : State} {m : MethodId} {args : Array Value} {below : List Frame} {meth : Method} {c : Code} {Q : State → Prop}
variable {s0 : State} {D : va_G} {dA : Nat → ClassId} {sa : Nat → Nat} {SM : ck_M} {n0 z0 nL : Nat}
/-- from a place, with any heap that is as M says and any locals that hold l, the machine comes to Q -/
def ck_WW (p : Program) (lc : Launch) (e : Env) (R : Room) (s : State) (m : MethodId) (args : Array Value) (below : List Frame) (meth : Method) (c : Code) (Q : State → Prop) (s0 : State) (D : va_G) (dA : Nat → ClassId) (sa : Nat → Nat) (SM : ck_M) (n0 z0 nL : Nat) (pc : Nat) (l st : List ck_A) (M : ck_M) : Prop :=
  ∀ (H : Heap) (locs : List Loc) (ls : Array Slot), ck_Rl s0 D dA sa SM M H → (∀ q ∈ locs, s0.heap.size ≤ q.base) → lv_has ls nL (ck_el (ck_ad s0 sa) l) → l.length = nL → n0 ≤ M.n → z0 ≤ M.z →
    W p lc e R s m args below meth c H locs (M.n - n0) (M.z - z0) Q (F0 m pc ls (st.map (ck_sv (ck_ad s0 sa))))
variable {cc : ByteArray} {pc : Nat} {l st : List ck_A} {M : ck_M} (hx : p.tables.exec = Jvm.exec) (hb : c.code = cc)
theorem ck_s_iconst (hx : p.tables.exec = Jvm.exec) (hb : c.code = cc) {n : Int} (hdg : decode cc pc = .ok (.iconst n, 1)) (k : ck_WW p lc e R s m args below meth c Q s0 D dA sa SM n0 z0 nL  (pc + 1) l (vi n :: st) M) : ck_WW p lc e R s m args below meth c Q s0 D dA sa SM n0 z0 nL  (pc) l st M := by
  intro H locs ls hR hq hL hlen hn hz
  have k1 := k H locs ls hR hq hL hlen hn hz
  exact lv_iconst hx hb hdg rfl k1
theorem ck_s_bipush (hx : p.tables.exec = Jvm.exec) (hb : c.code = cc) {n : Int} (hn8 : -128 ≤ n ∧ n < 128) (hdg : decode cc pc = .ok (.bipush n, 2)) (k : ck_WW p lc e R s m args below meth c Q s0 D dA sa SM n0 z0 nL  (pc + 2) l (vi n :: st) M) : ck_WW p lc e R s m args below meth c Q s0 D dA sa SM n0 z0 nL  (pc) l st M := by
  intro H locs ls hR hq hL hlen hn hz
  have k1 := k H locs ls hR hq hL hlen hn hz
  exact lv_bipush (v := Int32.ofInt n) hx hb hdg (ck_i_b8 hn8) k1
theorem ck_s_sipush (hx : p.tables.exec = Jvm.exec) (hb : c.code = cc) {n : Int} (hn8 : -32768 ≤ n ∧ n < 32768) (hdg : decode cc pc = .ok (.sipush n, 3)) (k : ck_WW p lc e R s m args below meth c Q s0 D dA sa SM n0 z0 nL  (pc + 3) l (vi n :: st) M) : ck_WW p lc e R s m args below meth c Q s0 D dA sa SM n0 z0 nL  (pc) l st M := by
  intro H locs ls hR hq hL hlen hn hz
  have k1 := k H locs ls hR hq hL hlen hn hz
  exact lv_sipush (v := Int32.ofInt n) hx hb hdg (ck_i_s16 hn8) k1
theorem ck_s_lconst (hx : p.tables.exec = Jvm.exec) (hb : c.code = cc) {n : Fin 2} (hdg : decode cc pc = .ok (.lconst n, 1)) (k : ck_WW p lc e R s m args below meth c Q s0 D dA sa SM n0 z0 nL  (pc + 1) l (vl (n.val : Int) :: st) M) : ck_WW p lc e R s m args below meth c Q s0 D dA sa SM n0 z0 nL  (pc) l st M := by
  intro H locs ls hR hq hL hlen hn hz
  have k1 := k H locs ls hR hq hL hlen hn hz
  exact lv_lconst hx hb hdg rfl k1
theorem ck_s_null (hx : p.tables.exec = Jvm.exec) (hb : c.code = cc) (hdg : decode cc pc = .ok (.aconst_null, 1)) (k : ck_WW p lc e R s m args below meth c Q s0 D dA sa SM n0 z0 nL  (pc + 1) l (vr none :: st) M) : ck_WW p lc e R s m args below meth c Q s0 D dA sa SM n0 z0 nL  (pc) l st M := by
  intro H locs ls hR hq hL hlen hn hz
  have k1 := k H locs ls hR hq hL hlen hn hz
  exact lv_null hx hb hdg k1
theorem ck_s_iload (hx : p.tables.exec = Jvm.exec) (hb : c.code = cc) {i : Nat} {x : Int} (hi : l[i]? = some (vi x)) (hdg : decode cc pc = .ok (.iload i, 2)) (k : ck_WW p lc e R s m args below meth c Q s0 D dA sa SM n0 z0 nL  (pc + 2) l (vi x :: st) M) : ck_WW p lc e R s m args below meth c Q s0 D dA sa SM n0 z0 nL  (pc) l st M := by
  intro H locs ls hR hq hL hlen hn hz
  have k1 := k H locs ls hR hq hL hlen hn hz
  exact lv_iload hx hb hdg (ck_el_at hL hi rfl) k1
theorem ck_s_iload_n (hx : p.tables.exec = Jvm.exec) (hb : c.code = cc) {i : Fin 4} {x : Int} (hi : l[i.val]? = some (vi x)) (hdg : decode cc pc = .ok (.iload_n i, 1)) (k : ck_WW p lc e R s m args below meth c Q s0 D dA sa SM n0 z0 nL  (pc + 1) l (vi x :: st) M) : ck_WW p lc e R s m args below meth c Q s0 D dA sa SM n0 z0 nL  (pc) l st M := by
  intro H locs ls hR hq hL hlen hn hz
  have k1 := k H locs ls hR hq hL hlen hn hz
  exact lv_iload_n hx hb hdg rfl (ck_el_at hL hi rfl) k1
theorem ck_s_lload (hx : p.tables.exec = Jvm.exec) (hb : c.code = cc) {i : Nat} {x : Int} (hi : l[i]? = some (vl x)) (hdg : decode cc pc = .ok (.lload i, 2)) (k : ck_WW p lc e R s m args below meth c Q s0 D dA sa SM n0 z0 nL  (pc + 2) l (vl x :: st) M) : ck_WW p lc e R s m args below meth c Q s0 D dA sa SM n0 z0 nL  (pc) l st M := by
  intro H locs ls hR hq hL hlen hn hz
  have k1 := k H locs ls hR hq hL hlen hn hz
  exact lv_lload hx hb hdg (ck_el_at hL hi rfl) k1
theorem ck_s_lload_n (hx : p.tables.exec = Jvm.exec) (hb : c.code = cc) {i : Fin 4} {x : Int} (hi : l[i.val]? = some (vl x)) (hdg : decode cc pc = .ok (.lload_n i, 1)) (k : ck_WW p lc e R s m args below meth c Q s0 D dA sa SM n0 z0 nL  (pc + 1) l (vl x :: st) M) : ck_WW p lc e R s m args below meth c Q s0 D dA sa SM n0 z0 nL  (pc) l st M := by
  intro H locs ls hR hq hL hlen hn hz
  have k1 := k H locs ls hR hq hL hlen hn hz
  exact lv_lload_n hx hb hdg rfl (ck_el_at hL hi rfl) k1
theorem ck_s_aload (hx : p.tables.exec = Jvm.exec) (hb : c.code = cc) {i : Nat} {x : Option Nat} (hi : l[i]? = some (vr x)) (hdg : decode cc pc = .ok (.aload i, 2)) (k : ck_WW p lc e R s m args below meth c Q s0 D dA sa SM n0 z0 nL  (pc + 2) l (vr x :: st) M) : ck_WW p lc e R s m args below meth c Q s0 D dA sa SM n0 z0 nL  (pc) l st M := by
  intro H locs ls hR hq hL hlen hn hz
  have k1 := k H locs ls hR hq hL hlen hn hz
  cases x with
  | none => exact lv_aloadN hx hb hdg (ck_el_at hL hi rfl) k1
  | some x => exact lv_aload hx hb hdg (ck_el_at hL hi rfl) k1
theorem ck_s_istore (hx : p.tables.exec = Jvm.exec) (hb : c.code = cc) {i : Nat} {x : Int} {l1 : List ck_A} (hi : ck_sto (i) (vi x) l l1) (hdg : decode cc pc = .ok (.istore i, 2)) (k : ck_WW p lc e R s m args below meth c Q s0 D dA sa SM n0 z0 nL  (pc + 2) l1 st M) : ck_WW p lc e R s m args below meth c Q s0 D dA sa SM n0 z0 nL  (pc) l (vi x :: st) M := by
  intro H locs ls hR hq hL hlen hn hz
  exact lv_istore hx hb hdg hL (by have := hi.2.1; omega) rfl (fun ls1 hL1 => k H locs ls1 hR hq (ck_el_sto hi rfl hL1) (hi.1.trans hlen) hn hz)
theorem ck_s_lstore (hx : p.tables.exec = Jvm.exec) (hb : c.code = cc) {i : Nat} {x : Int} {l1 : List ck_A} (hi : ck_sto2 (i) x l l1) (hdg : decode cc pc = .ok (.lstore i, 2)) (k : ck_WW p lc e R s m args below meth c Q s0 D dA sa SM n0 z0 nL  (pc + 2) l1 st M) : ck_WW p lc e R s m args below meth c Q s0 D dA sa SM n0 z0 nL  (pc) l (vl x :: st) M := by
  intro H locs ls hR hq hL hlen hn hz
  exact lv_lstore hx hb hdg hL (by have := hi.2.1; omega) rfl (fun ls1 hL1 => k H locs ls1 hR hq (ck_el_sto2 hi hL1) (hi.1.trans hlen) hn hz)
theorem ck_s_astore (hx : p.tables.exec = Jvm.exec) (hb : c.code = cc) {i : Nat} {x : Option Nat} {l1 : List ck_A} (hi : ck_sto (i) (vr x) l l1) (hdg : decode cc pc = .ok (.astore i, 2)) (k : ck_WW p lc e R s m args below meth c Q s0 D dA sa SM n0 z0 nL  (pc + 2) l1 st M) : ck_WW p lc e R s m args below meth c Q s0 D dA sa SM n0 z0 nL  (pc) l (vr x :: st) M := by
  intro H locs ls hR hq hL hlen hn hz
  cases x with
  | none => exact lv_astoreN hx hb hdg hL (by have := hi.2.1; omega) rfl (fun ls1 hL1 => k H locs ls1 hR hq (ck_el_sto hi rfl hL1) (hi.1.trans hlen) hn hz)
  | some x => exact lv_astore hx hb hdg hL (by have := hi.2.1; omega) rfl (fun ls1 hL1 => k H locs ls1 hR hq (ck_el_sto hi rfl hL1) (hi.1.trans hlen) hn hz)
theorem ck_s_aload_n (hx : p.tables.exec = Jvm.exec) (hb : c.code = cc) {i : Fin 4} {x : Option Nat} (hi : l[i.val]? = some (vr x)) (hdg : decode cc pc = .ok (.aload_n i, 1)) (k : ck_WW p lc e R s m args below meth c Q s0 D dA sa SM n0 z0 nL  (pc + 1) l (vr x :: st) M) : ck_WW p lc e R s m args below meth c Q s0 D dA sa SM n0 z0 nL  (pc) l st M := by
  intro H locs ls hR hq hL hlen hn hz
  have k1 := k H locs ls hR hq hL hlen hn hz
  cases x with
  | none => exact lv_aload_nN hx hb hdg rfl (ck_el_at hL hi rfl) k1
  | some x => exact lv_aload_n hx hb hdg rfl (ck_el_at hL hi rfl) k1
theorem ck_s_istore_n (hx : p.tables.exec = Jvm.exec) (hb : c.code = cc) {i : Fin 4} {x : Int} {l1 : List ck_A} (hi : ck_sto (i.val) (vi x) l l1) (hdg : decode cc pc = .ok (.istore_n i, 1)) (k : ck_WW p lc e R s m args below meth c Q s0 D dA sa SM n0 z0 nL  (pc + 1) l1 st M) : ck_WW p lc e R s m args below meth c Q s0 D dA sa SM n0 z0 nL  (pc) l (vi x :: st) M := by
  intro H locs ls hR hq hL hlen hn hz
  exact lv_istore_n hx hb hdg rfl hL (by have := hi.2.1; omega) rfl (fun ls1 hL1 => k H locs ls1 hR hq (ck_el_sto hi rfl hL1) (hi.1.trans hlen) hn hz)
theorem ck_s_lstore_n (hx : p.tables.exec = Jvm.exec) (hb : c.code = cc) {i : Fin 4} {x : Int} {l1 : List ck_A} (hi : ck_sto2 (i.val) x l l1) (hdg : decode cc pc = .ok (.lstore_n i, 1)) (k : ck_WW p lc e R s m args below meth c Q s0 D dA sa SM n0 z0 nL  (pc + 1) l1 st M) : ck_WW p lc e R s m args below meth c Q s0 D dA sa SM n0 z0 nL  (pc) l (vl x :: st) M := by
  intro H locs ls hR hq hL hlen hn hz
  exact lv_lstore_n hx hb hdg rfl hL (by have := hi.2.1; omega) rfl (fun ls1 hL1 => k H locs ls1 hR hq (ck_el_sto2 hi hL1) (hi.1.trans hlen) hn hz)
theorem ck_s_astore_n (hx : p.tables.exec = Jvm.exec) (hb : c.code = cc) {i : Fin 4} {x : Option Nat} {l1 : List ck_A} (hi : ck_sto (i.val) (vr x) l l1) (hdg : decode cc pc = .ok (.astore_n i, 1)) (k : ck_WW p lc e R s m args below meth c Q s0 D dA sa SM n0 z0 nL  (pc + 1) l1 st M) : ck_WW p lc e R s m args below meth c Q s0 D dA sa SM n0 z0 nL  (pc) l (vr x :: st) M := by
  intro H locs ls hR hq hL hlen hn hz
  cases x with
  | none => exact lv_astore_nN hx hb hdg rfl hL (by have := hi.2.1; omega) rfl (fun ls1 hL1 => k H locs ls1 hR hq (ck_el_sto hi rfl hL1) (hi.1.trans hlen) hn hz)
  | some x => exact lv_astore_n hx hb hdg rfl hL (by have := hi.2.1; omega) rfl (fun ls1 hL1 => k H locs ls1 hR hq (ck_el_sto hi rfl hL1) (hi.1.trans hlen) hn hz)
theorem ck_s_iinc (hx : p.tables.exec = Jvm.exec) (hb : c.code = cc) {i : Nat} {x n : Int} {l1 : List ck_A} (h0 : l[i]? = some (vi x)) (hi : ck_sto i (vi (x + n)) l l1) (hdg : decode cc pc = .ok (.iinc i n, 3)) (k : ck_WW p lc e R s m args below meth c Q s0 D dA sa SM n0 z0 nL  (pc + 3) l1 st M) : ck_WW p lc e R s m args below meth c Q s0 D dA sa SM n0 z0 nL  (pc) l st M := by
  intro H locs ls hR hq hL hlen hn hz
  obtain ⟨j, hj⟩ := List.getElem?_of_mem (ck_el_mem.mpr ⟨_, h0, rfl⟩ : (i, Value.int (Int32.ofInt x)) ∈ ck_el (ck_ad s0 sa) l)
  exact lv_iinc (v := Int32.ofInt (x + n)) hx hb hdg hL hj (ck_i_add x n) (by have := hi.2.1; omega) rfl (fun ls1 hL1 => k H locs ls1 hR hq (ck_el_sto hi rfl hL1) (hi.1.trans hlen) hn hz)
theorem ck_s_iadd (hx : p.tables.exec = Jvm.exec) (hb : c.code = cc) {x y : Int} (hdg : decode cc pc = .ok (.iadd, 1)) (k : ck_WW p lc e R s m args below meth c Q s0 D dA sa SM n0 z0 nL  (pc + 1) l (vi (x + y) :: st) M) : ck_WW p lc e R s m args below meth c Q s0 D dA sa SM n0 z0 nL  (pc) l (vi y :: vi x :: st) M := by
  intro H locs ls hR hq hL hlen hn hz
  have k1 := k H locs ls hR hq hL hlen hn hz
  exact lv_iadd hx hb hdg (by rw [ck_i_add]; exact k1)
theorem ck_s_isub (hx : p.tables.exec = Jvm.exec) (hb : c.code = cc) {x y : Int} (hdg : decode cc pc = .ok (.isub, 1)) (k : ck_WW p lc e R s m args below meth c Q s0 D dA sa SM n0 z0 nL  (pc + 1) l (vi (x - y) :: st) M) : ck_WW p lc e R s m args below meth c Q s0 D dA sa SM n0 z0 nL  (pc) l (vi y :: vi x :: st) M := by
  intro H locs ls hR hq hL hlen hn hz
  have k1 := k H locs ls hR hq hL hlen hn hz
  exact lv_isub hx hb hdg (by rw [ck_i_sub]; exact k1)
theorem ck_s_imul (hx : p.tables.exec = Jvm.exec) (hb : c.code = cc) {x y : Int} (hdg : decode cc pc = .ok (.imul, 1)) (k : ck_WW p lc e R s m args below meth c Q s0 D dA sa SM n0 z0 nL  (pc + 1) l (vi (x * y) :: st) M) : ck_WW p lc e R s m args below meth c Q s0 D dA sa SM n0 z0 nL  (pc) l (vi y :: vi x :: st) M := by
  intro H locs ls hR hq hL hlen hn hz
  have k1 := k H locs ls hR hq hL hlen hn hz
  exact lv_imul hx hb hdg (by rw [ck_i_mul]; exact k1)
theorem ck_s_ineg (hx : p.tables.exec = Jvm.exec) (hb : c.code = cc) {x : Int} (hdg : decode cc pc = .ok (.ineg, 1)) (k : ck_WW p lc e R s m args below meth c Q s0 D dA sa SM n0 z0 nL  (pc + 1) l (vi (-x) :: st) M) : ck_WW p lc e R s m args below meth c Q s0 D dA sa SM n0 z0 nL  (pc) l (vi x :: st) M := by
  intro H locs ls hR hq hL hlen hn hz
  have k1 := k H locs ls hR hq hL hlen hn hz
  exact lv_ineg hx hb hdg (by rw [ck_i_neg]; exact k1)
theorem ck_s_iand (hx : p.tables.exec = Jvm.exec) (hb : c.code = cc) {x y : Int} (hdg : decode cc pc = .ok (.iand, 1)) (k : ck_WW p lc e R s m args below meth c Q s0 D dA sa SM n0 z0 nL  (pc + 1) l (vi (ck_and x y) :: st) M) : ck_WW p lc e R s m args below meth c Q s0 D dA sa SM n0 z0 nL  (pc) l (vi y :: vi x :: st) M := by
  intro H locs ls hR hq hL hlen hn hz
  have k1 := k H locs ls hR hq hL hlen hn hz
  exact lv_iand hx hb hdg (by rw [← ck_i_ofToInt (Int32.ofInt x &&& Int32.ofInt y)]; exact k1)
theorem ck_s_ior (hx : p.tables.exec = Jvm.exec) (hb : c.code = cc) {x y : Int} (hdg : decode cc pc = .ok (.ior, 1)) (k : ck_WW p lc e R s m args below meth c Q s0 D dA sa SM n0 z0 nL  (pc + 1) l (vi (ck_or x y) :: st) M) : ck_WW p lc e R s m args below meth c Q s0 D dA sa SM n0 z0 nL  (pc) l (vi y :: vi x :: st) M := by
  intro H locs ls hR hq hL hlen hn hz
  have k1 := k H locs ls hR hq hL hlen hn hz
  exact lv_ior hx hb hdg (by rw [← ck_i_ofToInt (Int32.ofInt x ||| Int32.ofInt y)]; exact k1)
theorem ck_s_ixor (hx : p.tables.exec = Jvm.exec) (hb : c.code = cc) {x y : Int} (hdg : decode cc pc = .ok (.ixor, 1)) (k : ck_WW p lc e R s m args below meth c Q s0 D dA sa SM n0 z0 nL  (pc + 1) l (vi (ck_xor x y) :: st) M) : ck_WW p lc e R s m args below meth c Q s0 D dA sa SM n0 z0 nL  (pc) l (vi y :: vi x :: st) M := by
  intro H locs ls hR hq hL hlen hn hz
  have k1 := k H locs ls hR hq hL hlen hn hz
  exact lv_ixor hx hb hdg (by rw [← ck_i_ofToInt (Int32.ofInt x ^^^ Int32.ofInt y)]; exact k1)
theorem ck_s_iushr (hx : p.tables.exec = Jvm.exec) (hb : c.code = cc) {x y : Int} (hdg : decode cc pc = .ok (.iushr, 1)) (k : ck_WW p lc e R s m args below meth c Q s0 D dA sa SM n0 z0 nL  (pc + 1) l (vi (ck_ushr x y) :: st) M) : ck_WW p lc e R s m args below meth c Q s0 D dA sa SM n0 z0 nL  (pc) l (vi y :: vi x :: st) M := by
  intro H locs ls hR hq hL hlen hn hz
  have k1 := k H locs ls hR hq hL hlen hn hz
  exact lv_iushr hx hb hdg (ck_i_ofToInt _).symm k1
theorem ck_s_idiv (hx : p.tables.exec = Jvm.exec) (hb : c.code = cc) {x y : Int} (h : ck_i32 x ∧ ck_i32 y ∧ y ≠ 0) (hdg : decode cc pc = .ok (.idiv, 1)) (k : ck_WW p lc e R s m args below meth c Q s0 D dA sa SM n0 z0 nL  (pc + 1) l (vi (x.tdiv y) :: st) M) : ck_WW p lc e R s m args below meth c Q s0 D dA sa SM n0 z0 nL  (pc) l (vi y :: vi x :: st) M := by
  intro H locs ls hR hq hL hlen hn hz
  have k1 := k H locs ls hR hq hL hlen hn hz
  exact lv_idiv hx hb hdg (ck_i_ne0 h.2.1 h.2.2) (by rw [ck_i_tdiv h.1 h.2.1]; exact k1)
theorem ck_s_irem (hx : p.tables.exec = Jvm.exec) (hb : c.code = cc) {x y : Int} (h : ck_i32 x ∧ ck_i32 y ∧ y ≠ 0) (hdg : decode cc pc = .ok (.irem, 1)) (k : ck_WW p lc e R s m args below meth c Q s0 D dA sa SM n0 z0 nL  (pc + 1) l (vi (x.tmod y) :: st) M) : ck_WW p lc e R s m args below meth c Q s0 D dA sa SM n0 z0 nL  (pc) l (vi y :: vi x :: st) M := by
  intro H locs ls hR hq hL hlen hn hz
  have k1 := k H locs ls hR hq hL hlen hn hz
  exact lv_irem hx hb hdg (ck_i_ne0 h.2.1 h.2.2) (by rw [ck_i_tmod h.1 h.2.1]; exact k1)
theorem ck_s_ishl (hx : p.tables.exec = Jvm.exec) (hb : c.code = cc) {x y : Int} (h : 0 ≤ y ∧ y < 32) (hdg : decode cc pc = .ok (.ishl, 1)) (k : ck_WW p lc e R s m args below meth c Q s0 D dA sa SM n0 z0 nL  (pc + 1) l (vi (x * 2 ^ y.toNat) :: st) M) : ck_WW p lc e R s m args below meth c Q s0 D dA sa SM n0 z0 nL  (pc) l (vi y :: vi x :: st) M := by
  intro H locs ls hR hq hL hlen hn hz
  have k1 := k H locs ls hR hq hL hlen hn hz
  exact lv_ishl hx hb hdg (by rw [ck_i_shl h]; exact k1)
theorem ck_s_ishr (hx : p.tables.exec = Jvm.exec) (hb : c.code = cc) {x y : Int} (h : ck_i32 x ∧ 0 ≤ y ∧ y < 32) (hdg : decode cc pc = .ok (.ishr, 1)) (k : ck_WW p lc e R s m args below meth c Q s0 D dA sa SM n0 z0 nL  (pc + 1) l (vi (x / 2 ^ y.toNat) :: st) M) : ck_WW p lc e R s m args below meth c Q s0 D dA sa SM n0 z0 nL  (pc) l (vi y :: vi x :: st) M := by
  intro H locs ls hR hq hL hlen hn hz
  have k1 := k H locs ls hR hq hL hlen hn hz
  exact lv_ishr hx hb hdg (by rw [ck_i_shr h.1 h.2]; exact k1)
theorem ck_s_ladd (hx : p.tables.exec = Jvm.exec) (hb : c.code = cc) {x y : Int} (hdg : decode cc pc = .ok (.ladd, 1)) (k : ck_WW p lc e R s m args below meth c Q s0 D dA sa SM n0 z0 nL  (pc + 1) l (vl (ck_w64 (x + y)) :: st) M) : ck_WW p lc e R s m args below meth c Q s0 D dA sa SM n0 z0 nL  (pc) l (vl y :: vl x :: st) M := by
  intro H locs ls hR hq hL hlen hn hz
  have k1 := k H locs ls hR hq hL hlen hn hz
  exact lv_ladd hx hb hdg (by rw [← Int64.ofInt_add, ← ck_l_toInt (x + y)]; exact k1)
theorem ck_s_lsub (hx : p.tables.exec = Jvm.exec) (hb : c.code = cc) {x y : Int} (hdg : decode cc pc = .ok (.lsub, 1)) (k : ck_WW p lc e R s m args below meth c Q s0 D dA sa SM n0 z0 nL  (pc + 1) l (vl (ck_w64 (x - y)) :: st) M) : ck_WW p lc e R s m args below meth c Q s0 D dA sa SM n0 z0 nL  (pc) l (vl y :: vl x :: st) M := by
  intro H locs ls hR hq hL hlen hn hz
  have k1 := k H locs ls hR hq hL hlen hn hz
  exact lv_lsub hx hb hdg (by rw [← Int64.ofInt_sub, ← ck_l_toInt (x - y)]; exact k1)
theorem ck_s_lmul (hx : p.tables.exec = Jvm.exec) (hb : c.code = cc) {x y : Int} (hdg : decode cc pc = .ok (.lmul, 1)) (k : ck_WW p lc e R s m args below meth c Q s0 D dA sa SM n0 z0 nL  (pc + 1) l (vl (ck_w64 (x * y)) :: st) M) : ck_WW p lc e R s m args below meth c Q s0 D dA sa SM n0 z0 nL  (pc) l (vl y :: vl x :: st) M := by
  intro H locs ls hR hq hL hlen hn hz
  have k1 := k H locs ls hR hq hL hlen hn hz
  exact lv_lmul hx hb hdg (by rw [← Int64.ofInt_mul, ← ck_l_toInt (x * y)]; exact k1)
theorem ck_s_ldiv (hx : p.tables.exec = Jvm.exec) (hb : c.code = cc) {x y : Int} (h : ck_w64 x = x ∧ ck_w64 y = y ∧ y ≠ 0) (hdg : decode cc pc = .ok (.ldiv, 1)) (k : ck_WW p lc e R s m args below meth c Q s0 D dA sa SM n0 z0 nL  (pc + 1) l (vl (ck_w64 (x.tdiv y)) :: st) M) : ck_WW p lc e R s m args below meth c Q s0 D dA sa SM n0 z0 nL  (pc) l (vl y :: vl x :: st) M := by
  intro H locs ls hR hq hL hlen hn hz
  have k1 := k H locs ls hR hq hL hlen hn hz
  exact lv_ldiv hx hb hdg (ck_l_ne0 h.2.1 h.2.2) (by rw [ck_l_tdiv h.1 h.2.1]; exact k1)
theorem ck_s_lrem (hx : p.tables.exec = Jvm.exec) (hb : c.code = cc) {x y : Int} (h : ck_w64 x = x ∧ ck_w64 y = y ∧ y ≠ 0) (hdg : decode cc pc = .ok (.lrem, 1)) (k : ck_WW p lc e R s m args below meth c Q s0 D dA sa SM n0 z0 nL  (pc + 1) l (vl (x.tmod y) :: st) M) : ck_WW p lc e R s m args below meth c Q s0 D dA sa SM n0 z0 nL  (pc) l (vl y :: vl x :: st) M := by
  intro H locs ls hR hq hL hlen hn hz
  have k1 := k H locs ls hR hq hL hlen hn hz
  exact lv_lrem hx hb hdg (ck_l_ne0 h.2.1 h.2.2) (by rw [ck_l_tmod h.1 h.2.1]; exact k1)
theorem ck_s_land (hx : p.tables.exec = Jvm.exec) (hb : c.code = cc) {x y : Int} (hdg : decode cc pc = .ok (.land, 1)) (k : ck_WW p lc e R s m args below meth c Q s0 D dA sa SM n0 z0 nL  (pc + 1) l (vl (ck_land x y) :: st) M) : ck_WW p lc e R s m args below meth c Q s0 D dA sa SM n0 z0 nL  (pc) l (vl y :: vl x :: st) M := by
  intro H locs ls hR hq hL hlen hn hz
  have k1 := k H locs ls hR hq hL hlen hn hz
  exact lv_land hx hb hdg (by rw [← ck_l_ofToInt (Int64.ofInt x &&& Int64.ofInt y)]; exact k1)
theorem ck_s_lor (hx : p.tables.exec = Jvm.exec) (hb : c.code = cc) {x y : Int} (hdg : decode cc pc = .ok (.lor, 1)) (k : ck_WW p lc e R s m args below meth c Q s0 D dA sa SM n0 z0 nL  (pc + 1) l (vl (ck_lor x y) :: st) M) : ck_WW p lc e R s m args below meth c Q s0 D dA sa SM n0 z0 nL  (pc) l (vl y :: vl x :: st) M := by
  intro H locs ls hR hq hL hlen hn hz
  have k1 := k H locs ls hR hq hL hlen hn hz
  exact lv_lor hx hb hdg (by rw [← ck_l_ofToInt (Int64.ofInt x ||| Int64.ofInt y)]; exact k1)
theorem ck_s_lshl (hx : p.tables.exec = Jvm.exec) (hb : c.code = cc) {x y : Int} (hdg : decode cc pc = .ok (.lshl, 1)) (k : ck_WW p lc e R s m args below meth c Q s0 D dA sa SM n0 z0 nL  (pc + 1) l (vl (ck_lshl x y) :: st) M) : ck_WW p lc e R s m args below meth c Q s0 D dA sa SM n0 z0 nL  (pc) l (vi y :: vl x :: st) M := by
  intro H locs ls hR hq hL hlen hn hz
  have k1 := k H locs ls hR hq hL hlen hn hz
  exact lv_lshl hx hb hdg (ck_l_ofToInt _).symm k1
theorem ck_s_lcmp (hx : p.tables.exec = Jvm.exec) (hb : c.code = cc) {x y : Int} (h : ck_w64 x = x ∧ ck_w64 y = y) (hdg : decode cc pc = .ok (.lcmp, 1)) (k : ck_WW p lc e R s m args below meth c Q s0 D dA sa SM n0 z0 nL  (pc + 1) l (vi (if x < y then -1 else if x = y then 0 else 1) :: st) M) : ck_WW p lc e R s m args below meth c Q s0 D dA sa SM n0 z0 nL  (pc) l (vl y :: vl x :: st) M := by
  intro H locs ls hR hq hL hlen hn hz
  have k1 := k H locs ls hR hq hL hlen hn hz
  exact W.lcmp hx hb hdg (by rw [ck_l_cmp h.1 h.2]; exact k1)
theorem ck_s_i2l (hx : p.tables.exec = Jvm.exec) (hb : c.code = cc) {x : Int} (h : ck_i32 x) (hdg : decode cc pc = .ok (.i2l, 1)) (k : ck_WW p lc e R s m args below meth c Q s0 D dA sa SM n0 z0 nL  (pc + 1) l (vl x :: st) M) : ck_WW p lc e R s m args below meth c Q s0 D dA sa SM n0 z0 nL  (pc) l (vi x :: st) M := by
  intro H locs ls hR hq hL hlen hn hz
  have k1 := k H locs ls hR hq hL hlen hn hz
  exact lv_i2l hx hb hdg (ck_i_l h) k1
theorem ck_s_l2i (hx : p.tables.exec = Jvm.exec) (hb : c.code = cc) {x : Int} (hdg : decode cc pc = .ok (.l2i, 1)) (k : ck_WW p lc e R s m args below meth c Q s0 D dA sa SM n0 z0 nL  (pc + 1) l (vi x :: st) M) : ck_WW p lc e R s m args below meth c Q s0 D dA sa SM n0 z0 nL  (pc) l (vl x :: st) M := by
  intro H locs ls hR hq hL hlen hn hz
  have k1 := k H locs ls hR hq hL hlen hn hz
  exact lv_l2i hx hb hdg (ck_l_i x) k1
theorem ck_s_i2b (hx : p.tables.exec = Jvm.exec) (hb : c.code = cc) {x : Int} (hdg : decode cc pc = .ok (.i2b, 1)) (k : ck_WW p lc e R s m args below meth c Q s0 D dA sa SM n0 z0 nL  (pc + 1) l (vi (ck_b8 x) :: st) M) : ck_WW p lc e R s m args below meth c Q s0 D dA sa SM n0 z0 nL  (pc) l (vi x :: st) M := by
  intro H locs ls hR hq hL hlen hn hz
  have k1 := k H locs ls hR hq hL hlen hn hz
  exact lv_i2b hx hb hdg (ck_i_ofToInt _).symm k1
theorem ck_s_i2c (hx : p.tables.exec = Jvm.exec) (hb : c.code = cc) {x : Int} (hdg : decode cc pc = .ok (.i2c, 1)) (k : ck_WW p lc e R s m args below meth c Q s0 D dA sa SM n0 z0 nL  (pc + 1) l (vi (ck_c16 x) :: st) M) : ck_WW p lc e R s m args below meth c Q s0 D dA sa SM n0 z0 nL  (pc) l (vi x :: st) M := by
  intro H locs ls hR hq hL hlen hn hz
  have k1 := k H locs ls hR hq hL hlen hn hz
  exact lv_i2c hx hb hdg (ck_i_ofToInt _).symm k1
theorem ck_s_dup (hx : p.tables.exec = Jvm.exec) (hb : c.code = cc) {v : ck_A} (h : (∃ i, v = vi i) ∨ ∃ r, v = vr r) (hdg : decode cc pc = .ok (.dup, 1)) (k : ck_WW p lc e R s m args below meth c Q s0 D dA sa SM n0 z0 nL  (pc + 1) l (v :: v :: st) M) : ck_WW p lc e R s m args below meth c Q s0 D dA sa SM n0 z0 nL  (pc) l (v :: st) M := by
  intro H locs ls hR hq hL hlen hn hz
  have k1 := k H locs ls hR hq hL hlen hn hz
  exact lv_dup hx hb hdg (ck_sv_cat _ h) k1
theorem ck_s_pop (hx : p.tables.exec = Jvm.exec) (hb : c.code = cc) {v : ck_A} (h : (∃ i, v = vi i) ∨ ∃ r, v = vr r) (hdg : decode cc pc = .ok (.pop, 1)) (k : ck_WW p lc e R s m args below meth c Q s0 D dA sa SM n0 z0 nL  (pc + 1) l st M) : ck_WW p lc e R s m args below meth c Q s0 D dA sa SM n0 z0 nL  (pc) l (v :: st) M := by
  intro H locs ls hR hq hL hlen hn hz
  have k1 := k H locs ls hR hq hL hlen hn hz
  exact lv_pop hx hb hdg (ck_sv_cat _ h) k1
theorem ck_s_dup2 (hx : p.tables.exec = Jvm.exec) (hb : c.code = cc) {y : Int} {x : Option Nat} (hdg : decode cc pc = .ok (.dup2, 1)) (k : ck_WW p lc e R s m args below meth c Q s0 D dA sa SM n0 z0 nL  (pc + 1) l (vi y :: vr x :: vi y :: vr x :: st) M) : ck_WW p lc e R s m args below meth c Q s0 D dA sa SM n0 z0 nL  (pc) l (vi y :: vr x :: st) M := by
  intro H locs ls hR hq hL hlen hn hz
  have k1 := k H locs ls hR hq hL hlen hn hz
  exact lv_dup2_11 hx hb hdg rfl (ck_sv_cat _ (Or.inr ⟨x, rfl⟩)) k1
theorem ck_s_dup_x1 (hx : p.tables.exec = Jvm.exec) (hb : c.code = cc) {y x : Option Nat} (hdg : decode cc pc = .ok (.dup_x1, 1)) (k : ck_WW p lc e R s m args below meth c Q s0 D dA sa SM n0 z0 nL  (pc + 1) l (vr y :: vr x :: vr y :: st) M) : ck_WW p lc e R s m args below meth c Q s0 D dA sa SM n0 z0 nL  (pc) l (vr y :: vr x :: st) M := by
  intro H locs ls hR hq hL hlen hn hz
  have k1 := k H locs ls hR hq hL hlen hn hz
  exact lv_dup_x1 hx hb hdg (ck_sv_cat _ (Or.inr ⟨y, rfl⟩)) (ck_sv_cat _ (Or.inr ⟨x, rfl⟩)) k1
theorem ck_s_if_eq (hx : p.tables.exec = Jvm.exec) (hb : c.code = cc) {x : Int} (h : ck_i32 x) {off : Int} {tg : Nat} (ht : (pc : Int) + off = (tg : Int)) (hdg : decode cc pc = .ok (.ifCond .eq off, 3)) (k1 : x = 0 → ck_WW p lc e R s m args below meth c Q s0 D dA sa SM n0 z0 nL  (tg) l st M) (k2 : ¬ (x = 0) → ck_WW p lc e R s m args below meth c Q s0 D dA sa SM n0 z0 nL  (pc + 3) l st M) : ck_WW p lc e R s m args below meth c Q s0 D dA sa SM n0 z0 nL  (pc) l (vi x :: st) M := by
  intro H locs ls hR hq hL hlen hn hz
  have hc := ck_i_eq h (show ck_i32 0 by decide)
  exact lv_if_eq hx hb hdg ht (fun q => k1 (hc.mp q) H locs ls hR hq hL hlen hn hz) (fun q => k2 (fun z => q (hc.mpr z)) H locs ls hR hq hL hlen hn hz)
theorem ck_s_if_ne (hx : p.tables.exec = Jvm.exec) (hb : c.code = cc) {x : Int} (h : ck_i32 x) {off : Int} {tg : Nat} (ht : (pc : Int) + off = (tg : Int)) (hdg : decode cc pc = .ok (.ifCond .ne off, 3)) (k1 : x = 0 → ck_WW p lc e R s m args below meth c Q s0 D dA sa SM n0 z0 nL  (pc + 3) l st M) (k2 : ¬ (x = 0) → ck_WW p lc e R s m args below meth c Q s0 D dA sa SM n0 z0 nL  (tg) l st M) : ck_WW p lc e R s m args below meth c Q s0 D dA sa SM n0 z0 nL  (pc) l (vi x :: st) M := by
  intro H locs ls hR hq hL hlen hn hz
  have hc := not_congr (ck_i_eq h (show ck_i32 0 by decide))
  exact lv_if_ne hx hb hdg ht (fun q => k2 (hc.mp q) H locs ls hR hq hL hlen hn hz) (fun q => k1 (Decidable.byContradiction fun z => hc.mpr z q) H locs ls hR hq hL hlen hn hz)
theorem ck_s_if_lt (hx : p.tables.exec = Jvm.exec) (hb : c.code = cc) {x : Int} (h : ck_i32 x) {off : Int} {tg : Nat} (ht : (pc : Int) + off = (tg : Int)) (hdg : decode cc pc = .ok (.ifCond .lt off, 3)) (k1 : x < 0 → ck_WW p lc e R s m args below meth c Q s0 D dA sa SM n0 z0 nL  (tg) l st M) (k2 : ¬ (x < 0) → ck_WW p lc e R s m args below meth c Q s0 D dA sa SM n0 z0 nL  (pc + 3) l st M) : ck_WW p lc e R s m args below meth c Q s0 D dA sa SM n0 z0 nL  (pc) l (vi x :: st) M := by
  intro H locs ls hR hq hL hlen hn hz
  have hc := ck_i_lt h (show ck_i32 0 by decide)
  exact lv_if_lt hx hb hdg ht (fun q => k1 (hc.mp q) H locs ls hR hq hL hlen hn hz) (fun q => k2 (fun z => q (hc.mpr z)) H locs ls hR hq hL hlen hn hz)
theorem ck_s_if_ge (hx : p.tables.exec = Jvm.exec) (hb : c.code = cc) {x : Int} (h : ck_i32 x) {off : Int} {tg : Nat} (ht : (pc : Int) + off = (tg : Int)) (hdg : decode cc pc = .ok (.ifCond .ge off, 3)) (k1 : x < 0 → ck_WW p lc e R s m args below meth c Q s0 D dA sa SM n0 z0 nL  (pc + 3) l st M) (k2 : ¬ (x < 0) → ck_WW p lc e R s m args below meth c Q s0 D dA sa SM n0 z0 nL  (tg) l st M) : ck_WW p lc e R s m args below meth c Q s0 D dA sa SM n0 z0 nL  (pc) l (vi x :: st) M := by
  intro H locs ls hR hq hL hlen hn hz
  have hc := (ck_i_le (show ck_i32 0 by decide) h).trans Int.not_lt.symm
  exact lv_if_ge hx hb hdg ht (fun q => k2 (hc.mp q) H locs ls hR hq hL hlen hn hz) (fun q => k1 (Decidable.byContradiction fun z => q (hc.mpr z)) H locs ls hR hq hL hlen hn hz)
theorem ck_s_if_gt (hx : p.tables.exec = Jvm.exec) (hb : c.code = cc) {x : Int} (h : ck_i32 x) {off : Int} {tg : Nat} (ht : (pc : Int) + off = (tg : Int)) (hdg : decode cc pc = .ok (.ifCond .gt off, 3)) (k1 : 0 < x → ck_WW p lc e R s m args below meth c Q s0 D dA sa SM n0 z0 nL  (tg) l st M) (k2 : ¬ (0 < x) → ck_WW p lc e R s m args below meth c Q s0 D dA sa SM n0 z0 nL  (pc + 3) l st M) : ck_WW p lc e R s m args below meth c Q s0 D dA sa SM n0 z0 nL  (pc) l (vi x :: st) M := by
  intro H locs ls hR hq hL hlen hn hz
  have hc := ck_i_lt (show ck_i32 0 by decide) h
  exact lv_if_gt hx hb hdg ht (fun q => k1 (hc.mp q) H locs ls hR hq hL hlen hn hz) (fun q => k2 (fun z => q (hc.mpr z)) H locs ls hR hq hL hlen hn hz)
theorem ck_s_if_le (hx : p.tables.exec = Jvm.exec) (hb : c.code = cc) {x : Int} (h : ck_i32 x) {off : Int} {tg : Nat} (ht : (pc : Int) + off = (tg : Int)) (hdg : decode cc pc = .ok (.ifCond .le off, 3)) (k1 : 0 < x → ck_WW p lc e R s m args below meth c Q s0 D dA sa SM n0 z0 nL  (pc + 3) l st M) (k2 : ¬ (0 < x) → ck_WW p lc e R s m args below meth c Q s0 D dA sa SM n0 z0 nL  (tg) l st M) : ck_WW p lc e R s m args below meth c Q s0 D dA sa SM n0 z0 nL  (pc) l (vi x :: st) M := by
  intro H locs ls hR hq hL hlen hn hz
  have hc := (ck_i_le h (show ck_i32 0 by decide)).trans Int.not_lt.symm
  exact lv_if_le hx hb hdg ht (fun q => k2 (hc.mp q) H locs ls hR hq hL hlen hn hz) (fun q => k1 (Decidable.byContradiction fun z => q (hc.mpr z)) H locs ls hR hq hL hlen hn hz)
theorem ck_s_icmp_eq (hx : p.tables.exec = Jvm.exec) (hb : c.code = cc) {x y : Int} (h : ck_i32 x ∧ ck_i32 y) {off : Int} {tg : Nat} (ht : (pc : Int) + off = (tg : Int)) (hdg : decode cc pc = .ok (.if_icmp .eq off, 3)) (k1 : x = y → ck_WW p lc e R s m args below meth c Q s0 D dA sa SM n0 z0 nL  (tg) l st M) (k2 : ¬ (x = y) → ck_WW p lc e R s m args below meth c Q s0 D dA sa SM n0 z0 nL  (pc + 3) l st M) : ck_WW p lc e R s m args below meth c Q s0 D dA sa SM n0 z0 nL  (pc) l (vi y :: vi x :: st) M := by
  intro H locs ls hR hq hL hlen hn hz
  have hc := ck_i_eq h.1 h.2
  exact lv_icmp_eq hx hb hdg ht (fun q => k1 (hc.mp q) H locs ls hR hq hL hlen hn hz) (fun q => k2 (fun z => q (hc.mpr z)) H locs ls hR hq hL hlen hn hz)
theorem ck_s_icmp_ne (hx : p.tables.exec = Jvm.exec) (hb : c.code = cc) {x y : Int} (h : ck_i32 x ∧ ck_i32 y) {off : Int} {tg : Nat} (ht : (pc : Int) + off = (tg : Int)) (hdg : decode cc pc = .ok (.if_icmp .ne off, 3)) (k1 : x = y → ck_WW p lc e R s m args below meth c Q s0 D dA sa SM n0 z0 nL  (pc + 3) l st M) (k2 : ¬ (x = y) → ck_WW p lc e R s m args below meth c Q s0 D dA sa SM n0 z0 nL  (tg) l st M) : ck_WW p lc e R s m args below meth c Q s0 D dA sa SM n0 z0 nL  (pc) l (vi y :: vi x :: st) M := by
  intro H locs ls hR hq hL hlen hn hz
  have hc := not_congr (ck_i_eq h.1 h.2)
  exact lv_icmp_ne hx hb hdg ht (fun q => k2 (hc.mp q) H locs ls hR hq hL hlen hn hz) (fun q => k1 (Decidable.byContradiction fun z => hc.mpr z q) H locs ls hR hq hL hlen hn hz)
theorem ck_s_icmp_lt (hx : p.tables.exec = Jvm.exec) (hb : c.code = cc) {x y : Int} (h : ck_i32 x ∧ ck_i32 y) {off : Int} {tg : Nat} (ht : (pc : Int) + off = (tg : Int)) (hdg : decode cc pc = .ok (.if_icmp .lt off, 3)) (k1 : x < y → ck_WW p lc e R s m args below meth c Q s0 D dA sa SM n0 z0 nL  (tg) l st M) (k2 : ¬ (x < y) → ck_WW p lc e R s m args below meth c Q s0 D dA sa SM n0 z0 nL  (pc + 3) l st M) : ck_WW p lc e R s m args below meth c Q s0 D dA sa SM n0 z0 nL  (pc) l (vi y :: vi x :: st) M := by
  intro H locs ls hR hq hL hlen hn hz
  have hc := ck_i_lt h.1 h.2
  exact lv_icmp_lt hx hb hdg ht (fun q => k1 (hc.mp q) H locs ls hR hq hL hlen hn hz) (fun q => k2 (fun z => q (hc.mpr z)) H locs ls hR hq hL hlen hn hz)
theorem ck_s_icmp_ge (hx : p.tables.exec = Jvm.exec) (hb : c.code = cc) {x y : Int} (h : ck_i32 x ∧ ck_i32 y) {off : Int} {tg : Nat} (ht : (pc : Int) + off = (tg : Int)) (hdg : decode cc pc = .ok (.if_icmp .ge off, 3)) (k1 : x < y → ck_WW p lc e R s m args below meth c Q s0 D dA sa SM n0 z0 nL  (pc + 3) l st M) (k2 : ¬ (x < y) → ck_WW p lc e R s m args below meth c Q s0 D dA sa SM n0 z0 nL  (tg) l st M) : ck_WW p lc e R s m args below meth c Q s0 D dA sa SM n0 z0 nL  (pc) l (vi y :: vi x :: st) M := by
  intro H locs ls hR hq hL hlen hn hz
  have hc := (ck_i_le h.2 h.1).trans Int.not_lt.symm
  exact lv_icmp_ge hx hb hdg ht (fun q => k2 (hc.mp q) H locs ls hR hq hL hlen hn hz) (fun q => k1 (Decidable.byContradiction fun z => q (hc.mpr z)) H locs ls hR hq hL hlen hn hz)
theorem ck_s_icmp_gt (hx : p.tables.exec = Jvm.exec) (hb : c.code = cc) {x y : Int} (h : ck_i32 x ∧ ck_i32 y) {off : Int} {tg : Nat} (ht : (pc : Int) + off = (tg : Int)) (hdg : decode cc pc = .ok (.if_icmp .gt off, 3)) (k1 : y < x → ck_WW p lc e R s m args below meth c Q s0 D dA sa SM n0 z0 nL  (tg) l st M) (k2 : ¬ (y < x) → ck_WW p lc e R s m args below meth c Q s0 D dA sa SM n0 z0 nL  (pc + 3) l st M) : ck_WW p lc e R s m args below meth c Q s0 D dA sa SM n0 z0 nL  (pc) l (vi y :: vi x :: st) M := by
  intro H locs ls hR hq hL hlen hn hz
  have hc := ck_i_lt h.2 h.1
  exact lv_icmp_gt hx hb hdg ht (fun q => k1 (hc.mp q) H locs ls hR hq hL hlen hn hz) (fun q => k2 (fun z => q (hc.mpr z)) H locs ls hR hq hL hlen hn hz)
theorem ck_s_icmp_le (hx : p.tables.exec = Jvm.exec) (hb : c.code = cc) {x y : Int} (h : ck_i32 x ∧ ck_i32 y) {off : Int} {tg : Nat} (ht : (pc : Int) + off = (tg : Int)) (hdg : decode cc pc = .ok (.if_icmp .le off, 3)) (k1 : y < x → ck_WW p lc e R s m args below meth c Q s0 D dA sa SM n0 z0 nL  (pc + 3) l st M) (k2 : ¬ (y < x) → ck_WW p lc e R s m args below meth c Q s0 D dA sa SM n0 z0 nL  (tg) l st M) : ck_WW p lc e R s m args below meth c Q s0 D dA sa SM n0 z0 nL  (pc) l (vi y :: vi x :: st) M := by
  intro H locs ls hR hq hL hlen hn hz
  have hc := (ck_i_le h.1 h.2).trans Int.not_lt.symm
  exact lv_icmp_le hx hb hdg ht (fun q => k2 (hc.mp q) H locs ls hR hq hL hlen hn hz) (fun q => k1 (Decidable.byContradiction fun z => q (hc.mpr z)) H locs ls hR hq hL hlen hn hz)
theorem ck_s_acmp_eq (hx : p.tables.exec = Jvm.exec) (hb : c.code = cc) {x : Nat} {off : Int} {tg : Nat} (ht : (pc : Int) + off = (tg : Int)) (hdg : decode cc pc = .ok (.if_acmp .eq off, 3)) (k : ck_WW p lc e R s m args below meth c Q s0 D dA sa SM n0 z0 nL  (tg) l st M) : ck_WW p lc e R s m args below meth c Q s0 D dA sa SM n0 z0 nL  (pc) l (vr (some x) :: vr (some x) :: st) M := by
  intro H locs ls hR hq hL hlen hn hz
  exact lv_acmp_eq (rx := some (ck_ad s0 sa x)) (ry := some (ck_ad s0 sa x)) hx hb hdg ht (fun _ => k H locs ls hR hq hL hlen hn hz) (fun q => absurd rfl q)
theorem ck_s_acmp_ne (hx : p.tables.exec = Jvm.exec) (hb : c.code = cc) {x : Nat} {off : Int} {tg : Nat} (ht : (pc : Int) + off = (tg : Int)) (hdg : decode cc pc = .ok (.if_acmp .ne off, 3)) (k : ck_WW p lc e R s m args below meth c Q s0 D dA sa SM n0 z0 nL  (pc + 3) l st M) : ck_WW p lc e R s m args below meth c Q s0 D dA sa SM n0 z0 nL  (pc) l (vr (some x) :: vr (some x) :: st) M := by
  intro H locs ls hR hq hL hlen hn hz
  exact lv_acmp_ne (rx := some (ck_ad s0 sa x)) (ry := some (ck_ad s0 sa x)) hx hb hdg ht (fun q => absurd rfl q) (fun _ => k H locs ls hR hq hL hlen hn hz)
theorem ck_s_ifnull (hx : p.tables.exec = Jvm.exec) (hb : c.code = cc) {x : Option Nat} {off : Int} {tg : Nat} (ht : (pc : Int) + off = (tg : Int)) (hdg : decode cc pc = .ok (.ifnull off, 3)) (k1 : x = none → ck_WW p lc e R s m args below meth c Q s0 D dA sa SM n0 z0 nL  (tg) l st M) (k2 : ¬ x = none → ck_WW p lc e R s m args below meth c Q s0 D dA sa SM n0 z0 nL  (pc + 3) l st M) : ck_WW p lc e R s m args below meth c Q s0 D dA sa SM n0 z0 nL  (pc) l (vr x :: st) M := by
  intro H locs ls hR hq hL hlen hn hz
  cases x with
  | none => exact lv_ifnullN hx hb hdg ht (k1 rfl H locs ls hR hq hL hlen hn hz)
  | some x => exact lv_ifnull hx hb hdg (k2 (fun q => by cases q) H locs ls hR hq hL hlen hn hz)
theorem ck_s_ifnonnull (hx : p.tables.exec = Jvm.exec) (hb : c.code = cc) {x : Option Nat} {off : Int} {tg : Nat} (ht : (pc : Int) + off = (tg : Int)) (hdg : decode cc pc = .ok (.ifnonnull off, 3)) (k1 : x = none → ck_WW p lc e R s m args below meth c Q s0 D dA sa SM n0 z0 nL  (pc + 3) l st M) (k2 : ¬ x = none → ck_WW p lc e R s m args below meth c Q s0 D dA sa SM n0 z0 nL  (tg) l st M) : ck_WW p lc e R s m args below meth c Q s0 D dA sa SM n0 z0 nL  (pc) l (vr x :: st) M := by
  intro H locs ls hR hq hL hlen hn hz
  cases x with
  | none => exact lv_ifnonnullN hx hb hdg (k1 rfl H locs ls hR hq hL hlen hn hz)
  | some x => exact lv_ifnonnull hx hb hdg ht (k2 (fun q => by cases q) H locs ls hR hq hL hlen hn hz)
theorem ck_s_goto (hx : p.tables.exec = Jvm.exec) (hb : c.code = cc) {off : Int} {tg : Nat} (ht : (pc : Int) + off = (tg : Int)) (hdg : decode cc pc = .ok (.goto off, 3)) (k : ck_WW p lc e R s m args below meth c Q s0 D dA sa SM n0 z0 nL  (tg) l st M) : ck_WW p lc e R s m args below meth c Q s0 D dA sa SM n0 z0 nL  (pc) l st M := by
  intro H locs ls hR hq hL hlen hn hz
  exact lv_goto hx hb hdg ht (k H locs ls hR hq hL hlen hn hz)
theorem ck_s_tsw (hx : p.tables.exec = Jvm.exec) (hb : c.code = cc) {x d lo hi : Int} {offs : Array Int} {len : Nat} (h : ck_i32 x) (hd : 0 ≤ (pc : Int) + d) (ho : ∀ j : Nat, lo + j ≤ hi → ∃ o, offs[j]? = some o ∧ 0 ≤ (pc : Int) + o) (hdg : decode cc pc = .ok (.tableswitch d lo hi offs, len))
    (k1 : x < lo ∨ hi < x → ck_WW p lc e R s m args below meth c Q s0 D dA sa SM n0 z0 nL  (((pc : Int) + d).toNat) l st M) (k2 : ¬ (x < lo ∨ hi < x) → ck_WW p lc e R s m args below meth c Q s0 D dA sa SM n0 z0 nL  (((pc : Int) + (offs.toList.getD (x - lo).toNat 0)).toNat) l st M) : ck_WW p lc e R s m args below meth c Q s0 D dA sa SM n0 z0 nL  (pc) l (vi x :: st) M := by
  intro H locs ls hR hq hL hlen hn hz
  have hi0 := ck_i_toInt h
  by_cases hc : x < lo ∨ hi < x
  · exact lv_tableOut hx hb hdg (by rw [hi0]; exact hc) (by omega) (k1 hc H locs ls hR hq hL hlen hn hz)
  · obtain ⟨o, h1, h2⟩ := ho (x - lo).toNat (by omega)
    have k3 := k2 hc H locs ls hR hq hL hlen hn hz
    have h3 : offs.toList.getD (x - lo).toNat 0 = o := by
      rw [List.getD_eq_getElem?_getD, Array.getElem?_toList, h1]; rfl
    rw [h3] at k3
    exact lv_tableIn hx hb hdg (by rw [hi0]; omega) (by rw [hi0]; omega) (by rw [hi0]; exact h1) (by omega) k3
end CkSteps1
