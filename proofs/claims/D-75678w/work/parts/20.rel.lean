/-! THE EVALUATOR's MEMORY AND THE HEAP -/
abbrev ck_CL : List vw_C := [(RX0, TX0, 29), (RX1, TX1, 3), (RJ2, TJ2, 3), (RX2, TX2, 6), (RX3, TX3, 7), (RX5, TX5, 7), (RX6, TX6, 3), (RX7, TX7, 1), (RX9, TX9, 1), (RX10, TX10, 1), (RX11, TX11, 3), (RX12, TX12, 2), (RX14, TX14, 1), (RX15, TX15, 4), (RX16, TX16, 3), (RX17, TX17, 9), (RX4, TX4, 43)]
/-- a value of a kind (3 long, 4 reference, else int) -/
def ck_fv (ad : Nat → Nat) (t : Nat) (x : Int) (r : Option Nat) : Value := ck_ty t (.int (Int32.ofInt x)) (.long (Int64.ofInt x)) (va_rf (r.map ad))
/-- the kinds of an array's places -/
def ck_et (t : Nat) : Nat := if t = 103 then 3 else if 104 ≤ t then 4 else 0
/-- the kinds of the fields -/
def ck_FT : List (List Nat) := [[4, 4, 4, 4, 0, 4, 4, 0, 4, 4, 4, 0, 0, 4, 4, 0, 0, 4, 4, 4, 4, 4, 4, 0, 4, 4, 4, 4, 4], [4, 4, 0], [0, 4, 0], [4, 4, 4, 4, 0, 0], [4, 4, 4, 4, 4, 0, 0], [4, 0, 0, 0, 0, 0, 4], [0, 0, 0], [4], [0], [0], [4, 4, 0], [4, 4], [4], [4, 4, 0, 1], [4, 4, 1], [4, 4, 4, 4, 4, 0, 0, 0, 4], [4, 0, 0, 4, 4, 4, 4, 4, 0, 0, 0, 0, 0, 0, 0, 4, 0, 4, 0, 4, 4, 0, 0, 0, 0, 0, 0, 0, 4, 0, 4, 4, 4, 4, 4, 4, 4, 4, 3, 4, 4, 4, 4]]
def ck_ft (c k : Nat) : Nat := (ck_FT.getD c []).getD k 0
def ck_ad (s0 : State) (sa : Nat → Nat) (i : Nat) : Nat := if i < 50 then sa i else s0.heap.size + (i - 50)
/-- no one holds the cell's monitor -/
def ck_mo (a : Nat) (H : Heap) : Prop := ∃ cell : Cell, H[a]? = some cell ∧ cell.monitor.owner = none ∧ cell.monitor.count = 0
theorem ck_mo.kept {a : Nat} {H H1 : Heap} (h : ck_mo a H) (e : H1[a]? = H[a]?) : ck_mo a H1 := by
  obtain ⟨cell, h1, h2⟩ := h
  exact ⟨cell, by rw [e]; exact h1, h2⟩
/-- the cell of an id -/
def ck_at1 (D : va_G) (dA : Nat → ClassId) (ad : Nat → Nat) (M : ck_M) (i : Nat) (H : Heap) : Prop :=
  if (M.K i).1 < 17 then (∃ r : vw_C, ck_CL[(M.K i).1]? = some r ∧ t_OB (ad i) (D.1 (M.K i).1) r.2.2 (D.2 (M.K i).1) H (fun k => ck_fv ad (ck_ft (M.K i).1 k) (M.V i k) (M.R i k))) ∧ ck_mo (ad i) H
  else H[ad i]? = some (arrV (dA (M.K i).1) (M.K i).2 (fun k => ck_fv ad (ck_et (M.K i).1) (M.V i k) (M.R i k)))
/-- the heap H is as the memory M says -/
def ck_Rl (s0 : State) (D : va_G) (dA : Nat → ClassId) (sa : Nat → Nat) (SM M : ck_M) (H : Heap) : Prop :=
  50 ≤ M.n ∧ H.size = s0.heap.size + (M.n - 50) ∧ (∀ q, q < s0.heap.size → H[q]? = s0.heap[q]?) ∧ (∀ i, i < 50 → M.V i = SM.V i ∧ M.R i = SM.R i ∧ M.K i = SM.K i) ∧ (∀ i, M.n ≤ i → M.K i = (999, 0)) ∧ ∀ i, 50 ≤ i → i < M.n → ((M.K i).1 < 17 ∨ 100 ≤ (M.K i).1 ∧ (M.K i).1 ≤ 106 ∧ (M.K i).2 < 65536) ∧ ck_at1 D dA (ck_ad s0 sa) M i H
def ck_cv (ad : Nat → Nat) : ck_A → Option Value
  | .inl x => some (.int (Int32.ofInt x))
  | .inr (.inl x) => some (.long (Int64.ofInt x))
  | .inr (.inr (.inl r)) => some (va_rf (r.map ad))
  | .inr (.inr (.inr _)) => none
def ck_sv (ad : Nat → Nat) (v : ck_A) : Value := (ck_cv ad v).getD .null
/-- the locals that are set -/
def ck_el (ad : Nat → Nat) (l : List ck_A) : List (Nat × Value) := (List.range l.length).filterMap fun j => (l[j]?).bind fun v => (ck_cv ad v).map fun w => (j, w)
theorem ck_el_mem {ad : Nat → Nat} {l : List ck_A} {j : Nat} {w : Value} : (j, w) ∈ ck_el ad l ↔ ∃ v, l[j]? = some v ∧ ck_cv ad v = some w := by
  unfold ck_el
  rw [List.mem_filterMap]
  constructor
  · rintro ⟨i, -, h⟩
    cases e : l[i]? with
    | none => rw [e] at h; cases h
    | some v =>
      rw [e] at h
      cases e2 : ck_cv ad v with
      | none => simp [e2] at h
      | some u =>
        simp [e2] at h
        obtain ⟨rfl, rfl⟩ := h
        exact ⟨v, e, e2⟩
  · rintro ⟨v, h1, h2⟩
    refine ⟨j, List.mem_range.mpr (List.getElem?_eq_some_iff.mp h1).1, ?_⟩
    simp [h1, h2]
theorem ck_el_at {ad : Nat → Nat} {ls : Array Slot} {nL : Nat} {l : List ck_A} (h : lv_has ls nL (ck_el ad l)) {j : Nat} {v : ck_A} {w : Value} (h1 : l[j]? = some v) (h2 : ck_cv ad v = some w) : ls[j]? = some (.val w) := h.2.2 (j, w) (ck_el_mem.mpr ⟨v, h1, h2⟩)
theorem ck_el_weak {ls : Array Slot} {nL : Nat} {a b : List (Nat × Value)} (h : lv_has ls nL a) (hab : ∀ q ∈ b, q ∈ a) : lv_has ls nL b := ⟨h.1, h.2.1, fun q hq => h.2.2 q (hab q hq)⟩
theorem ck_cv_cat {ad : Nat → Nat} {v : ck_A} {w : Value} (h : ck_cv ad v = some w) : (w.category = 2 ∧ ∃ x, v = vl x) ∨ (w.category = 1 ∧ ∀ x, v ≠ vl x) := by
  rcases v with x | x | x | x
  · cases h; exact Or.inr ⟨rfl, fun x => by simp⟩
  · cases h; exact Or.inl ⟨rfl, x, rfl⟩
  · simp only [ck_cv, Option.some.injEq] at h
    subst h
    refine Or.inr ⟨?_, fun x => by simp⟩
    cases x <;> rfl
  · cases h
theorem ck_el_sto {ad : Nat → Nat} {n : Nat} {v : ck_A} {w : Value} {l l' : List ck_A} (h : ck_sto n v l l') (hv : ck_cv ad v = some w) {ls : Array Slot} {nL : Nat}
    (hl : lv_has ls nL ((n, w) :: (ck_el ad l).filter (fun q => !(q.1 == n) && !(q.1 + 1 == n && q.2.category == 2)))) : lv_has ls nL (ck_el ad l') := by
  refine ck_el_weak hl fun q hq => ?_
  obtain ⟨j, u⟩ := q
  obtain ⟨v', h1, h2⟩ := ck_el_mem.mp hq
  obtain ⟨-, -, h3, h4⟩ := h
  by_cases hj : j = n
  · subst hj
    rw [h3] at h1
    cases h1
    rw [hv] at h2
    cases h2
    exact List.mem_cons_self
  · rcases h4 j hj with ⟨a, b⟩ | a
    · refine List.mem_cons_of_mem _ (List.mem_filter.mpr ⟨ck_el_mem.mpr ⟨v', by rw [← a]; exact h1, h2⟩, ?_⟩)
      have hne : (j == n) = false := by simpa using hj
      by_cases hj1 : j + 1 = n
      · have hb := b hj1
        rcases ck_cv_cat h2 with ⟨-, x, hx⟩ | ⟨hc, -⟩
        · subst hx
          exact absurd (by rw [← a]; exact h1) (hb x)
        · simp [hne, hc]
      · simp [hne, hj1]
    · rw [a] at h1
      cases h1
      cases h2
theorem ck_el_sto2 {ad : Nat → Nat} {n : Nat} {x : Int} {l l' : List ck_A} (h : ck_sto2 n x l l') {ls : Array Slot} {nL : Nat}
    (hl : lv_has ls nL ((n, Value.long (Int64.ofInt x)) :: (ck_el ad l).filter (fun q => !(q.1 == n) && (!(q.1 == n + 1) && !(q.1 + 1 == n && q.2.category == 2))))) : lv_has ls nL (ck_el ad l') := by
  refine ck_el_weak hl fun q hq => ?_
  obtain ⟨j, u⟩ := q
  obtain ⟨v', h1, h2⟩ := ck_el_mem.mp hq
  obtain ⟨-, -, h3, h5, h4⟩ := h
  by_cases hj : j = n
  · subst hj
    rw [h3] at h1
    cases h1
    cases h2
    exact List.mem_cons_self
  · by_cases hj2 : j = n + 1
    · subst hj2
      rw [h5] at h1
      cases h1
      cases h2
    · rcases h4 j hj hj2 with ⟨a, b⟩ | a
      · refine List.mem_cons_of_mem _ (List.mem_filter.mpr ⟨ck_el_mem.mpr ⟨v', by rw [← a]; exact h1, h2⟩, ?_⟩)
        have hne : (j == n) = false := by simpa using hj
        have hne2 : (j == n + 1) = false := by simpa using hj2
        by_cases hj1 : j + 1 = n
        · have hb := b hj1
          rcases ck_cv_cat h2 with ⟨-, x, hx⟩ | ⟨hc, -⟩
          · subst hx
            exact absurd (by rw [← a]; exact h1) (hb x)
          · simp [hne, hne2, hc]
        · simp [hne, hne2, hj1]
      · rw [a] at h1
        cases h1
        cases h2
/-- the machine's own int of a whole number: how it reckons -/
theorem ck_i_add (x y : Int) : Int32.ofInt x + Int32.ofInt y = Int32.ofInt (x + y) := (Int32.ofInt_add x y).symm
theorem ck_i_sub (x y : Int) : Int32.ofInt x - Int32.ofInt y = Int32.ofInt (x - y) := (Int32.ofInt_sub x y).symm
theorem ck_i_mul (x y : Int) : Int32.ofInt x * Int32.ofInt y = Int32.ofInt (x * y) := (Int32.ofInt_mul x y).symm
theorem ck_i_neg (x : Int) : -Int32.ofInt x = Int32.ofInt (-x) := (Int32.ofInt_neg x).symm
theorem ck_i_toInt {x : Int} (h : ck_i32 x) : (Int32.ofInt x).toInt = x := Int32.toInt_ofInt_of_le (by have := h.1; simp; omega) (by have := h.2; simp; omega)
theorem ck_i_eq {x y : Int} (hx : ck_i32 x) (hy : ck_i32 y) : Int32.ofInt x = Int32.ofInt y ↔ x = y := by rw [← Int32.toInt_inj, ck_i_toInt hx, ck_i_toInt hy]
theorem ck_i_lt {x y : Int} (hx : ck_i32 x) (hy : ck_i32 y) : Int32.ofInt x < Int32.ofInt y ↔ x < y := by rw [Int32.lt_iff_toInt_lt, ck_i_toInt hx, ck_i_toInt hy]
theorem ck_i_le {x y : Int} (hx : ck_i32 x) (hy : ck_i32 y) : Int32.ofInt x ≤ Int32.ofInt y ↔ x ≤ y := by rw [Int32.le_iff_toInt_le, ck_i_toInt hx, ck_i_toInt hy]
theorem ck_l_toInt (x : Int) : Int64.ofInt (ck_w64 x) = Int64.ofInt x := by unfold ck_w64; exact Int64.ofInt_toInt _
theorem ck_l_in {x : Int} (h : ck_w64 x = x) : (Int64.ofInt x).toInt = x := h
theorem ck_i_ofToInt (x : Int32) : Int32.ofInt x.toInt = x := Int32.ofInt_toInt x
theorem ck_l_ofToInt (x : Int64) : Int64.ofInt x.toInt = x := Int64.ofInt_toInt x
theorem ck_i_tdiv {x y : Int} (hx : ck_i32 x) (hy : ck_i32 y) : Int32.ofInt x / Int32.ofInt y = Int32.ofInt (x.tdiv y) := by
  rw [← ck_i_ofToInt (Int32.ofInt x / Int32.ofInt y), Int32.toInt_div, ck_i_toInt hx, ck_i_toInt hy]
  rw [← Int32.toInt_inj, Int32.toInt_ofInt, Int32.toInt_ofInt, Int.bmod_bmod]
theorem ck_i_tmod {x y : Int} (hx : ck_i32 x) (hy : ck_i32 y) : Int32.ofInt x - Int32.ofInt x / Int32.ofInt y * Int32.ofInt y = Int32.ofInt (x.tmod y) := by
  rw [ck_i_tdiv hx hy, ck_i_mul, ck_i_sub]
  congr 1
  have := Int.mul_tdiv_add_tmod x y
  rw [Int.mul_comm] at this
  omega
theorem ck_l_tdiv {x y : Int} (hx : ck_w64 x = x) (hy : ck_w64 y = y) : Int64.ofInt x / Int64.ofInt y = Int64.ofInt (ck_w64 (x.tdiv y)) := by
  rw [ck_l_toInt, ← ck_l_ofToInt (Int64.ofInt x / Int64.ofInt y), Int64.toInt_div, ck_l_in hx, ck_l_in hy]
  rw [← Int64.toInt_inj, Int64.toInt_ofInt, Int64.toInt_ofInt, Int.bmod_bmod]
theorem ck_l_tmod {x y : Int} (hx : ck_w64 x = x) (hy : ck_w64 y = y) : Int64.ofInt x - Int64.ofInt x / Int64.ofInt y * Int64.ofInt y = Int64.ofInt (x.tmod y) := by
  rw [ck_l_tdiv hx hy, ck_l_toInt, ← Int64.ofInt_mul, ← Int64.ofInt_sub]
  congr 1
  have := Int.mul_tdiv_add_tmod x y
  rw [Int.mul_comm] at this
  omega
theorem ck_sh_k : ∀ k : Fin 32, ((Int32.ofInt (k.val : Int) &&& 31).toBitVec.smod 32).toNat = k.val := by decide +kernel
theorem ck_sh {y : Int} (h : 0 ≤ y ∧ y < 32) : ((Int32.ofInt y &&& 31).toBitVec.smod 32).toNat = y.toNat := by
  have := ck_sh_k ⟨y.toNat, by omega⟩
  rwa [show (((⟨y.toNat, by omega⟩ : Fin 32).val : Nat) : Int) = y by show (y.toNat : Int) = y; omega] at this
theorem ck_i_shl {x y : Int} (h : 0 ≤ y ∧ y < 32) : Int32.ofInt x <<< (Int32.ofInt y &&& 31) = Int32.ofInt (x * 2 ^ y.toNat) := by
  apply Int32.toBitVec_inj.mp
  have e : (Int32.ofInt x <<< (Int32.ofInt y &&& 31)).toBitVec = (Int32.ofInt x).toBitVec <<< y.toNat := by
    rw [← ck_sh h]; rfl
  rw [e, BitVec.shiftLeft_eq_mul_twoPow, Int32.toBitVec_ofInt, Int32.toBitVec_ofInt, BitVec.ofInt_mul]
  congr 1
  rw [show (2 : Int) ^ y.toNat = ((2 ^ y.toNat : Nat) : Int) by simp, BitVec.ofInt_natCast]
  exact BitVec.eq_of_toNat_eq (by simp [BitVec.toNat_twoPow])
theorem ck_i_shr {x y : Int} (hx : ck_i32 x) (h : 0 ≤ y ∧ y < 32) : Int32.ofInt x >>> (Int32.ofInt y &&& 31) = Int32.ofInt (x / 2 ^ y.toNat) := by
  rw [← ck_i_ofToInt (Int32.ofInt x >>> (Int32.ofInt y &&& 31)), pk_shr _ _ y.toNat (ck_sh h), ck_i_toInt hx, Int.shiftRight_eq_div_pow]
  simp
theorem ck_i_l {x : Int} (hx : ck_i32 x) : (Int32.ofInt x).toInt64 = Int64.ofInt x := by
  rw [← Int64.toInt_inj, Int32.toInt_toInt64, ck_i_toInt hx, Int64.toInt_ofInt_of_le (by have := hx.1; simp; omega) (by have := hx.2; simp; omega)]
theorem ck_l_i (x : Int) : (Int64.ofInt x).toInt32 = Int32.ofInt x := by
  rw [← Int32.toInt_inj, Int64.toInt_toInt32, Int64.toInt_ofInt, Int32.toInt_ofInt]
  exact Int.bmod_bmod_of_dvd (by decide)
theorem ck_i_clamp {x : Int} {j n : Nat} (hx : x = (j : Int)) (hj : j < n) (hn : n < 2147483648) : ¬ (Int32.ofInt x < 0 ∨ n ≤ (Int32.ofInt x).toNatClampNeg) ∧ (Int32.ofInt x).toNatClampNeg = j := by
  subst hx
  have h1 : (Int32.ofInt (j : Int)).toInt = j := ck_i_toInt ⟨by omega, by omega⟩
  have h2 : (Int32.ofInt (j : Int)).toNatClampNeg = j := by
    show (Int32.ofInt (j : Int)).toInt.toNat = j
    rw [h1]; rfl
  refine ⟨?_, h2⟩
  rintro (h | h)
  · rw [Int32.lt_iff_toInt_lt, h1] at h
    simp at h
    omega
  · omega
