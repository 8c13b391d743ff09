/-! WHAT HOLDS ALL THROUGH THE RUN: the classes, the cells of the start -/
def ck_aty (t : Nat) : FieldType := match t with | 100 => .int | 101 => .byte | 102 => .boolean | 103 => .long | 104 => .object "java/lang/Object" | 105 => .object "ConkerYard$State" | 106 => .object "ConkerYard$Image" | _ => .object "java/lang/String"
abbrev ck_tys (dA : Nat → ClassId) : List (ClassId × FieldType) := [(dA 100, .int), (dA 101, .byte), (dA 102, .boolean), (dA 103, .long), (dA 104, .object "java/lang/Object"), (dA 105, .object "ConkerYard$State"), (dA 106, .object "ConkerYard$Image")]
/-- the String constants: class, entry, text, id -/
def ck_strs : List (String × Nat × String × Nat) := [("ConkerYard$Parser", 170, "yard", 5), ("ConkerYard$Parser", 176, "conker", 6), ("ConkerYard$Parser", 185, "cracked", 7), ("ConkerYard$Parser", 197, "hit", 8), ("ConkerYard$Parser", 206, "if", 9), ("ConkerYard$Parser", 107, "not", 10), ("ConkerYard$Parser", 132, "and", 11), ("ConkerYard$Parser", 145, "or", 12)]
abbrev ck_Ab (s0 : State) : Nat → Prop := fun q => s0.heap.size ≤ q
/-- what holds at the law's start -/
def ck_G0 (s0 : State) (D : va_G) (dA : Nat → ClassId) (sa : Nat → Nat) (SM : ck_M) (a0 : Array Value) : Prop :=
  va_K D ck_CL (ck_tys dA) s0 ∧ (∀ w ∈ lw_tbl, w.before a0 s0 = true) ∧
  (∀ i, i < 50 → 100 ≤ (SM.K i).1 → (SM.K i).2 < 2147483648 ∧ ((SM.K i).1 = 100 ∨ (SM.K i).1 = 101 ∨ (SM.K i).1 = 107 ∨ (SM.K i).1 = 999) ∧ ((SM.K i).1 ≠ 999 → va_T (ck_aty (SM.K i).1) (sa i) (SM.K i).2 (fun k => ck_fv (ck_ad s0 sa) (ck_et (SM.K i).1) (SM.V i k) (SM.R i k)) (ck_Ab s0) s0 s0.heap)) ∧
  (∀ i, i < 50 → (SM.K i).1 = 50 → va_O "java/lang/String" (sa i) (ck_Ab s0) s0 s0.heap ∧ va_OF "java/lang/String" "value" "[B" (va_rf ((SM.R i 0).map (ck_ad s0 sa))) (sa i) (ck_Ab s0) s0 s0.heap ∧ va_OF "java/lang/String" "coder" "B" (.int (Int32.ofInt (SM.V i 1))) (sa i) (ck_Ab s0) s0 s0.heap) ∧
  (∀ q ∈ ck_strs, vk_R q.1 q.2.1 q.2.2.1 (sa q.2.2.2) s0) ∧ va_Mi "[Ljava/lang/Object;" (sa 3) s0 ∧
  (va_Z "java/lang/String" "COMPACT_STRINGS" "Z" (.int (Int32.ofInt (SM.V 0 0))) (ck_Ab s0) s0 s0.heap ∧ va_Z "ConkerYard" "NAMES" "[Ljava/lang/String;" (va_rf ((SM.R 0 1).map (ck_ad s0 sa))) (ck_Ab s0) s0 s0.heap ∧ va_Z "jdk/internal/util/Preconditions" "SIOOBE_FORMATTER" "Ljava/util/function/BiFunction;" (va_rf ((SM.R 0 4).map (ck_ad s0 sa))) (ck_Ab s0) s0 s0.heap) ∧
  (∀ i, i < 50 → 17 ≤ (SM.K i).1) ∧
  (va_Z "java/lang/Throwable" "UNASSIGNED_STACK" "[Ljava/lang/StackTraceElement;" (va_rf ((SM.R 0 2).map (ck_ad s0 sa))) (ck_Ab s0) s0 s0.heap ∧ va_Z "java/lang/Throwable" "SUPPRESSED_SENTINEL" "Ljava/util/List;" (va_rf ((SM.R 0 3).map (ck_ad s0 sa))) (ck_Ab s0) s0 s0.heap)
/-- a kind's type -/
def ck_tk (t : Nat) (ty : FieldType) : Prop := (t = 0 → ty = .int) ∧ (t = 1 → ty = .boolean) ∧ (t = 3 → ty = .long) ∧ (t = 4 → ∃ C, ty = .object C ∨ ∃ u, ty = .array u) ∧ (t = 0 ∨ t = 1 ∨ t = 3 ∨ t = 4)
/-- a class of ours -/
def ck_Cls (c : Nat) (C : String) (T : u_T) (N : Nat) (ty : Nat → FieldType) : Prop :=
  ck_CL[c]? = some (C, T, N) ∧ (∀ w ∈ u_ws C T N, w ∈ lw_all) ∧ (∀ k, k < N → parseFieldDescriptor (T k).2.2.1 = some (ty k)) ∧ (∀ a, a < N → ∀ b, b < N → a ≠ b → (T a).2.1 ≠ (T b).2.1) ∧ (∀ k, k < N → ck_tk (ck_ft c k) (ty k)) ∧ Cond.instantiable C N ∈ lw_all ∧ Cond.initialized C ∈ lw_all
/-- a field's link, of a class of ours -/
def ck_FL (own : String) (idx c f ty t : Nat) : Prop := ∃ (C : String) (T : u_T) (N : Nat) (tf : Nat → FieldType), ck_Cls c C T N tf ∧ f < N ∧ ty = ck_ft c f ∧
  ((∃ ref, Cond.fieldLink own idx ref (T f).2.1 (T f).2.2.1 ∈ lw_all ∧ (ref = (T f).1 ∨ Cond.sameField ref (T f).1 (T f).2.1 (T f).2.2.1 ∈ lw_all)) ∨ ∃ host, Cond.fieldLinkNest own idx (T f).1 (T f).2.1 (T f).2.2.1 host ∈ lw_tbl) ∧
  (t = 1 → (T f).2.2.2 = false) ∧ (t = 11 → (T f).2.2.2 = true ∧ (T f).1 = own ∧ Cond.fieldLink own idx own (T f).2.1 (T f).2.2.1 ∈ lw_all)
theorem ck_fv_ty (ad : Nat → Nat) (t : Nat) (x : Int) (r : Option Nat) : ck_sv ad (ck_ty t (vi x) (vl x) (vr r)) = ck_fv ad t x r := by
  unfold ck_fv
  rcases ck_ty_inv t with ⟨-, e⟩ | ⟨-, e⟩ | ⟨-, -, e⟩ <;> rw [e, e] <;> rfl
theorem ck_ad_lt {s0 : State} {sa : Nat → Nat} {i : Nat} (h : i < 50) : ck_ad s0 sa i = sa i := if_pos h
theorem ck_ad_ge {s0 : State} {sa : Nat → Nat} {i : Nat} (h : 50 ≤ i) : ck_ad s0 sa i = s0.heap.size + (i - 50) := if_neg (by omega)
theorem ck_et_of {t n : Nat} (h : 100 ≤ t) : t = 103 ∧ ck_et t = 3 ∨ 104 ≤ t ∧ ck_et t = 4 ∨ t < 103 ∧ ck_et t = 0 := by
  unfold ck_et
  split
  · exact Or.inl ⟨by assumption, rfl⟩
  · split
    · exact Or.inr (Or.inl ⟨by assumption, rfl⟩)
    · exact Or.inr (Or.inr ⟨by omega, rfl⟩)
section CkG
variable {s s0 : State} {D : va_G} {dA : Nat → ClassId} {sa : Nat → Nat} {SM M : ck_M} {a0 args : Array Value} {H : Heap}
theorem ck_G0.K (g : ck_G0 s0 D dA sa SM a0) (hW : s0.WarmedH s.vm) : va_K D ck_CL (ck_tys dA) s := va_K.moved hW.alike g.1
theorem ck_tys_ok {t : Nat} (h : 100 ≤ t) (h2 : t ≤ 106) : ∃ k : Nat, (ck_tys dA)[k]? = some (dA t, ck_aty t) := by
  have : t = 100 ∨ t = 101 ∨ t = 102 ∨ t = 103 ∨ t = 104 ∨ t = 105 ∨ t = 106 := by omega
  rcases this with rfl | rfl | rfl | rfl | rfl | rfl | rfl
  · exact ⟨0, rfl⟩
  · exact ⟨1, rfl⟩
  · exact ⟨2, rfl⟩
  · exact ⟨3, rfl⟩
  · exact ⟨4, rfl⟩
  · exact ⟨5, rfl⟩
  · exact ⟨6, rfl⟩
/-- an array, of the start or made since -/
theorem ck_arr (g : ck_G0 s0 D dA sa SM a0) (hW : s0.WarmedH s.vm) (hR : ck_Rl s0 D dA sa SM M H) {i : Nat} (hi : 100 ≤ (M.K i).1) (hi2 : (M.K i).1 ≠ 999) : ∃ cell : Cell, H[ck_ad s0 sa i]? = some cell ∧ s.isArrayOf cell (ck_aty (M.K i).1) ∧ cell.vm ≠ .unknown ∧ (M.K i).2 ≤ cell.slots.size ∧ cell.slots.size.toInt32 = Int32.ofNat (M.K i).2 ∧ (M.K i).2 < 2147483648 ∧
    (∀ j, j < (M.K i).2 → cell.slots[j]? = some (ck_fv (ck_ad s0 sa) (ck_et (M.K i).1) (M.V i j) (M.R i j))) ∧ (50 ≤ i → i < M.n ∧ (M.K i).1 ≤ 106 ∧ cell = arrV (dA (M.K i).1) (M.K i).2 (fun k => ck_fv (ck_ad s0 sa) (ck_et (M.K i).1) (M.V i k) (M.R i k))) := by
  obtain ⟨r1, r2, r3, r4, r5, r6⟩ := hR
  by_cases h50 : i < 50
  · obtain ⟨e1, e2, e3⟩ := r4 i h50
    rw [e3] at hi hi2 ⊢
    rw [e1, e2]
    obtain ⟨g1, g2, g3⟩ := g.2.2.1 i h50 hi
    obtain ⟨cell, c1, c2, c3, c4, c5, c6, c7⟩ := (va_T.moved hW.alike (g3 hi2)).kept (H1 := H) (fun a ha _ => r3 a ha)
    exact ⟨cell, by rw [ck_ad_lt h50]; exact c1, c2, c3, c4, c5, g1, c6, fun h => by omega⟩
  · have hn : i < M.n := by
      rcases Nat.lt_or_ge i M.n with q | q
      · exact q
      · rw [r5 i q] at hi2; exact absurd rfl hi2
    obtain ⟨w1, w2⟩ := r6 i (by omega) hn
    have w3 : 100 ≤ (M.K i).1 ∧ (M.K i).1 ≤ 106 ∧ (M.K i).2 < 65536 := by
      rcases w1 with h | h
      · omega
      · exact h
    unfold ck_at1 at w2
    rw [if_neg (by omega)] at w2
    obtain ⟨k, hk⟩ := ck_tys_ok (dA := dA) w3.1 w3.2.1
    refine ⟨_, w2, ((g.K hW).2 k _ hk).1 _ _, by simp [arrV], by rw [arrV_size]; exact Nat.le_refl _, by rw [arrV_size] <;> rfl, by omega, fun j hj => arrV_read _ _ hj, fun _ => ⟨hn, w3.2.1, rfl⟩⟩
/-- an object of a class of ours -/
theorem ck_obj (hR : ck_Rl s0 D dA sa SM M H) (g : ck_G0 s0 D dA sa SM a0) {i : Nat} (hi : (M.K i).1 < 17) : 50 ≤ i ∧ i < M.n ∧ ∃ r : vw_C, ck_CL[(M.K i).1]? = some r ∧ t_OB (ck_ad s0 sa i) (D.1 (M.K i).1) r.2.2 (D.2 (M.K i).1) H (fun k => ck_fv (ck_ad s0 sa) (ck_ft (M.K i).1 k) (M.V i k) (M.R i k)) := by
  obtain ⟨r1, r2, r3, r4, r5, r6⟩ := hR
  have h50 : 50 ≤ i := by
    rcases Nat.lt_or_ge i 50 with q | q
    · have := g.2.2.2.2.2.2.2.1 i q
      rw [(r4 i q).2.2] at hi
      omega
    · exact q
  have hn : i < M.n := by
    rcases Nat.lt_or_ge i M.n with q | q
    · exact q
    · rw [r5 i q] at hi; omega
  obtain ⟨w1, w2⟩ := r6 i h50 hn
  unfold ck_at1 at w2
  rw [if_pos hi] at w2
  exact ⟨h50, hn, w2.1⟩
theorem ck_objm (hR : ck_Rl s0 D dA sa SM M H) (g : ck_G0 s0 D dA sa SM a0) {i : Nat} (hi : (M.K i).1 < 17) : ck_mo (ck_ad s0 sa i) H := by
  obtain ⟨h50, hn, -⟩ := ck_obj hR g hi
  have w2 := (hR.2.2.2.2.2 i h50 hn).2
  unfold ck_at1 at w2
  rw [if_pos hi] at w2
  exact w2.2
/-- one cell has changed -/
theorem ck_Rl.upd (hR : ck_Rl s0 D dA sa SM M H) {M' : ck_M} {H1 : Heap} {i : Nat} (hi : 50 ≤ i) (hin : i < M.n) (hn : M'.n = M.n) (hK : M'.K = M.K) (hV : ∀ j, j ≠ i → M'.V j = M.V j ∧ M'.R j = M.R j) (hz : H1.size = H.size) (ho : ∀ q, q ≠ ck_ad s0 sa i → H1[q]? = H[q]?) (hc : ck_at1 D dA (ck_ad s0 sa) M' i H1) : ck_Rl s0 D dA sa SM M' H1 := by
  obtain ⟨r1, r2, r3, r4, r5, r6⟩ := hR
  have hai := ck_ad_ge (s0 := s0) (sa := sa) hi
  refine ⟨by rw [hn]; exact r1, by rw [hn, hz]; exact r2, fun q hq => ?_, fun j hj => ?_, fun j hj => ?_, fun j hj hjn => ?_⟩
  · rw [ho q (by omega)]; exact r3 q hq
  · rw [hK, (hV j (by omega)).1, (hV j (by omega)).2]; exact r4 j hj
  · rw [hK]; exact r5 j (by omega)
  · rw [hn] at hjn
    refine ⟨by rw [hK]; exact (r6 j hj hjn).1, ?_⟩
    by_cases hji : j = i
    · subst hji; exact hc
    · have h2 := (r6 j hj hjn).2
      unfold ck_at1 at h2 ⊢
      have hne : ck_ad s0 sa j ≠ ck_ad s0 sa i := by rw [ck_ad_ge hj, hai]; omega
      rw [hK, (hV j hji).1, (hV j hji).2]
      split
      · rename_i hlt
        rw [if_pos hlt] at h2
        obtain ⟨⟨r, q1, q2⟩, q3⟩ := h2
        exact ⟨⟨r, q1, q2.kept (ho _ hne)⟩, q3.kept (ho _ hne)⟩
      · rename_i hlt
        rw [if_neg hlt] at h2
        rw [ho _ hne]; exact h2
/-- a cell has come -/
theorem ck_Rl.mk (hR : ck_Rl s0 D dA sa SM M H) {t n : Nat} {H1 : Heap} (ht : t < 17 ∨ 100 ≤ t ∧ t ≤ 106 ∧ n < 65536) (hz : H1.size = H.size + 1) (ho : ∀ q, q < H.size → H1[q]? = H[q]?) (hc : ck_at1 D dA (ck_ad s0 sa) (M.mk t n) M.n H1) : ck_Rl s0 D dA sa SM (M.mk t n) H1 := by
  obtain ⟨r1, r2, r3, r4, r5, r6⟩ := hR
  have en : (M.mk t n).n = M.n + 1 := rfl
  have eK : ∀ j, j ≠ M.n → (M.mk t n).K j = M.K j := fun j hj => if_neg hj
  have eK0 : (M.mk t n).K M.n = (t, n) := if_pos rfl
  have eV : ∀ j, j ≠ M.n → (M.mk t n).V j = M.V j := fun j hj => if_neg hj
  have eR : ∀ j, j ≠ M.n → (M.mk t n).R j = M.R j := fun j hj => if_neg hj
  refine ⟨by omega, by omega, fun q hq => ?_, fun j hj => ?_, fun j hj => ?_, fun j hj hjn => ?_⟩
  · rw [ho q (by omega)]; exact r3 q hq
  · rw [eK j (by omega), eV j (by omega), eR j (by omega)]; exact r4 j hj
  · rw [eK j (by omega)]; exact r5 j (by omega)
  · by_cases hji : j = M.n
    · subst hji
      exact ⟨by rw [eK0]; exact ht, hc⟩
    · rw [eK j hji]
      refine ⟨(r6 j hj (by omega)).1, ?_⟩
      have h2 := (r6 j hj (by omega)).2
      unfold ck_at1 at h2 ⊢
      have hlt : ck_ad s0 sa j < H.size := by rw [ck_ad_ge hj]; omega
      rw [eK j hji, eV j hji, eR j hji]
      split
      · rename_i hlt2
        rw [if_pos hlt2] at h2
        obtain ⟨⟨r, q1, q2⟩, q3⟩ := h2
        exact ⟨⟨r, q1, q2.kept (ho _ hlt)⟩, q3.kept (ho _ hlt)⟩
      · rename_i hlt2
        rw [if_neg hlt2] at h2
        rw [ho _ hlt]; exact h2
end CkG
