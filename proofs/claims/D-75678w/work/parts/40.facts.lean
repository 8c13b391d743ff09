/-! WHAT THE TABLES SAY, printed by gen/facts.py -/
set_option maxRecDepth 100000
theorem ck_ab {a b : Nat} {P : Prop} (h : a = b) (hd : Nat.beq a b = false) : P := by
  rw [h] at hd
  have := Nat.beq_refl b
  rw [this] at hd
  cases hd
def ck_al {β : Type} (t : Nat → Option β) (P : Nat → β → Prop) : Prop := ∀ k v, t k = some v → P k v
theorem ck_al_no {β : Type} {P : Nat → β → Prop} : ck_al (ck_no : Nat → Option β) P := fun _ _ h => by cases h
theorem ck_al_lf {β : Type} {P : Nat → β → Prop} {k : Nat} {q : β} (h : P k q) : ck_al (ck_lf k q) P := by
  intro p v hv
  unfold ck_lf at hv
  cases hb : Nat.beq p k with
  | true =>
    rw [hb] at hv
    have : p = k := Nat.eq_of_beq_eq_true hb
    subst this
    cases hv
    exact h
  | false => rw [hb] at hv; cases hv
theorem ck_al_nd {β : Type} {P : Nat → β → Prop} {m : Nat} {a b : Nat → Option β} (ha : ck_al a P) (hb : ck_al b P) : ck_al (ck_nd m a b) P := by
  intro p v hv
  unfold ck_nd at hv
  cases hc : Nat.ble m p with
  | true => rw [hc] at hv; exact hb p v hv
  | false => rw [hc] at hv; exact ha p v hv
section CkEokMk
variable {my : Nat → ck_Y} {own : String} {k : Nat}
theorem ck_eok_F {t c f ty : Nat} {z : Int} (ht : t = 1 ∨ t = 11 ∨ t = 12) (hc : c < 17) (h : ck_FL own k c f ty t) : ck_Eok my own k (t, c, f, ty, z) := by
  rcases ht with rfl | rfl | rfl <;> exact ⟨fun _ => Or.inl ⟨hc, h⟩, fun q => ck_ab q rfl, fun q => ck_ab q rfl, fun q => ck_ab q rfl, fun q => ck_ab q rfl, fun q => ck_ab q rfl, fun q => ck_ab q rfl, fun q => ck_ab q rfl⟩
theorem ck_eok_V {z : Int} (h : Cond.fieldLink own k "java/lang/String" "value" "[B" ∈ lw_all) (t : Nat) (ht : t = 1 ∨ t = 11) : ck_Eok my own k (t, 50, 0, 4, z) := by
  rcases ht with rfl | rfl <;> exact ⟨fun _ => Or.inr ⟨rfl, Or.inl ⟨rfl, rfl, h⟩⟩, fun q => ck_ab q rfl, fun q => ck_ab q rfl, fun q => ck_ab q rfl, fun q => ck_ab q rfl, fun q => ck_ab q rfl, fun q => ck_ab q rfl, fun q => ck_ab q rfl⟩
theorem ck_eok_C {z : Int} (h : Cond.fieldLink own k "java/lang/String" "coder" "B" ∈ lw_all) (t : Nat) (ht : t = 1 ∨ t = 11) : ck_Eok my own k (t, 50, 1, 2, z) := by
  rcases ht with rfl | rfl <;> exact ⟨fun _ => Or.inr ⟨rfl, Or.inr ⟨rfl, rfl, h⟩⟩, fun q => ck_ab q rfl, fun q => ck_ab q rfl, fun q => ck_ab q rfl, fun q => ck_ab q rfl, fun q => ck_ab q rfl, fun q => ck_ab q rfl, fun q => ck_ab q rfl⟩
theorem ck_eok_S1 {c : Nat} {z : Int} (h : Cond.fieldLink own k "java/lang/String" "COMPACT_STRINGS" "Z" ∈ lw_all) : ck_Eok my own k (2, 0, 1, c, z) :=
  ⟨fun q => q.elim (fun q => ck_ab q rfl) (fun q => q.elim (fun q => ck_ab q rfl) (fun q => ck_ab q rfl)), fun _ => Or.inl ⟨rfl, rfl, h⟩, fun q => ck_ab q rfl, fun q => ck_ab q rfl, fun q => ck_ab q rfl, fun q => ck_ab q rfl, fun q => ck_ab q rfl, fun q => ck_ab q rfl⟩
theorem ck_eok_S2 {c : Nat} {z : Int} (h : Cond.fieldLink own k "ConkerYard" "NAMES" "[Ljava/lang/String;" ∈ lw_all) : ck_Eok my own k (2, 1, 4, c, z) :=
  ⟨fun q => q.elim (fun q => ck_ab q rfl) (fun q => q.elim (fun q => ck_ab q rfl) (fun q => ck_ab q rfl)), fun _ => Or.inr (Or.inl ⟨rfl, rfl, h⟩), fun q => ck_ab q rfl, fun q => ck_ab q rfl, fun q => ck_ab q rfl, fun q => ck_ab q rfl, fun q => ck_ab q rfl, fun q => ck_ab q rfl⟩
theorem ck_eok_S3 {c : Nat} {z : Int} (h : Cond.fieldLink own k "jdk/internal/util/Preconditions" "SIOOBE_FORMATTER" "Ljava/util/function/BiFunction;" ∈ lw_all) : ck_Eok my own k (2, 4, 4, c, z) :=
  ⟨fun q => q.elim (fun q => ck_ab q rfl) (fun q => q.elim (fun q => ck_ab q rfl) (fun q => ck_ab q rfl)), fun _ => Or.inr (Or.inr ⟨rfl, rfl, h⟩), fun q => ck_ab q rfl, fun q => ck_ab q rfl, fun q => ck_ab q rfl, fun q => ck_ab q rfl, fun q => ck_ab q rfl, fun q => ck_ab q rfl⟩
theorem ck_eok_I {a b c : Nat} {z : Int} (h : Cond.constant own k (Int32.ofInt z) ∈ lw_all) : ck_Eok my own k (4, a, b, c, z) :=
  ⟨fun q => q.elim (fun q => ck_ab q rfl) (fun q => q.elim (fun q => ck_ab q rfl) (fun q => ck_ab q rfl)), fun q => ck_ab q rfl, fun _ => h, fun q => ck_ab q rfl, fun q => ck_ab q rfl, fun q => ck_ab q rfl, fun q => ck_ab q rfl, fun q => ck_ab q rfl⟩
theorem ck_eok_L {a b c : Nat} {z : Int} (h : Cond.constantLong own k (Int64.ofInt z) ∈ lw_all) : ck_Eok my own k (5, a, b, c, z) :=
  ⟨fun q => q.elim (fun q => ck_ab q rfl) (fun q => q.elim (fun q => ck_ab q rfl) (fun q => ck_ab q rfl)), fun q => ck_ab q rfl, fun q => ck_ab q rfl, fun _ => h, fun q => ck_ab q rfl, fun q => ck_ab q rfl, fun q => ck_ab q rfl, fun q => ck_ab q rfl⟩
theorem ck_eok_T {i b c : Nat} {z : Int} (hi : i < 50) (h : (∃ tx, (own, k, tx, i) ∈ ck_strs) ∨ i = 3 ∧ Cond.classLink own k "[Ljava/lang/Object;" ∈ lw_all) : ck_Eok my own k (6, i, b, c, z) :=
  ⟨fun q => q.elim (fun q => ck_ab q rfl) (fun q => q.elim (fun q => ck_ab q rfl) (fun q => ck_ab q rfl)), fun q => ck_ab q rfl, fun q => ck_ab q rfl, fun q => ck_ab q rfl, fun _ => ⟨hi, h⟩, fun q => ck_ab q rfl, fun q => ck_ab q rfl, fun q => ck_ab q rfl⟩
theorem ck_eok_N {c n a : Nat} {z : Int} {C : String} {T : u_T} {tf : Nat → FieldType} (hC : ck_Cls c C T n tf) (hc : c < 17) (hl : Cond.classLink own k C ∈ lw_all) (ha : a ≠ 0 → 104 ≤ a ∧ a ≤ 106 ∧ ck_aty a = .object C ∧ Cond.arrayOver (.object C) ∈ lw_tbl) : ck_Eok my own k (8, c, n, a, z) :=
  ⟨fun q => q.elim (fun q => ck_ab q rfl) (fun q => q.elim (fun q => ck_ab q rfl) (fun q => ck_ab q rfl)), fun q => ck_ab q rfl, fun q => ck_ab q rfl, fun q => ck_ab q rfl, fun q => ck_ab q rfl, fun _ => ⟨C, T, tf, hC, hc, hl, ha⟩, fun q => ck_ab q rfl, fun q => ck_ab q rfl⟩
theorem ck_eok_A {t a b : Nat} {z : Int} {C : String} (h : 104 ≤ t ∧ t ≤ 106 ∧ ck_aty t = .object C ∧ Cond.classLink own k C ∈ lw_all ∧ Cond.arrayOver (.object C) ∈ lw_tbl) : ck_Eok my own k (9, t, a, b, z) :=
  ⟨fun q => q.elim (fun q => ck_ab q rfl) (fun q => q.elim (fun q => ck_ab q rfl) (fun q => ck_ab q rfl)), fun q => ck_ab q rfl, fun q => ck_ab q rfl, fun q => ck_ab q rfl, fun q => ck_ab q rfl, fun q => ck_ab q rfl, fun _ => ⟨C, h⟩, fun q => ck_ab q rfl⟩
theorem ck_eok_M {kind mid na : Nat} {z : Int} (h : ck_Mok my own k kind mid na z) : ck_Eok my own k (3, kind, mid, na, z) :=
  ⟨fun q => q.elim (fun q => ck_ab q rfl) (fun q => q.elim (fun q => ck_ab q rfl) (fun q => ck_ab q rfl)), fun q => ck_ab q rfl, fun q => ck_ab q rfl, fun q => ck_ab q rfl, fun q => ck_ab q rfl, fun q => ck_ab q rfl, fun q => ck_ab q rfl, fun _ => h⟩
end CkEokMk
section CkMokMk
variable {my : Nat → ck_Y} {own : String} {k mid na : Nat} {z : Int} {y : MethodName} {b : ByteArray} {r : Option FieldType} {C : String} {T : u_T} {N : Nat} {host : String}
theorem ck_mok0 (hy : my mid = (y, b, r)) (hC : ck_CL[z.toNat]? = some (C, T, N)) (hc : y.cls = C) (h1 : Cond.methodLink own k y ∈ lw_all) (h2 : Cond.instanceMethod y ∈ lw_all) (h3 : Cond.selects C y y ∈ lw_all) (h4 : Cond.initialized C ∈ lw_all) (h5 : ck_nMH y) (h6 : 0 < na) (h7 : ck_np y (na - 1)) : ck_Mok my own k 0 mid na z := by
  exact ⟨fun _ => by rw [hy]; exact ⟨C, T, N, hC, hc, h1, h2, h3, h4, h5, h6, h7⟩, fun q => ck_ab q rfl, fun q => ck_ab q rfl, fun q => ck_ab q rfl, fun q => ck_ab q rfl, fun q => ck_ab q rfl, fun q => ck_ab q rfl, fun q => ck_ab q rfl, fun q => ck_ab q rfl, fun q => ck_ab q rfl, fun q => ck_ab q rfl, fun q => ck_ab q rfl, fun q => ck_ab q rfl, fun q => ck_ab q rfl, by decide, fun q => absurd rfl q, fun q => ck_ab q rfl⟩
theorem ck_mok1 (hy : my mid = (y, b, r)) (h1 : Cond.methodLink own k y ∈ lw_all) (h2 : Cond.static y ∈ lw_all) (h4 : Cond.initialized y.cls ∈ lw_all) (h5 : ck_nMH y) (h7 : ck_np y na) (h9 : mid ≠ 91 ∧ mid ≠ 102) : ck_Mok my own k 1 mid na z := by
  exact ⟨fun q => ck_ab q rfl, fun _ => by rw [hy]; exact ⟨h1, h2, h4, h5, h7⟩, fun q => ck_ab q rfl, fun q => ck_ab q rfl, fun q => ck_ab q rfl, fun q => ck_ab q rfl, fun q => ck_ab q rfl, fun q => ck_ab q rfl, fun q => ck_ab q rfl, fun q => ck_ab q rfl, fun q => ck_ab q rfl, fun q => ck_ab q rfl, fun q => ck_ab q rfl, fun q => ck_ab q rfl, by decide, fun _ => h9, fun q => ck_ab q rfl⟩
theorem ck_mok2 (hy : my mid = (y, b, r)) (h1 : Cond.methodLink own k y ∈ lw_all) (h2 : Cond.instanceMethod y ∈ lw_all) (h4 : Cond.initialized y.cls ∈ lw_all) (hn : y.name = "<init>") (hr : r = none) (h5 : ck_nMH y) (h6 : 0 < na) (h7 : ck_np y (na - 1)) (h9 : mid ≠ 91 ∧ mid ≠ 102) : ck_Mok my own k 2 mid na z := by
  exact ⟨fun q => ck_ab q rfl, fun q => ck_ab q rfl, fun _ => by rw [hy]; exact ⟨h1, h2, h4, hn, hr, h5, h6, h7⟩, fun q => ck_ab q rfl, fun q => ck_ab q rfl, fun q => ck_ab q rfl, fun q => ck_ab q rfl, fun q => ck_ab q rfl, fun q => ck_ab q rfl, fun q => ck_ab q rfl, fun q => ck_ab q rfl, fun q => ck_ab q rfl, fun q => ck_ab q rfl, fun q => ck_ab q rfl, by decide, fun _ => h9, fun q => ck_ab q rfl⟩
theorem ck_mok3 (hy : my mid = (y, b, r)) (hC : ck_CL[z.toNat]? = some (C, T, N)) (hc : y.cls = C) (h1 : Cond.methodLinkNest own k y host ∈ lw_tbl) (h2 : Cond.instanceMethod y ∈ lw_all) (h3 : Cond.selects C y y ∈ lw_all) (h4 : Cond.initialized C ∈ lw_all) (h5 : ck_nMH y) (h6 : 0 < na) (h7 : ck_np y (na - 1)) (h9 : mid ≠ 91 ∧ mid ≠ 102) : ck_Mok my own k 3 mid na z := by
  exact ⟨fun q => ck_ab q rfl, fun q => ck_ab q rfl, fun q => ck_ab q rfl, fun _ => by rw [hy]; exact ⟨C, T, N, host, hC, hc, h1, h2, h3, h4, h5, h6, h7⟩, fun q => ck_ab q rfl, fun q => ck_ab q rfl, fun q => ck_ab q rfl, fun q => ck_ab q rfl, fun q => ck_ab q rfl, fun q => ck_ab q rfl, fun q => ck_ab q rfl, fun q => ck_ab q rfl, fun q => ck_ab q rfl, fun q => ck_ab q rfl, by decide, fun _ => h9, fun q => ck_ab q rfl⟩
theorem ck_mok4 (hy : my mid = (y, b, r)) (h1 : Cond.methodLinkNest own k y host ∈ lw_tbl) (h2 : Cond.static y ∈ lw_all) (h4 : Cond.initialized y.cls ∈ lw_all) (h5 : ck_nMH y) (h7 : ck_np y na) (h9 : mid ≠ 91 ∧ mid ≠ 102) : ck_Mok my own k 4 mid na z := by
  exact ⟨fun q => ck_ab q rfl, fun q => ck_ab q rfl, fun q => ck_ab q rfl, fun q => ck_ab q rfl, fun _ => by rw [hy]; exact ⟨host, h1, h2, h4, h5, h7⟩, fun q => ck_ab q rfl, fun q => ck_ab q rfl, fun q => ck_ab q rfl, fun q => ck_ab q rfl, fun q => ck_ab q rfl, fun q => ck_ab q rfl, fun q => ck_ab q rfl, fun q => ck_ab q rfl, fun q => ck_ab q rfl, by decide, fun _ => h9, fun q => ck_ab q rfl⟩
theorem ck_mok5 (hy : my mid = (y, b, r)) (h1 : Cond.methodLinkNest own k y host ∈ lw_tbl) (h2 : Cond.instanceMethod y ∈ lw_all) (h4 : Cond.initialized y.cls ∈ lw_all) (hn : y.name = "<init>") (hr : r = none) (h5 : ck_nMH y) (h6 : 0 < na) (h7 : ck_np y (na - 1)) (h9 : mid ≠ 91 ∧ mid ≠ 102) : ck_Mok my own k 5 mid na z := by
  exact ⟨fun q => ck_ab q rfl, fun q => ck_ab q rfl, fun q => ck_ab q rfl, fun q => ck_ab q rfl, fun q => ck_ab q rfl, fun _ => by rw [hy]; exact ⟨host, h1, h2, h4, hn, hr, h5, h6, h7⟩, fun q => ck_ab q rfl, fun q => ck_ab q rfl, fun q => ck_ab q rfl, fun q => ck_ab q rfl, fun q => ck_ab q rfl, fun q => ck_ab q rfl, fun q => ck_ab q rfl, fun q => ck_ab q rfl, by decide, fun _ => h9, fun q => ck_ab q rfl⟩
theorem ck_mok6 (x : MethodName) (h1 : Cond.methodLink own k x ∈ lw_all) (h2 : Cond.sameMethod x.cls x.cls x.name x.desc ∈ lw_all) (h3 : Cond.declares ⟨x.cls, x.name, x.desc⟩ ∈ lw_tbl) (h5 : ck_nMH x) (h6 : 0 < na) (h7 : ck_np x (na - 1)) (h8 : ∀ cn, (cn = 8 ∨ cn = 9 ∨ cn = 10 ∨ cn = 12 ∨ cn = 13 ∨ cn = 14) → ((my (mid + cn)).2.1 = ByteArray.empty ∨ ∃ (C : String) (T : u_T) (N : Nat), ck_CL[cn]? = some (C, T, N) ∧ Cond.selects C x (my (mid + cn)).1 ∈ lw_all ∧ Cond.instanceMethod (my (mid + cn)).1 ∈ lw_all ∧ Cond.initialized (my (mid + cn)).1.cls ∈ lw_all)) (h9 : mid ≠ 91 ∧ mid ≠ 102) (h6m : 200 ≤ mid) : ck_Mok my own k 6 mid na z := by
  exact ⟨fun q => ck_ab q rfl, fun q => ck_ab q rfl, fun q => ck_ab q rfl, fun q => ck_ab q rfl, fun q => ck_ab q rfl, fun q => ck_ab q rfl, fun _ => ⟨x, h1, h2, h3, h5, h6, h7, h8⟩, fun q => ck_ab q rfl, fun q => ck_ab q rfl, fun q => ck_ab q rfl, fun q => ck_ab q rfl, fun q => ck_ab q rfl, fun q => ck_ab q rfl, fun q => ck_ab q rfl, by decide, fun _ => h9, fun _ => h6m⟩
theorem ck_mok7 (h0 : na = 1) (h1 : Cond.methodLink own k Lib.objectInit ∈ lw_all) (h2 : Cond.instanceMethod Lib.objectInit ∈ lw_all) (h3 : Cond.code Lib.objectInit ⟨#[0xb1]⟩ 1 none ∈ lw_all) (h9 : mid ≠ 91 ∧ mid ≠ 102) : ck_Mok my own k 7 mid na z := by
  exact ⟨fun q => ck_ab q rfl, fun q => ck_ab q rfl, fun q => ck_ab q rfl, fun q => ck_ab q rfl, fun q => ck_ab q rfl, fun q => ck_ab q rfl, fun q => ck_ab q rfl, fun _ => ⟨h0, h1, h2, h3⟩, fun q => ck_ab q rfl, fun q => ck_ab q rfl, fun q => ck_ab q rfl, fun q => ck_ab q rfl, fun q => ck_ab q rfl, fun q => ck_ab q rfl, by decide, fun _ => h9, fun q => ck_ab q rfl⟩
theorem ck_mok8 (hy : my mid = (y, b, r)) (hc : y.cls = "java/lang/String") (h1 : Cond.methodLink own k y ∈ lw_all) (h2 : Cond.instanceMethod y ∈ lw_all) (h3 : Cond.selects "java/lang/String" y y ∈ lw_all) (h4 : Cond.initialized "java/lang/String" ∈ lw_all) (h6 : 0 < na) (h7 : ck_np y (na - 1)) (h9 : mid ≠ 91 ∧ mid ≠ 102) : ck_Mok my own k 8 mid na z := by
  exact ⟨fun q => ck_ab q rfl, fun q => ck_ab q rfl, fun q => ck_ab q rfl, fun q => ck_ab q rfl, fun q => ck_ab q rfl, fun q => ck_ab q rfl, fun q => ck_ab q rfl, fun q => ck_ab q rfl, fun _ => by rw [hy]; exact ⟨hc, h1, h2, h3, h4, h6, h7⟩, fun q => ck_ab q rfl, fun q => ck_ab q rfl, fun q => ck_ab q rfl, fun q => ck_ab q rfl, fun q => ck_ab q rfl, by decide, fun _ => h9, fun q => ck_ab q rfl⟩
theorem ck_mok20 (h0 : na = 5) (h1 : Cond.methodLink own k arraycopyName ∈ lw_all) (h2 : Cond.native arraycopyName ∈ lw_all) (h3 : Cond.static arraycopyName ∈ lw_all) (h4 : Cond.initialized "java/lang/System" ∈ lw_all) (h9 : mid ≠ 91 ∧ mid ≠ 102) : ck_Mok my own k 20 mid na z := by
  exact ⟨fun q => ck_ab q rfl, fun q => ck_ab q rfl, fun q => ck_ab q rfl, fun q => ck_ab q rfl, fun q => ck_ab q rfl, fun q => ck_ab q rfl, fun q => ck_ab q rfl, fun q => ck_ab q rfl, fun q => ck_ab q rfl, fun _ => ⟨h0, h1, h2, h3, h4⟩, fun q => ck_ab q rfl, fun q => ck_ab q rfl, fun q => ck_ab q rfl, fun q => ck_ab q rfl, by decide, fun _ => h9, fun q => ck_ab q rfl⟩
theorem ck_mok21 (h0 : na = 1) (h1 : Cond.methodLink own k ⟨"java/lang/Object", "getClass", "()Ljava/lang/Class;"⟩ ∈ lw_all) (h2 : Cond.declares ⟨"java/lang/Object", "getClass", "()Ljava/lang/Class;"⟩ ∈ lw_tbl) (h3 : Cond.selects "[Ljava/lang/Object;" ⟨"java/lang/Object", "getClass", "()Ljava/lang/Class;"⟩ ⟨"java/lang/Object", "getClass", "()Ljava/lang/Class;"⟩ ∈ lw_all) (h4 : Cond.instanceMethod ⟨"java/lang/Object", "getClass", "()Ljava/lang/Class;"⟩ ∈ lw_all) (h5 : Cond.native ⟨"java/lang/Object", "getClass", "()Ljava/lang/Class;"⟩ ∈ lw_all) (h9 : mid ≠ 91 ∧ mid ≠ 102) : ck_Mok my own k 21 mid na z := by
  exact ⟨fun q => ck_ab q rfl, fun q => ck_ab q rfl, fun q => ck_ab q rfl, fun q => ck_ab q rfl, fun q => ck_ab q rfl, fun q => ck_ab q rfl, fun q => ck_ab q rfl, fun q => ck_ab q rfl, fun q => ck_ab q rfl, fun q => ck_ab q rfl, fun _ => ⟨h0, h1, h2, h3, h4, h5⟩, fun q => ck_ab q rfl, fun q => ck_ab q rfl, fun q => ck_ab q rfl, by decide, fun _ => h9, fun q => ck_ab q rfl⟩
theorem ck_mok22 (h0 : na = 1) (h1 : own = "ConkerYard$Wrong") (h2 : k = 1) (h9 : mid ≠ 91 ∧ mid ≠ 102) : ck_Mok my own k 22 mid na z := by
  exact ⟨fun q => ck_ab q rfl, fun q => ck_ab q rfl, fun q => ck_ab q rfl, fun q => ck_ab q rfl, fun q => ck_ab q rfl, fun q => ck_ab q rfl, fun q => ck_ab q rfl, fun q => ck_ab q rfl, fun q => ck_ab q rfl, fun q => ck_ab q rfl, fun q => ck_ab q rfl, fun _ => ⟨h0, h1, h2⟩, fun q => ck_ab q rfl, fun q => ck_ab q rfl, by decide, fun _ => h9, fun q => ck_ab q rfl⟩
theorem ck_mok23 (h0 : na = 2) (h1 : Cond.methodLink own k Lib.Math.max.name ∈ lw_all) (h2 : Cond.static Lib.Math.max.name ∈ lw_all) (h3 : Cond.initialized "java/lang/Math" ∈ lw_all) (h4 : Cond.code Lib.Math.max.name Lib.Math.max.code 2 (some .int) ∈ lw_all) (h9 : mid ≠ 91 ∧ mid ≠ 102) : ck_Mok my own k 23 mid na z := by
  exact ⟨fun q => ck_ab q rfl, fun q => ck_ab q rfl, fun q => ck_ab q rfl, fun q => ck_ab q rfl, fun q => ck_ab q rfl, fun q => ck_ab q rfl, fun q => ck_ab q rfl, fun q => ck_ab q rfl, fun q => ck_ab q rfl, fun q => ck_ab q rfl, fun q => ck_ab q rfl, fun q => ck_ab q rfl, fun _ => ⟨h0, h1, h2, h3, h4⟩, fun q => ck_ab q rfl, by decide, fun _ => h9, fun q => ck_ab q rfl⟩
theorem ck_mok24 (h0 : na = 2) (h1 : Cond.methodLink own k Lib.Math.min.name ∈ lw_all) (h2 : Cond.static Lib.Math.min.name ∈ lw_all) (h3 : Cond.initialized "java/lang/Math" ∈ lw_all) (h4 : Cond.code Lib.Math.min.name Lib.Math.min.code 2 (some .int) ∈ lw_all) (h9 : mid ≠ 91 ∧ mid ≠ 102) : ck_Mok my own k 24 mid na z := by
  exact ⟨fun q => ck_ab q rfl, fun q => ck_ab q rfl, fun q => ck_ab q rfl, fun q => ck_ab q rfl, fun q => ck_ab q rfl, fun q => ck_ab q rfl, fun q => ck_ab q rfl, fun q => ck_ab q rfl, fun q => ck_ab q rfl, fun q => ck_ab q rfl, fun q => ck_ab q rfl, fun q => ck_ab q rfl, fun q => ck_ab q rfl, fun _ => ⟨h0, h1, h2, h3, h4⟩, by decide, fun _ => h9, fun q => ck_ab q rfl⟩
end CkMokMk
theorem ck_tk_0 : ck_tk 0 .int := ⟨fun _ => rfl, fun q => ck_ab q rfl, fun q => ck_ab q rfl, fun q => ck_ab q rfl, Or.inl rfl⟩
theorem ck_tk_1 : ck_tk 1 .boolean := ⟨fun q => ck_ab q rfl, fun _ => rfl, fun q => ck_ab q rfl, fun q => ck_ab q rfl, Or.inr (Or.inl rfl)⟩
theorem ck_tk_3 : ck_tk 3 .long := ⟨fun q => ck_ab q rfl, fun q => ck_ab q rfl, fun _ => rfl, fun q => ck_ab q rfl, Or.inr (Or.inr (Or.inl rfl))⟩
theorem ck_tk_4 {C : String} : ck_tk 4 (.object C) := ⟨fun q => ck_ab q rfl, fun q => ck_ab q rfl, fun q => ck_ab q rfl, fun _ => ⟨C, Or.inl rfl⟩, Or.inr (Or.inr (Or.inr rfl))⟩
theorem ck_tk_4a {u : FieldType} : ck_tk 4 (.array u) := ⟨fun q => ck_ab q rfl, fun q => ck_ab q rfl, fun q => ck_ab q rfl, fun _ => ⟨"", Or.inr ⟨u, rfl⟩⟩, Or.inr (Or.inr (Or.inr rfl))⟩
def ck_my0_t0 : Nat → Option ck_Y := (ck_nd 11 (ck_nd 6 (ck_nd 2 (ck_nd 1 (ck_lf 0 (yJ0_init, cJ0_init, (Option.none : Option Jvm.ClassFile.FieldType))) (ck_lf 1 (yJ10_hugeLength, cJ10_hugeLength, (Option.some Jvm.ClassFile.FieldType.int)))) (ck_nd 5 (ck_lf 2 (yJ10_newLength, cJ10_newLength, (Option.some Jvm.ClassFile.FieldType.int))) (ck_lf 5 (yJ12_copyOf, cJ12_copyOf, (Option.some (Jvm.ClassFile.FieldType.array (Jvm.ClassFile.FieldType.object "java/lang/Object"))))))) (ck_nd 8 (ck_nd 7 (ck_lf 6 (yJ12_copyOf_2, cJ12_copyOf_2, (Option.some (Jvm.ClassFile.FieldType.array (Jvm.ClassFile.FieldType.object "java/lang/Object"))))) (ck_lf 7 (yJ13_checkIndex, cJ13_checkIndex, (Option.some Jvm.ClassFile.FieldType.int)))) (ck_nd 9 (ck_lf 8 (yJ14_bitCount, cJ14_bitCount, (Option.some Jvm.ClassFile.FieldType.int))) (ck_lf 9 (yJ14_numberOfTrailingZeros, cJ14_numberOfTrailingZeros, (Option.some Jvm.ClassFile.FieldType.int)))))) (ck_nd 15 (ck_nd 13 (ck_nd 12 (ck_lf 11 (yJ1_init, cJ1_init, (Option.none : Option Jvm.ClassFile.FieldType))) (ck_lf 12 (yJ2_add, cJ2_add, (Option.some Jvm.ClassFile.FieldType.boolean)))) (ck_nd 14 (ck_lf 13 (yJ2_add_2, cJ2_add_2, (Option.none : Option Jvm.ClassFile.FieldType))) (ck_lf 14 (yJ2_elementData, cJ2_elementData, (Option.some (Jvm.ClassFile.FieldType.object "java/lang/Object")))))) (ck_nd 17 (ck_nd 16 (ck_lf 15 (yJ2_get, cJ2_get, (Option.some (Jvm.ClassFile.FieldType.object "java/lang/Object")))) (ck_lf 16 (yJ2_grow, cJ2_grow, (Option.some (Jvm.ClassFile.FieldType.array (Jvm.ClassFile.FieldType.object "java/lang/Object")))))) (ck_nd 18 (ck_lf 17 (yJ2_grow_2, cJ2_grow_2, (Option.some (Jvm.ClassFile.FieldType.array (Jvm.ClassFile.FieldType.object "java/lang/Object"))))) (ck_nd 19 (ck_lf 18 (yJ2_init, cJ2_init, (Option.none : Option Jvm.ClassFile.FieldType))) (ck_lf 19 (yJ2_size, cJ2_size, (Option.some Jvm.ClassFile.FieldType.int))))))))
def ck_my0_t1 : Nat → Option ck_Y := (ck_nd 28 (ck_nd 24 (ck_nd 22 (ck_nd 21 (ck_lf 20 (yJ3_init, cJ3_init, (Option.none : Option Jvm.ClassFile.FieldType))) (ck_lf 21 (yJ4_init, cJ4_init, (Option.none : Option Jvm.ClassFile.FieldType)))) (ck_nd 23 (ck_lf 22 (yJ5_charAt, cJ5_charAt, (Option.some Jvm.ClassFile.FieldType.char))) (ck_lf 23 (yJ5_checkIndex, cJ5_checkIndex, (Option.none : Option Jvm.ClassFile.FieldType))))) (ck_nd 26 (ck_nd 25 (ck_lf 24 (yJ5_coder, cJ5_coder, (Option.some Jvm.ClassFile.FieldType.byte))) (ck_lf 25 (yJ5_isLatin1, cJ5_isLatin1, (Option.some Jvm.ClassFile.FieldType.boolean)))) (ck_nd 27 (ck_lf 26 (yJ5_length, cJ5_length, (Option.some Jvm.ClassFile.FieldType.int))) (ck_lf 27 (yJ6_charAt, cJ6_charAt, (Option.some Jvm.ClassFile.FieldType.char)))))) (ck_nd 32 (ck_nd 30 (ck_nd 29 (ck_lf 28 (yJ7_checkIndex, cJ7_checkIndex, (Option.some Jvm.ClassFile.FieldType.int))) (ck_lf 29 (yJ8_charAt, cJ8_charAt, (Option.some Jvm.ClassFile.FieldType.char)))) (ck_nd 31 (ck_lf 30 (yJ8_checkIndex, cJ8_checkIndex, (Option.none : Option Jvm.ClassFile.FieldType))) (ck_lf 31 (yJ8_getChar, cJ8_getChar, (Option.some Jvm.ClassFile.FieldType.char))))) (ck_nd 35 (ck_nd 33 (ck_lf 32 (yJ8_length, cJ8_length, (Option.some Jvm.ClassFile.FieldType.int))) (ck_lf 33 (yJ9_init, cJ9_init, (Option.none : Option Jvm.ClassFile.FieldType)))) (ck_nd 36 (ck_lf 35 (yX0_ahead, cX0_ahead, (Option.some Jvm.ClassFile.FieldType.int))) (ck_nd 37 (ck_lf 36 (yX0_alone, cX0_alone, (Option.some Jvm.ClassFile.FieldType.int))) (ck_lf 37 (yX0_back, cX0_back, (Option.some Jvm.ClassFile.FieldType.int))))))))
def ck_my0_t2 : Nat → Option ck_Y := (ck_nd 20 ck_my0_t0 ck_my0_t1)
def ck_my0_t3 : Nat → Option ck_Y := (ck_nd 46 (ck_nd 42 (ck_nd 40 (ck_nd 39 (ck_lf 38 (yX0_beatenBy, cX0_beatenBy, (Option.some Jvm.ClassFile.FieldType.int))) (ck_lf 39 (yX0_beats, cX0_beats, (Option.some Jvm.ClassFile.FieldType.int)))) (ck_nd 41 (ck_lf 40 (yX0_best, cX0_best, (Option.some Jvm.ClassFile.FieldType.int))) (ck_lf 41 (yX0_bit, cX0_bit, (Option.some Jvm.ClassFile.FieldType.int))))) (ck_nd 44 (ck_nd 43 (ck_lf 42 (yX0_bout, cX0_bout, (Option.some Jvm.ClassFile.FieldType.int))) (ck_lf 43 (yX0_choiceOf, cX0_choiceOf, (Option.some Jvm.ClassFile.FieldType.int)))) (ck_nd 45 (ck_lf 44 (yX0_conker, cX0_conker, (Option.some Jvm.ClassFile.FieldType.int))) (ck_lf 45 (yX0_couldRule, cX0_couldRule, (Option.some Jvm.ClassFile.FieldType.boolean)))))) (ck_nd 50 (ck_nd 48 (ck_nd 47 (ck_lf 46 (yX0_count, cX0_count, (Option.some Jvm.ClassFile.FieldType.int))) (ck_lf 47 (yX0_cups, cX0_cups, (Option.some Jvm.ClassFile.FieldType.int)))) (ck_nd 49 (ck_lf 48 (yX0_cupsFrom, cX0_cupsFrom, (Option.none : Option Jvm.ClassFile.FieldType))) (ck_lf 49 (yX0_doNotesFit, cX0_doNotesFit, (Option.some Jvm.ClassFile.FieldType.boolean))))) (ck_nd 52 (ck_nd 51 (ck_lf 50 (yX0_draws, cX0_draws, (Option.some Jvm.ClassFile.FieldType.int))) (ck_lf 51 (yX0_end, cX0_end, (Option.some Jvm.ClassFile.FieldType.int)))) (ck_nd 53 (ck_lf 52 (yX0_fails, cX0_fails, (Option.some (Jvm.ClassFile.FieldType.object "ConkerYard$Wrong")))) (ck_nd 54 (ck_lf 53 (yX0_feed, cX0_feed, (Option.some Jvm.ClassFile.FieldType.int))) (ck_lf 54 (yX0_force, cX0_force, (Option.some Jvm.ClassFile.FieldType.int))))))))
def ck_my0_t4 : Nat → Option ck_Y := (ck_nd 63 (ck_nd 59 (ck_nd 57 (ck_nd 56 (ck_lf 55 (yX0_freezes, cX0_freezes, (Option.none : Option Jvm.ClassFile.FieldType))) (ck_lf 56 (yX0_frost, cX0_frost, (Option.some Jvm.ClassFile.FieldType.int)))) (ck_nd 58 (ck_lf 57 (yX0_goesOn, cX0_goesOn, (Option.some Jvm.ClassFile.FieldType.int))) (ck_lf 58 (yX0_goesOnOf, cX0_goesOnOf, (Option.some Jvm.ClassFile.FieldType.int))))) (ck_nd 61 (ck_nd 60 (ck_lf 59 (yX0_goesTill, cX0_goesTill, (Option.none : Option Jvm.ClassFile.FieldType))) (ck_lf 60 (yX0_hards, cX0_hards, (Option.some Jvm.ClassFile.FieldType.int)))) (ck_nd 62 (ck_lf 61 (yX0_has, cX0_has, (Option.some Jvm.ClassFile.FieldType.boolean))) (ck_lf 62 (yX0_image, cX0_image, (Option.some Jvm.ClassFile.FieldType.int)))))) (ck_nd 67 (ck_nd 65 (ck_nd 64 (ck_lf 63 (yX0_in, cX0_in, (Option.some Jvm.ClassFile.FieldType.boolean))) (ck_lf 64 (yX0_init, cX0_init, (Option.none : Option Jvm.ClassFile.FieldType)))) (ck_nd 66 (ck_lf 65 (yX0_isConker, cX0_isConker, (Option.some Jvm.ClassFile.FieldType.boolean))) (ck_lf 66 (yX0_isLadder, cX0_isLadder, (Option.none : Option Jvm.ClassFile.FieldType))))) (ck_nd 69 (ck_nd 68 (ck_lf 67 (yX0_isRest, cX0_isRest, (Option.some Jvm.ClassFile.FieldType.boolean))) (ck_lf 68 (yX0_isWhole, cX0_isWhole, (Option.some Jvm.ClassFile.FieldType.boolean)))) (ck_nd 70 (ck_lf 69 (yX0_isYard, cX0_isYard, (Option.some Jvm.ClassFile.FieldType.boolean))) (ck_nd 71 (ck_lf 70 (yX0_keeps, cX0_keeps, (Option.none : Option Jvm.ClassFile.FieldType))) (ck_lf 71 (yX0_kings, cX0_kings, (Option.some Jvm.ClassFile.FieldType.int))))))))
def ck_my0_t5 : Nat → Option ck_Y := (ck_nd 55 ck_my0_t3 ck_my0_t4)
def ck_my0_t6 : Nat → Option ck_Y := (ck_nd 38 ck_my0_t2 ck_my0_t5)
def ck_my0_t7 : Nat → Option ck_Y := (ck_nd 80 (ck_nd 76 (ck_nd 74 (ck_nd 73 (ck_lf 72 (yX0_ladder, cX0_ladder, (Option.some Jvm.ClassFile.FieldType.int))) (ck_lf 73 (yX0_ladderFrom, cX0_ladderFrom, (Option.none : Option Jvm.ClassFile.FieldType)))) (ck_nd 75 (ck_lf 74 (yX0_last, cX0_last, (Option.some Jvm.ClassFile.FieldType.int))) (ck_lf 75 (yX0_laysBeaten, cX0_laysBeaten, (Option.none : Option Jvm.ClassFile.FieldType))))) (ck_nd 78 (ck_nd 77 (ck_lf 76 (yX0_laysBouts, cX0_laysBouts, (Option.none : Option Jvm.ClassFile.FieldType))) (ck_lf 77 (yX0_laysCups, cX0_laysCups, (Option.none : Option Jvm.ClassFile.FieldType)))) (ck_nd 79 (ck_lf 78 (yX0_laysLasts, cX0_laysLasts, (Option.none : Option Jvm.ClassFile.FieldType))) (ck_lf 79 (yX0_look, cX0_look, (Option.some Jvm.ClassFile.FieldType.int)))))) (ck_nd 84 (ck_nd 82 (ck_nd 81 (ck_lf 80 (yX0_mend, cX0_mend, (Option.some Jvm.ClassFile.FieldType.int))) (ck_lf 81 (yX0_mostAlike, cX0_mostAlike, (Option.some Jvm.ClassFile.FieldType.int)))) (ck_nd 83 (ck_lf 82 (yX0_newStates, cX0_newStates, (Option.some (Jvm.ClassFile.FieldType.array (Jvm.ClassFile.FieldType.object "ConkerYard$State"))))) (ck_lf 83 (yX0_note, cX0_note, (Option.some Jvm.ClassFile.FieldType.int))))) (ck_nd 86 (ck_nd 85 (ck_lf 84 (yX0_own, cX0_own, (Option.some Jvm.ClassFile.FieldType.int))) (ck_lf 85 (yX0_pence, cX0_pence, (Option.some Jvm.ClassFile.FieldType.int)))) (ck_nd 87 (ck_lf 86 (yX0_pickle, cX0_pickle, (Option.some Jvm.ClassFile.FieldType.int))) (ck_nd 88 (ck_lf 87 (yX0_reachedFrom, cX0_reachedFrom, (Option.some Jvm.ClassFile.FieldType.int))) (ck_lf 88 (yX0_rests, cX0_rests, (Option.some Jvm.ClassFile.FieldType.int))))))))
def ck_my0_t8 : Nat → Option ck_Y := (ck_nd 97 (ck_nd 93 (ck_nd 91 (ck_nd 90 (ck_lf 89 (yX0_rings, cX0_rings, (Option.some Jvm.ClassFile.FieldType.int))) (ck_lf 90 (yX0_round, cX0_round, (Option.some Jvm.ClassFile.FieldType.int)))) (ck_nd 92 (ck_lf 91 (yX0_rule, cX0_rule, (Option.some Jvm.ClassFile.FieldType.int))) (ck_lf 92 (yX0_ruled, cX0_ruled, (Option.some Jvm.ClassFile.FieldType.int))))) (ck_nd 95 (ck_nd 94 (ck_lf 93 (yX0_seed, cX0_seed, (Option.some Jvm.ClassFile.FieldType.int))) (ck_lf 94 (yX0_smashed, cX0_smashed, (Option.some Jvm.ClassFile.FieldType.int)))) (ck_nd 96 (ck_lf 95 (yX0_string, cX0_string, (Option.some Jvm.ClassFile.FieldType.int))) (ck_lf 96 (yX0_swings, cX0_swings, (Option.some Jvm.ClassFile.FieldType.int)))))) (ck_nd 101 (ck_nd 99 (ck_nd 98 (ck_lf 97 (yX0_tapes, cX0_tapes, (Option.none : Option Jvm.ClassFile.FieldType))) (ck_lf 98 (yX0_undo, cX0_undo, (Option.some Jvm.ClassFile.FieldType.int)))) (ck_nd 100 (ck_lf 99 (yX0_wants, cX0_wants, (Option.some Jvm.ClassFile.FieldType.long))) (ck_lf 100 (yX0_worthTo, cX0_worthTo, (Option.some Jvm.ClassFile.FieldType.int))))) (ck_nd 103 (ck_nd 102 (ck_lf 101 (yX0_would, cX0_would, (Option.some Jvm.ClassFile.FieldType.int))) (ck_lf 102 (yX0_yard, cX0_yard, (Option.some Jvm.ClassFile.FieldType.int)))) (ck_nd 104 (ck_lf 103 (yX10_init, cX10_init, (Option.none : Option Jvm.ClassFile.FieldType))) (ck_nd 105 (ck_lf 104 (yX11_init, cX11_init, (Option.none : Option Jvm.ClassFile.FieldType))) (ck_lf 105 (yX12_holds, cX12_holds, (Option.some Jvm.ClassFile.FieldType.boolean))))))))
def ck_my0_t9 : Nat → Option ck_Y := (ck_nd 89 ck_my0_t7 ck_my0_t8)
def ck_my0_t10 : Nat → Option ck_Y := (ck_nd 114 (ck_nd 110 (ck_nd 108 (ck_nd 107 (ck_lf 106 (yX12_init, cX12_init, (Option.none : Option Jvm.ClassFile.FieldType))) (ck_lf 107 (yX13_init, cX13_init, (Option.none : Option Jvm.ClassFile.FieldType)))) (ck_nd 109 (ck_lf 108 (yX14_init, cX14_init, (Option.none : Option Jvm.ClassFile.FieldType))) (ck_lf 109 (yX15_init, cX15_init, (Option.none : Option Jvm.ClassFile.FieldType))))) (ck_nd 112 (ck_nd 111 (ck_lf 110 (yX16_init, cX16_init, (Option.none : Option Jvm.ClassFile.FieldType))) (ck_lf 111 (yX17_holds, cX17_holds, (Option.none : Option Jvm.ClassFile.FieldType)))) (ck_nd 113 (ck_lf 112 (yX17_init, cX17_init, (Option.none : Option Jvm.ClassFile.FieldType))) (ck_lf 113 (yX17_laysBack, cX17_laysBack, (Option.none : Option Jvm.ClassFile.FieldType)))))) (ck_nd 118 (ck_nd 116 (ck_nd 115 (ck_lf 114 (yX1_init, cX1_init, (Option.none : Option Jvm.ClassFile.FieldType))) (ck_lf 115 (yX1_many, cX1_many, (Option.some Jvm.ClassFile.FieldType.int)))) (ck_nd 117 (ck_lf 116 (yX2_begin, cX2_begin, (Option.none : Option Jvm.ClassFile.FieldType))) (ck_lf 117 (yX2_copyFrom, cX2_copyFrom, (Option.none : Option Jvm.ClassFile.FieldType))))) (ck_nd 120 (ck_nd 119 (ck_lf 118 (yX2_fights, cX2_fights, (Option.some Jvm.ClassFile.FieldType.int))) (ck_lf 119 (yX2_hardens, cX2_hardens, (Option.none : Option Jvm.ClassFile.FieldType)))) (ck_nd 121 (ck_lf 120 (yX2_heals, cX2_heals, (Option.none : Option Jvm.ClassFile.FieldType))) (ck_nd 122 (ck_lf 121 (yX2_init, cX2_init, (Option.none : Option Jvm.ClassFile.FieldType))) (ck_lf 122 (yX2_strikesOf, cX2_strikesOf, (Option.some Jvm.ClassFile.FieldType.int))))))))
def ck_my0_t11 : Nat → Option ck_Y := (ck_nd 132 (ck_nd 127 (ck_nd 125 (ck_nd 124 (ck_lf 123 (yX2_sumOf, cX2_sumOf, (Option.some Jvm.ClassFile.FieldType.int))) (ck_lf 124 (yX2_winnerOf, cX2_winnerOf, (Option.some Jvm.ClassFile.FieldType.int)))) (ck_nd 126 (ck_lf 125 (yX3_init, cX3_init, (Option.none : Option Jvm.ClassFile.FieldType))) (ck_lf 126 (yX4_ahead, cX4_ahead, (Option.some Jvm.ClassFile.FieldType.int))))) (ck_nd 129 (ck_nd 128 (ck_lf 127 (yX4_alikeAt, cX4_alikeAt, (Option.some Jvm.ClassFile.FieldType.int))) (ck_lf 128 (yX4_alone, cX4_alone, (Option.some Jvm.ClassFile.FieldType.int)))) (ck_nd 130 (ck_lf 129 (yX4_areAllSo, cX4_areAllSo, (Option.some Jvm.ClassFile.FieldType.boolean))) (ck_nd 131 (ck_lf 130 (yX4_areNotesSo, cX4_areNotesSo, (Option.some Jvm.ClassFile.FieldType.boolean))) (ck_lf 131 (yX4_back, cX4_back, (Option.some Jvm.ClassFile.FieldType.int))))))) (ck_nd 136 (ck_nd 134 (ck_nd 133 (ck_lf 132 (yX4_beats, cX4_beats, (Option.some Jvm.ClassFile.FieldType.int))) (ck_lf 133 (yX4_beatsOf, cX4_beatsOf, (Option.some Jvm.ClassFile.FieldType.int)))) (ck_nd 135 (ck_lf 134 (yX4_begins, cX4_begins, (Option.none : Option Jvm.ClassFile.FieldType))) (ck_lf 135 (yX4_best, cX4_best, (Option.some Jvm.ClassFile.FieldType.int))))) (ck_nd 138 (ck_nd 137 (ck_lf 136 (yX4_bits, cX4_bits, (Option.some Jvm.ClassFile.FieldType.int))) (ck_lf 137 (yX4_bout, cX4_bout, (Option.some Jvm.ClassFile.FieldType.int)))) (ck_nd 139 (ck_lf 138 (yX4_canBe, cX4_canBe, (Option.some Jvm.ClassFile.FieldType.int))) (ck_nd 140 (ck_lf 139 (yX4_canStand, cX4_canStand, (Option.some Jvm.ClassFile.FieldType.boolean))) (ck_lf 140 (yX4_cellHere, cX4_cellHere, (Option.some Jvm.ClassFile.FieldType.boolean))))))))
def ck_my0_t12 : Nat → Option ck_Y := (ck_nd 123 ck_my0_t10 ck_my0_t11)
def ck_my0_t13 : Nat → Option ck_Y := (ck_nd 106 ck_my0_t9 ck_my0_t12)
def ck_my0_t14 : Nat → Option ck_Y := (ck_nd 72 ck_my0_t6 ck_my0_t13)
def ck_my0_t15 : Nat → Option ck_Y := (ck_nd 149 (ck_nd 145 (ck_nd 143 (ck_nd 142 (ck_lf 141 (yX4_chooses, cX4_chooses, (Option.none : Option Jvm.ClassFile.FieldType))) (ck_lf 142 (yX4_choosesPlain, cX4_choosesPlain, (Option.none : Option Jvm.ClassFile.FieldType)))) (ck_nd 144 (ck_lf 143 (yX4_clauseHere, cX4_clauseHere, (Option.some Jvm.ClassFile.FieldType.boolean))) (ck_lf 144 (yX4_closes, cX4_closes, (Option.none : Option Jvm.ClassFile.FieldType))))) (ck_nd 147 (ck_nd 146 (ck_lf 145 (yX4_compare, cX4_compare, (Option.some Jvm.ClassFile.FieldType.boolean))) (ck_lf 146 (yX4_conker, cX4_conker, (Option.some Jvm.ClassFile.FieldType.int)))) (ck_nd 148 (ck_lf 147 (yX4_count, cX4_count, (Option.some Jvm.ClassFile.FieldType.int))) (ck_lf 148 (yX4_cups, cX4_cups, (Option.some Jvm.ClassFile.FieldType.int)))))) (ck_nd 153 (ck_nd 151 (ck_nd 150 (ck_lf 149 (yX4_draw, cX4_draw, (Option.some Jvm.ClassFile.FieldType.int))) (ck_lf 150 (yX4_end, cX4_end, (Option.some Jvm.ClassFile.FieldType.int)))) (ck_nd 152 (ck_lf 151 (yX4_fact, cX4_fact, (Option.some Jvm.ClassFile.FieldType.boolean))) (ck_lf 152 (yX4_fails, cX4_fails, (Option.some Jvm.ClassFile.FieldType.boolean))))) (ck_nd 155 (ck_nd 154 (ck_lf 153 (yX4_falls, cX4_falls, (Option.none : Option Jvm.ClassFile.FieldType))) (ck_lf 154 (yX4_feed, cX4_feed, (Option.some Jvm.ClassFile.FieldType.int)))) (ck_nd 156 (ck_lf 155 (yX4_fillsFits, cX4_fillsFits, (Option.none : Option Jvm.ClassFile.FieldType))) (ck_nd 157 (ck_lf 156 (yX4_fillsRest, cX4_fillsRest, (Option.none : Option Jvm.ClassFile.FieldType))) (ck_lf 157 (yX4_fillsVictims, cX4_fillsVictims, (Option.none : Option Jvm.ClassFile.FieldType))))))))
def ck_my0_t16 : Nat → Option ck_Y := (ck_nd 166 (ck_nd 162 (ck_nd 160 (ck_nd 159 (ck_lf 158 (yX4_findsLadder, cX4_findsLadder, (Option.some Jvm.ClassFile.FieldType.int))) (ck_lf 159 (yX4_force, cX4_force, (Option.some Jvm.ClassFile.FieldType.int)))) (ck_nd 161 (ck_lf 160 (yX4_four, cX4_four, (Option.none : Option Jvm.ClassFile.FieldType))) (ck_lf 161 (yX4_freezes, cX4_freezes, (Option.none : Option Jvm.ClassFile.FieldType))))) (ck_nd 164 (ck_nd 163 (ck_lf 162 (yX4_frost, cX4_frost, (Option.some Jvm.ClassFile.FieldType.int))) (ck_lf 163 (yX4_hardens, cX4_hardens, (Option.none : Option Jvm.ClassFile.FieldType)))) (ck_nd 165 (ck_lf 164 (yX4_hards, cX4_hards, (Option.some Jvm.ClassFile.FieldType.int))) (ck_lf 165 (yX4_has, cX4_has, (Option.some Jvm.ClassFile.FieldType.int)))))) (ck_nd 170 (ck_nd 168 (ck_nd 167 (ck_lf 166 (yX4_hasThen, cX4_hasThen, (Option.some Jvm.ClassFile.FieldType.int))) (ck_lf 167 (yX4_image, cX4_image, (Option.some Jvm.ClassFile.FieldType.int)))) (ck_nd 169 (ck_lf 168 (yX4_in, cX4_in, (Option.some Jvm.ClassFile.FieldType.boolean))) (ck_lf 169 (yX4_init, cX4_init, (Option.none : Option Jvm.ClassFile.FieldType))))) (ck_nd 172 (ck_nd 171 (ck_lf 170 (yX4_isConker, cX4_isConker, (Option.some Jvm.ClassFile.FieldType.boolean))) (ck_lf 171 (yX4_isConkerHere, cX4_isConkerHere, (Option.some Jvm.ClassFile.FieldType.boolean)))) (ck_nd 173 (ck_lf 172 (yX4_isCrackedHere, cX4_isCrackedHere, (Option.some Jvm.ClassFile.FieldType.boolean))) (ck_nd 174 (ck_lf 173 (yX4_isDigit, cX4_isDigit, (Option.some Jvm.ClassFile.FieldType.boolean))) (ck_lf 174 (yX4_isHitHere, cX4_isHitHere, (Option.some Jvm.ClassFile.FieldType.boolean))))))))
def ck_my0_t17 : Nat → Option ck_Y := (ck_nd 158 ck_my0_t15 ck_my0_t16)
def ck_my0_t18 : Nat → Option ck_Y := (ck_nd 183 (ck_nd 179 (ck_nd 177 (ck_nd 176 (ck_lf 175 (yX4_isInside, cX4_isInside, (Option.some Jvm.ClassFile.FieldType.boolean))) (ck_lf 176 (yX4_isLetter, cX4_isLetter, (Option.some Jvm.ClassFile.FieldType.boolean)))) (ck_nd 178 (ck_lf 177 (yX4_isOf, cX4_isOf, (Option.some Jvm.ClassFile.FieldType.boolean))) (ck_lf 178 (yX4_isRest, cX4_isRest, (Option.some Jvm.ClassFile.FieldType.boolean))))) (ck_nd 181 (ck_nd 180 (ck_lf 179 (yX4_isRule, cX4_isRule, (Option.some Jvm.ClassFile.FieldType.boolean))) (ck_lf 180 (yX4_isWhole, cX4_isWhole, (Option.some Jvm.ClassFile.FieldType.boolean)))) (ck_nd 182 (ck_lf 181 (yX4_isWord, cX4_isWord, (Option.some Jvm.ClassFile.FieldType.boolean))) (ck_lf 182 (yX4_isYard, cX4_isYard, (Option.some Jvm.ClassFile.FieldType.boolean)))))) (ck_nd 187 (ck_nd 185 (ck_nd 184 (ck_lf 183 (yX4_isYardHere, cX4_isYardHere, (Option.some Jvm.ClassFile.FieldType.boolean))) (ck_lf 184 (yX4_isYardWord, cX4_isYardWord, (Option.some Jvm.ClassFile.FieldType.boolean)))) (ck_nd 186 (ck_lf 185 (yX4_keeps, cX4_keeps, (Option.none : Option Jvm.ClassFile.FieldType))) (ck_lf 186 (yX4_keepsAct, cX4_keepsAct, (Option.none : Option Jvm.ClassFile.FieldType))))) (ck_nd 189 (ck_nd 188 (ck_lf 187 (yX4_kings, cX4_kings, (Option.some Jvm.ClassFile.FieldType.int))) (ck_lf 188 (yX4_ladder, cX4_ladder, (Option.some Jvm.ClassFile.FieldType.int)))) (ck_nd 190 (ck_lf 189 (yX4_last, cX4_last, (Option.some Jvm.ClassFile.FieldType.int))) (ck_nd 191 (ck_lf 190 (yX4_lastBy, cX4_lastBy, (Option.some Jvm.ClassFile.FieldType.int))) (ck_lf 191 (yX4_layDown, cX4_layDown, (Option.none : Option Jvm.ClassFile.FieldType))))))))
def ck_my0_t19 : Nat → Option ck_Y := (ck_nd 201 (ck_nd 196 (ck_nd 194 (ck_nd 193 (ck_lf 192 (yX4_laysBack, cX4_laysBack, (Option.none : Option Jvm.ClassFile.FieldType))) (ck_lf 193 (yX4_look, cX4_look, (Option.some Jvm.ClassFile.FieldType.int)))) (ck_nd 195 (ck_lf 194 (yX4_makes, cX4_makes, (Option.some Jvm.ClassFile.FieldType.boolean))) (ck_lf 195 (yX4_mend, cX4_mend, (Option.some Jvm.ClassFile.FieldType.int))))) (ck_nd 198 (ck_nd 197 (ck_lf 196 (yX4_nextWhole, cX4_nextWhole, (Option.some Jvm.ClassFile.FieldType.int))) (ck_lf 197 (yX4_note, cX4_note, (Option.some Jvm.ClassFile.FieldType.int)))) (ck_nd 199 (ck_lf 198 (yX4_numberHere, cX4_numberHere, (Option.some Jvm.ClassFile.FieldType.boolean))) (ck_nd 200 (ck_lf 199 (yX4_one, cX4_one, (Option.some Jvm.ClassFile.FieldType.long))) (ck_lf 200 (yX4_opens, cX4_opens, (Option.some Jvm.ClassFile.FieldType.boolean))))))) (ck_nd 205 (ck_nd 203 (ck_nd 202 (ck_lf 201 (yX4_own, cX4_own, (Option.some Jvm.ClassFile.FieldType.int))) (ck_lf 202 (yX4_passWord, cX4_passWord, (Option.none : Option Jvm.ClassFile.FieldType)))) (ck_nd 204 (ck_lf 203 (yX4_passes, cX4_passes, (Option.some Jvm.ClassFile.FieldType.int))) (ck_lf 204 (yX4_passesAll, cX4_passesAll, (Option.none : Option Jvm.ClassFile.FieldType))))) (ck_nd 207 (ck_nd 206 (ck_lf 205 (yX4_pence, cX4_pence, (Option.some Jvm.ClassFile.FieldType.int))) (ck_lf 206 (yX4_pickle, cX4_pickle, (Option.some Jvm.ClassFile.FieldType.int)))) (ck_nd 208 (ck_lf 207 (yX4_plays, cX4_plays, (Option.none : Option Jvm.ClassFile.FieldType))) (ck_nd 209 (ck_lf 208 (yX4_pop, cX4_pop, (Option.some Jvm.ClassFile.FieldType.long))) (ck_lf 209 (yX4_push, cX4_push, (Option.none : Option Jvm.ClassFile.FieldType))))))))
def ck_my0_t20 : Nat → Option ck_Y := (ck_nd 192 ck_my0_t18 ck_my0_t19)
def ck_my0_t21 : Nat → Option ck_Y := (ck_nd 175 ck_my0_t17 ck_my0_t20)
def ck_my0_t22 : Nat → Option ck_Y := (ck_nd 218 (ck_nd 214 (ck_nd 212 (ck_nd 211 (ck_lf 210 (yX4_puts, cX4_puts, (Option.none : Option Jvm.ClassFile.FieldType))) (ck_lf 211 (yX4_reach, cX4_reach, (Option.some Jvm.ClassFile.FieldType.int)))) (ck_nd 213 (ck_lf 212 (yX4_readsAll, cX4_readsAll, (Option.some Jvm.ClassFile.FieldType.boolean))) (ck_lf 213 (yX4_reckons, cX4_reckons, (Option.some Jvm.ClassFile.FieldType.long))))) (ck_nd 216 (ck_nd 215 (ck_lf 214 (yX4_rests, cX4_rests, (Option.some Jvm.ClassFile.FieldType.int))) (ck_lf 215 (yX4_rings, cX4_rings, (Option.some Jvm.ClassFile.FieldType.int)))) (ck_nd 217 (ck_lf 216 (yX4_round, cX4_round, (Option.some Jvm.ClassFile.FieldType.int))) (ck_lf 217 (yX4_rule, cX4_rule, (Option.some Jvm.ClassFile.FieldType.int)))))) (ck_nd 222 (ck_nd 220 (ck_nd 219 (ck_lf 218 (yX4_ruled, cX4_ruled, (Option.some Jvm.ClassFile.FieldType.int))) (ck_lf 219 (yX4_see, cX4_see, (Option.some Jvm.ClassFile.FieldType.int)))) (ck_nd 221 (ck_lf 220 (yX4_seed, cX4_seed, (Option.some Jvm.ClassFile.FieldType.int))) (ck_lf 221 (yX4_sets, cX4_sets, (Option.none : Option Jvm.ClassFile.FieldType))))) (ck_nd 224 (ck_nd 223 (ck_lf 222 (yX4_smashed, cX4_smashed, (Option.some Jvm.ClassFile.FieldType.int))) (ck_lf 223 (yX4_smashedOf, cX4_smashedOf, (Option.some Jvm.ClassFile.FieldType.int)))) (ck_nd 225 (ck_lf 224 (yX4_strength, cX4_strength, (Option.some Jvm.ClassFile.FieldType.int))) (ck_nd 226 (ck_lf 225 (yX4_strikes, cX4_strikes, (Option.some Jvm.ClassFile.FieldType.int))) (ck_lf 226 (yX4_string, cX4_string, (Option.some Jvm.ClassFile.FieldType.int))))))))
def ck_my0_t23 : Nat → Option ck_Y := (ck_nd 235 (ck_nd 231 (ck_nd 229 (ck_nd 228 (ck_lf 227 (yX4_sum, cX4_sum, (Option.some Jvm.ClassFile.FieldType.boolean))) (ck_lf 228 (yX4_sumOf, cX4_sumOf, (Option.some Jvm.ClassFile.FieldType.long)))) (ck_nd 230 (ck_lf 229 (yX4_sumOver, cX4_sumOver, (Option.some Jvm.ClassFile.FieldType.int))) (ck_lf 230 (yX4_summedBy, cX4_summedBy, (Option.some Jvm.ClassFile.FieldType.long))))) (ck_nd 233 (ck_nd 232 (ck_lf 231 (yX4_swings, cX4_swings, (Option.some Jvm.ClassFile.FieldType.int))) (ck_lf 232 (yX4_takesWord, cX4_takesWord, (Option.some Jvm.ClassFile.FieldType.boolean)))) (ck_nd 234 (ck_lf 233 (yX4_term, cX4_term, (Option.some Jvm.ClassFile.FieldType.boolean))) (ck_lf 234 (yX4_tested, cX4_tested, (Option.some Jvm.ClassFile.FieldType.boolean)))))) (ck_nd 239 (ck_nd 237 (ck_nd 236 (ck_lf 235 (yX4_underOf, cX4_underOf, (Option.some Jvm.ClassFile.FieldType.int))) (ck_lf 236 (yX4_undo, cX4_undo, (Option.some Jvm.ClassFile.FieldType.int)))) (ck_nd 238 (ck_lf 237 (yX4_value, cX4_value, (Option.some Jvm.ClassFile.FieldType.boolean))) (ck_lf 238 (yX4_waysOf, cX4_waysOf, (Option.some Jvm.ClassFile.FieldType.int))))) (ck_nd 241 (ck_nd 240 (ck_lf 239 (yX4_wholeIn, cX4_wholeIn, (Option.some Jvm.ClassFile.FieldType.int))) (ck_lf 240 (yX4_wholeOnes, cX4_wholeOnes, (Option.some Jvm.ClassFile.FieldType.int)))) (ck_nd 242 (ck_lf 241 (yX4_winnerOf, cX4_winnerOf, (Option.some Jvm.ClassFile.FieldType.int))) (ck_nd 243 (ck_lf 242 (yX4_wordHere, cX4_wordHere, (Option.some Jvm.ClassFile.FieldType.int))) (ck_lf 243 (yX4_would, cX4_would, (Option.some Jvm.ClassFile.FieldType.int))))))))
def ck_my0_t24 : Nat → Option ck_Y := (ck_nd 227 ck_my0_t22 ck_my0_t23)
def ck_my0_t25 : Nat → Option ck_Y := (ck_nd 252 (ck_nd 248 (ck_nd 246 (ck_nd 245 (ck_lf 244 (yX4_yard, cX4_yard, (Option.some Jvm.ClassFile.FieldType.int))) (ck_lf 245 (yX4_yardLineHere, cX4_yardLineHere, (Option.some Jvm.ClassFile.FieldType.boolean)))) (ck_nd 247 (ck_lf 246 (yX5_begins, cX5_begins, (Option.some Jvm.ClassFile.FieldType.boolean))) (ck_lf 247 (yX5_clause, cX5_clause, (Option.none : Option Jvm.ClassFile.FieldType))))) (ck_nd 250 (ck_nd 249 (ck_lf 248 (yX5_clause_2, cX5_clause_2, (Option.none : Option Jvm.ClassFile.FieldType))) (ck_lf 249 (yX5_conkerPart, cX5_conkerPart, (Option.none : Option Jvm.ClassFile.FieldType)))) (ck_nd 251 (ck_lf 250 (yX5_counts, cX5_counts, (Option.none : Option Jvm.ClassFile.FieldType))) (ck_lf 251 (yX5_fact, cX5_fact, (Option.some (Jvm.ClassFile.FieldType.object "ConkerYard$Condition"))))))) (ck_nd 256 (ck_nd 254 (ck_nd 253 (ck_lf 252 (yX5_goesDeeper, cX5_goesDeeper, (Option.none : Option Jvm.ClassFile.FieldType))) (ck_lf 253 (yX5_init, cX5_init, (Option.none : Option Jvm.ClassFile.FieldType)))) (ck_nd 255 (ck_lf 254 (yX5_isDigit, cX5_isDigit, (Option.some Jvm.ClassFile.FieldType.boolean))) (ck_lf 255 (yX5_isMore, cX5_isMore, (Option.some Jvm.ClassFile.FieldType.boolean))))) (ck_nd 258 (ck_nd 257 (ck_lf 256 (yX5_isWord, cX5_isWord, (Option.some Jvm.ClassFile.FieldType.boolean))) (ck_lf 257 (yX5_next, cX5_next, (Option.some Jvm.ClassFile.FieldType.int)))) (ck_nd 259 (ck_lf 258 (yX5_number, cX5_number, (Option.some Jvm.ClassFile.FieldType.int))) (ck_nd 260 (ck_lf 259 (yX5_part, cX5_part, (Option.some (Jvm.ClassFile.FieldType.object "ConkerYard$Condition")))) (ck_lf 260 (yX5_sign, cX5_sign, (Option.some Jvm.ClassFile.FieldType.int))))))))
def ck_my0_t26 : Nat → Option ck_Y := (ck_nd 270 (ck_nd 265 (ck_nd 263 (ck_nd 262 (ck_lf 261 (yX5_sum, cX5_sum, (Option.some (Jvm.ClassFile.FieldType.object "ConkerYard$Value")))) (ck_lf 262 (yX5_takes, cX5_takes, (Option.some Jvm.ClassFile.FieldType.boolean)))) (ck_nd 264 (ck_lf 263 (yX5_term, cX5_term, (Option.some (Jvm.ClassFile.FieldType.object "ConkerYard$Value")))) (ck_lf 264 (yX5_test, cX5_test, (Option.some (Jvm.ClassFile.FieldType.object "ConkerYard$Condition")))))) (ck_nd 267 (ck_nd 266 (ck_lf 265 (yX5_value, cX5_value, (Option.some (Jvm.ClassFile.FieldType.object "ConkerYard$Value")))) (ck_lf 266 (yX5_wholeRule, cX5_wholeRule, (Option.some Jvm.ClassFile.FieldType.int)))) (ck_nd 268 (ck_lf 267 (yX5_wholeYard, cX5_wholeYard, (Option.some (Jvm.ClassFile.FieldType.object "ConkerYard$Yard")))) (ck_nd 269 (ck_lf 268 (yX6_init, cX6_init, (Option.none : Option Jvm.ClassFile.FieldType))) (ck_lf 269 (yX7_init, cX7_init, (Option.none : Option Jvm.ClassFile.FieldType))))))) (ck_nd 409 (ck_nd 272 (ck_nd 271 (ck_lf 270 (yX7_wants, cX7_wants, (Option.some Jvm.ClassFile.FieldType.long))) (ck_lf 271 (yX8_init, cX8_init, (Option.none : Option Jvm.ClassFile.FieldType)))) (ck_nd 408 (ck_lf 272 (yX9_init, cX9_init, (Option.none : Option Jvm.ClassFile.FieldType))) (ck_lf 408 (yX9_of, cX9_of, (Option.some Jvm.ClassFile.FieldType.long))))) (ck_nd 432 (ck_nd 410 (ck_lf 409 (yX10_of, cX10_of, (Option.some Jvm.ClassFile.FieldType.long))) (ck_lf 410 (yX11_of, cX11_of, (Option.some Jvm.ClassFile.FieldType.long)))) (ck_nd 433 (ck_lf 432 (yX14_is, cX14_is, (Option.some Jvm.ClassFile.FieldType.boolean))) (ck_nd 434 (ck_lf 433 (yX15_is, cX15_is, (Option.some Jvm.ClassFile.FieldType.boolean))) (ck_lf 434 (yX16_is, cX16_is, (Option.some Jvm.ClassFile.FieldType.boolean))))))))
def ck_my0_t27 : Nat → Option ck_Y := (ck_nd 261 ck_my0_t25 ck_my0_t26)
def ck_my0_t28 : Nat → Option ck_Y := (ck_nd 244 ck_my0_t24 ck_my0_t27)
def ck_my0_t29 : Nat → Option ck_Y := (ck_nd 210 ck_my0_t21 ck_my0_t28)
def ck_my0_t30 : Nat → Option ck_Y := (ck_nd 141 ck_my0_t14 ck_my0_t29)
def ck_my0 : Nat → Option ck_Y := ck_my0_t30
def ck_my (y : Nat) : ck_Y := (ck_my0 y).getD (⟨"", "", ""⟩, ByteArray.empty, none)
theorem my_J0_init : ck_my 0 = (yJ0_init, cJ0_init, (Option.none : Option Jvm.ClassFile.FieldType)) := rfl
theorem np_J0_init : ck_np yJ0_init 0 := by unfold ck_np; decide +kernel
theorem nh_J0_init : ck_nMH yJ0_init := ⟨by decide +kernel, by decide +kernel⟩
theorem my_J10_hugeLength : ck_my 1 = (yJ10_hugeLength, cJ10_hugeLength, (Option.some Jvm.ClassFile.FieldType.int)) := rfl
theorem np_J10_hugeLength : ck_np yJ10_hugeLength 2 := by unfold ck_np; decide +kernel
theorem nh_J10_hugeLength : ck_nMH yJ10_hugeLength := ⟨by decide +kernel, by decide +kernel⟩
theorem my_J10_newLength : ck_my 2 = (yJ10_newLength, cJ10_newLength, (Option.some Jvm.ClassFile.FieldType.int)) := rfl
theorem np_J10_newLength : ck_np yJ10_newLength 3 := by unfold ck_np; decide +kernel
theorem nh_J10_newLength : ck_nMH yJ10_newLength := ⟨by decide +kernel, by decide +kernel⟩
theorem my_J12_copyOf : ck_my 5 = (yJ12_copyOf, cJ12_copyOf, (Option.some (Jvm.ClassFile.FieldType.array (Jvm.ClassFile.FieldType.object "java/lang/Object")))) := rfl
theorem np_J12_copyOf : ck_np yJ12_copyOf 2 := by unfold ck_np; decide +kernel
theorem nh_J12_copyOf : ck_nMH yJ12_copyOf := ⟨by decide +kernel, by decide +kernel⟩
theorem my_J12_copyOf_2 : ck_my 6 = (yJ12_copyOf_2, cJ12_copyOf_2, (Option.some (Jvm.ClassFile.FieldType.array (Jvm.ClassFile.FieldType.object "java/lang/Object")))) := rfl
theorem np_J12_copyOf_2 : ck_np yJ12_copyOf_2 3 := by unfold ck_np; decide +kernel
theorem nh_J12_copyOf_2 : ck_nMH yJ12_copyOf_2 := ⟨by decide +kernel, by decide +kernel⟩
theorem my_J13_checkIndex : ck_my 7 = (yJ13_checkIndex, cJ13_checkIndex, (Option.some Jvm.ClassFile.FieldType.int)) := rfl
theorem np_J13_checkIndex : ck_np yJ13_checkIndex 2 := by unfold ck_np; decide +kernel
theorem nh_J13_checkIndex : ck_nMH yJ13_checkIndex := ⟨by decide +kernel, by decide +kernel⟩
theorem my_J14_bitCount : ck_my 8 = (yJ14_bitCount, cJ14_bitCount, (Option.some Jvm.ClassFile.FieldType.int)) := rfl
theorem np_J14_bitCount : ck_np yJ14_bitCount 1 := by unfold ck_np; decide +kernel
theorem nh_J14_bitCount : ck_nMH yJ14_bitCount := ⟨by decide +kernel, by decide +kernel⟩
theorem my_J14_numberOfTrailingZeros : ck_my 9 = (yJ14_numberOfTrailingZeros, cJ14_numberOfTrailingZeros, (Option.some Jvm.ClassFile.FieldType.int)) := rfl
theorem np_J14_numberOfTrailingZeros : ck_np yJ14_numberOfTrailingZeros 1 := by unfold ck_np; decide +kernel
theorem nh_J14_numberOfTrailingZeros : ck_nMH yJ14_numberOfTrailingZeros := ⟨by decide +kernel, by decide +kernel⟩
theorem my_J1_init : ck_my 11 = (yJ1_init, cJ1_init, (Option.none : Option Jvm.ClassFile.FieldType)) := rfl
theorem np_J1_init : ck_np yJ1_init 0 := by unfold ck_np; decide +kernel
theorem nh_J1_init : ck_nMH yJ1_init := ⟨by decide +kernel, by decide +kernel⟩
theorem my_J2_add : ck_my 12 = (yJ2_add, cJ2_add, (Option.some Jvm.ClassFile.FieldType.boolean)) := rfl
theorem np_J2_add : ck_np yJ2_add 1 := by unfold ck_np; decide +kernel
theorem nh_J2_add : ck_nMH yJ2_add := ⟨by decide +kernel, by decide +kernel⟩
theorem my_J2_add_2 : ck_my 13 = (yJ2_add_2, cJ2_add_2, (Option.none : Option Jvm.ClassFile.FieldType)) := rfl
theorem np_J2_add_2 : ck_np yJ2_add_2 3 := by unfold ck_np; decide +kernel
theorem nh_J2_add_2 : ck_nMH yJ2_add_2 := ⟨by decide +kernel, by decide +kernel⟩
theorem my_J2_elementData : ck_my 14 = (yJ2_elementData, cJ2_elementData, (Option.some (Jvm.ClassFile.FieldType.object "java/lang/Object"))) := rfl
theorem np_J2_elementData : ck_np yJ2_elementData 1 := by unfold ck_np; decide +kernel
theorem nh_J2_elementData : ck_nMH yJ2_elementData := ⟨by decide +kernel, by decide +kernel⟩
theorem my_J2_get : ck_my 15 = (yJ2_get, cJ2_get, (Option.some (Jvm.ClassFile.FieldType.object "java/lang/Object"))) := rfl
theorem np_J2_get : ck_np yJ2_get 1 := by unfold ck_np; decide +kernel
theorem nh_J2_get : ck_nMH yJ2_get := ⟨by decide +kernel, by decide +kernel⟩
theorem my_J2_grow : ck_my 16 = (yJ2_grow, cJ2_grow, (Option.some (Jvm.ClassFile.FieldType.array (Jvm.ClassFile.FieldType.object "java/lang/Object")))) := rfl
theorem np_J2_grow : ck_np yJ2_grow 0 := by unfold ck_np; decide +kernel
theorem nh_J2_grow : ck_nMH yJ2_grow := ⟨by decide +kernel, by decide +kernel⟩
theorem my_J2_grow_2 : ck_my 17 = (yJ2_grow_2, cJ2_grow_2, (Option.some (Jvm.ClassFile.FieldType.array (Jvm.ClassFile.FieldType.object "java/lang/Object")))) := rfl
theorem np_J2_grow_2 : ck_np yJ2_grow_2 1 := by unfold ck_np; decide +kernel
theorem nh_J2_grow_2 : ck_nMH yJ2_grow_2 := ⟨by decide +kernel, by decide +kernel⟩
theorem my_J2_init : ck_my 18 = (yJ2_init, cJ2_init, (Option.none : Option Jvm.ClassFile.FieldType)) := rfl
theorem np_J2_init : ck_np yJ2_init 1 := by unfold ck_np; decide +kernel
theorem nh_J2_init : ck_nMH yJ2_init := ⟨by decide +kernel, by decide +kernel⟩
theorem my_J2_size : ck_my 19 = (yJ2_size, cJ2_size, (Option.some Jvm.ClassFile.FieldType.int)) := rfl
theorem np_J2_size : ck_np yJ2_size 0 := by unfold ck_np; decide +kernel
theorem nh_J2_size : ck_nMH yJ2_size := ⟨by decide +kernel, by decide +kernel⟩
theorem my_J3_init : ck_my 20 = (yJ3_init, cJ3_init, (Option.none : Option Jvm.ClassFile.FieldType)) := rfl
theorem np_J3_init : ck_np yJ3_init 0 := by unfold ck_np; decide +kernel
theorem nh_J3_init : ck_nMH yJ3_init := ⟨by decide +kernel, by decide +kernel⟩
theorem my_J4_init : ck_my 21 = (yJ4_init, cJ4_init, (Option.none : Option Jvm.ClassFile.FieldType)) := rfl
theorem np_J4_init : ck_np yJ4_init 0 := by unfold ck_np; decide +kernel
theorem nh_J4_init : ck_nMH yJ4_init := ⟨by decide +kernel, by decide +kernel⟩
theorem my_J5_charAt : ck_my 22 = (yJ5_charAt, cJ5_charAt, (Option.some Jvm.ClassFile.FieldType.char)) := rfl
theorem np_J5_charAt : ck_np yJ5_charAt 1 := by unfold ck_np; decide +kernel
theorem nh_J5_charAt : ck_nMH yJ5_charAt := ⟨by decide +kernel, by decide +kernel⟩
theorem my_J5_checkIndex : ck_my 23 = (yJ5_checkIndex, cJ5_checkIndex, (Option.none : Option Jvm.ClassFile.FieldType)) := rfl
theorem np_J5_checkIndex : ck_np yJ5_checkIndex 2 := by unfold ck_np; decide +kernel
theorem nh_J5_checkIndex : ck_nMH yJ5_checkIndex := ⟨by decide +kernel, by decide +kernel⟩
theorem my_J5_coder : ck_my 24 = (yJ5_coder, cJ5_coder, (Option.some Jvm.ClassFile.FieldType.byte)) := rfl
theorem np_J5_coder : ck_np yJ5_coder 0 := by unfold ck_np; decide +kernel
theorem nh_J5_coder : ck_nMH yJ5_coder := ⟨by decide +kernel, by decide +kernel⟩
theorem my_J5_isLatin1 : ck_my 25 = (yJ5_isLatin1, cJ5_isLatin1, (Option.some Jvm.ClassFile.FieldType.boolean)) := rfl
theorem np_J5_isLatin1 : ck_np yJ5_isLatin1 0 := by unfold ck_np; decide +kernel
theorem nh_J5_isLatin1 : ck_nMH yJ5_isLatin1 := ⟨by decide +kernel, by decide +kernel⟩
theorem my_J5_length : ck_my 26 = (yJ5_length, cJ5_length, (Option.some Jvm.ClassFile.FieldType.int)) := rfl
theorem np_J5_length : ck_np yJ5_length 0 := by unfold ck_np; decide +kernel
theorem nh_J5_length : ck_nMH yJ5_length := ⟨by decide +kernel, by decide +kernel⟩
theorem my_J6_charAt : ck_my 27 = (yJ6_charAt, cJ6_charAt, (Option.some Jvm.ClassFile.FieldType.char)) := rfl
theorem np_J6_charAt : ck_np yJ6_charAt 2 := by unfold ck_np; decide +kernel
theorem nh_J6_charAt : ck_nMH yJ6_charAt := ⟨by decide +kernel, by decide +kernel⟩
theorem my_J7_checkIndex : ck_my 28 = (yJ7_checkIndex, cJ7_checkIndex, (Option.some Jvm.ClassFile.FieldType.int)) := rfl
theorem np_J7_checkIndex : ck_np yJ7_checkIndex 3 := by unfold ck_np; decide +kernel
theorem nh_J7_checkIndex : ck_nMH yJ7_checkIndex := ⟨by decide +kernel, by decide +kernel⟩
theorem my_J8_charAt : ck_my 29 = (yJ8_charAt, cJ8_charAt, (Option.some Jvm.ClassFile.FieldType.char)) := rfl
theorem np_J8_charAt : ck_np yJ8_charAt 2 := by unfold ck_np; decide +kernel
theorem nh_J8_charAt : ck_nMH yJ8_charAt := ⟨by decide +kernel, by decide +kernel⟩
theorem my_J8_checkIndex : ck_my 30 = (yJ8_checkIndex, cJ8_checkIndex, (Option.none : Option Jvm.ClassFile.FieldType)) := rfl
theorem np_J8_checkIndex : ck_np yJ8_checkIndex 2 := by unfold ck_np; decide +kernel
theorem nh_J8_checkIndex : ck_nMH yJ8_checkIndex := ⟨by decide +kernel, by decide +kernel⟩
theorem my_J8_getChar : ck_my 31 = (yJ8_getChar, cJ8_getChar, (Option.some Jvm.ClassFile.FieldType.char)) := rfl
theorem np_J8_getChar : ck_np yJ8_getChar 2 := by unfold ck_np; decide +kernel
theorem nh_J8_getChar : ck_nMH yJ8_getChar := ⟨by decide +kernel, by decide +kernel⟩
theorem my_J8_length : ck_my 32 = (yJ8_length, cJ8_length, (Option.some Jvm.ClassFile.FieldType.int)) := rfl
theorem np_J8_length : ck_np yJ8_length 1 := by unfold ck_np; decide +kernel
theorem nh_J8_length : ck_nMH yJ8_length := ⟨by decide +kernel, by decide +kernel⟩
theorem my_J9_init : ck_my 33 = (yJ9_init, cJ9_init, (Option.none : Option Jvm.ClassFile.FieldType)) := rfl
theorem np_J9_init : ck_np yJ9_init 0 := by unfold ck_np; decide +kernel
theorem nh_J9_init : ck_nMH yJ9_init := ⟨by decide +kernel, by decide +kernel⟩
theorem my_X0_ahead : ck_my 35 = (yX0_ahead, cX0_ahead, (Option.some Jvm.ClassFile.FieldType.int)) := rfl
theorem np_X0_ahead : ck_np yX0_ahead 3 := by unfold ck_np; decide +kernel
theorem nh_X0_ahead : ck_nMH yX0_ahead := ⟨by decide +kernel, by decide +kernel⟩
theorem my_X0_alone : ck_my 36 = (yX0_alone, cX0_alone, (Option.some Jvm.ClassFile.FieldType.int)) := rfl
theorem np_X0_alone : ck_np yX0_alone 0 := by unfold ck_np; decide +kernel
theorem nh_X0_alone : ck_nMH yX0_alone := ⟨by decide +kernel, by decide +kernel⟩
theorem my_X0_back : ck_my 37 = (yX0_back, cX0_back, (Option.some Jvm.ClassFile.FieldType.int)) := rfl
theorem np_X0_back : ck_np yX0_back 1 := by unfold ck_np; decide +kernel
theorem nh_X0_back : ck_nMH yX0_back := ⟨by decide +kernel, by decide +kernel⟩
theorem my_X0_beatenBy : ck_my 38 = (yX0_beatenBy, cX0_beatenBy, (Option.some Jvm.ClassFile.FieldType.int)) := rfl
theorem np_X0_beatenBy : ck_np yX0_beatenBy 1 := by unfold ck_np; decide +kernel
theorem nh_X0_beatenBy : ck_nMH yX0_beatenBy := ⟨by decide +kernel, by decide +kernel⟩
theorem my_X0_beats : ck_my 39 = (yX0_beats, cX0_beats, (Option.some Jvm.ClassFile.FieldType.int)) := rfl
theorem np_X0_beats : ck_np yX0_beats 1 := by unfold ck_np; decide +kernel
theorem nh_X0_beats : ck_nMH yX0_beats := ⟨by decide +kernel, by decide +kernel⟩
theorem my_X0_best : ck_my 40 = (yX0_best, cX0_best, (Option.some Jvm.ClassFile.FieldType.int)) := rfl
theorem np_X0_best : ck_np yX0_best 2 := by unfold ck_np; decide +kernel
theorem nh_X0_best : ck_nMH yX0_best := ⟨by decide +kernel, by decide +kernel⟩
theorem my_X0_bit : ck_my 41 = (yX0_bit, cX0_bit, (Option.some Jvm.ClassFile.FieldType.int)) := rfl
theorem np_X0_bit : ck_np yX0_bit 1 := by unfold ck_np; decide +kernel
theorem nh_X0_bit : ck_nMH yX0_bit := ⟨by decide +kernel, by decide +kernel⟩
theorem my_X0_bout : ck_my 42 = (yX0_bout, cX0_bout, (Option.some Jvm.ClassFile.FieldType.int)) := rfl
theorem np_X0_bout : ck_np yX0_bout 2 := by unfold ck_np; decide +kernel
theorem nh_X0_bout : ck_nMH yX0_bout := ⟨by decide +kernel, by decide +kernel⟩
theorem my_X0_choiceOf : ck_my 43 = (yX0_choiceOf, cX0_choiceOf, (Option.some Jvm.ClassFile.FieldType.int)) := rfl
theorem np_X0_choiceOf : ck_np yX0_choiceOf 1 := by unfold ck_np; decide +kernel
theorem nh_X0_choiceOf : ck_nMH yX0_choiceOf := ⟨by decide +kernel, by decide +kernel⟩
theorem my_X0_conker : ck_my 44 = (yX0_conker, cX0_conker, (Option.some Jvm.ClassFile.FieldType.int)) := rfl
theorem np_X0_conker : ck_np yX0_conker 2 := by unfold ck_np; decide +kernel
theorem nh_X0_conker : ck_nMH yX0_conker := ⟨by decide +kernel, by decide +kernel⟩
theorem my_X0_couldRule : ck_my 45 = (yX0_couldRule, cX0_couldRule, (Option.some Jvm.ClassFile.FieldType.boolean)) := rfl
theorem np_X0_couldRule : ck_np yX0_couldRule 1 := by unfold ck_np; decide +kernel
theorem nh_X0_couldRule : ck_nMH yX0_couldRule := ⟨by decide +kernel, by decide +kernel⟩
theorem my_X0_count : ck_my 46 = (yX0_count, cX0_count, (Option.some Jvm.ClassFile.FieldType.int)) := rfl
theorem np_X0_count : ck_np yX0_count 1 := by unfold ck_np; decide +kernel
theorem nh_X0_count : ck_nMH yX0_count := ⟨by decide +kernel, by decide +kernel⟩
theorem my_X0_cups : ck_my 47 = (yX0_cups, cX0_cups, (Option.some Jvm.ClassFile.FieldType.int)) := rfl
theorem np_X0_cups : ck_np yX0_cups 1 := by unfold ck_np; decide +kernel
theorem nh_X0_cups : ck_nMH yX0_cups := ⟨by decide +kernel, by decide +kernel⟩
theorem my_X0_cupsFrom : ck_my 48 = (yX0_cupsFrom, cX0_cupsFrom, (Option.none : Option Jvm.ClassFile.FieldType)) := rfl
theorem np_X0_cupsFrom : ck_np yX0_cupsFrom 2 := by unfold ck_np; decide +kernel
theorem nh_X0_cupsFrom : ck_nMH yX0_cupsFrom := ⟨by decide +kernel, by decide +kernel⟩
theorem my_X0_doNotesFit : ck_my 49 = (yX0_doNotesFit, cX0_doNotesFit, (Option.some Jvm.ClassFile.FieldType.boolean)) := rfl
theorem np_X0_doNotesFit : ck_np yX0_doNotesFit 0 := by unfold ck_np; decide +kernel
theorem nh_X0_doNotesFit : ck_nMH yX0_doNotesFit := ⟨by decide +kernel, by decide +kernel⟩
theorem my_X0_draws : ck_my 50 = (yX0_draws, cX0_draws, (Option.some Jvm.ClassFile.FieldType.int)) := rfl
theorem np_X0_draws : ck_np yX0_draws 1 := by unfold ck_np; decide +kernel
theorem nh_X0_draws : ck_nMH yX0_draws := ⟨by decide +kernel, by decide +kernel⟩
theorem my_X0_end : ck_my 51 = (yX0_end, cX0_end, (Option.some Jvm.ClassFile.FieldType.int)) := rfl
theorem np_X0_end : ck_np yX0_end 1 := by unfold ck_np; decide +kernel
theorem nh_X0_end : ck_nMH yX0_end := ⟨by decide +kernel, by decide +kernel⟩
theorem my_X0_fails : ck_my 52 = (yX0_fails, cX0_fails, (Option.some (Jvm.ClassFile.FieldType.object "ConkerYard$Wrong"))) := rfl
theorem np_X0_fails : ck_np yX0_fails 2 := by unfold ck_np; decide +kernel
theorem nh_X0_fails : ck_nMH yX0_fails := ⟨by decide +kernel, by decide +kernel⟩
theorem my_X0_feed : ck_my 53 = (yX0_feed, cX0_feed, (Option.some Jvm.ClassFile.FieldType.int)) := rfl
theorem np_X0_feed : ck_np yX0_feed 5 := by unfold ck_np; decide +kernel
theorem nh_X0_feed : ck_nMH yX0_feed := ⟨by decide +kernel, by decide +kernel⟩
theorem my_X0_force : ck_my 54 = (yX0_force, cX0_force, (Option.some Jvm.ClassFile.FieldType.int)) := rfl
theorem np_X0_force : ck_np yX0_force 1 := by unfold ck_np; decide +kernel
theorem nh_X0_force : ck_nMH yX0_force := ⟨by decide +kernel, by decide +kernel⟩
theorem my_X0_freezes : ck_my 55 = (yX0_freezes, cX0_freezes, (Option.none : Option Jvm.ClassFile.FieldType)) := rfl
theorem np_X0_freezes : ck_np yX0_freezes 1 := by unfold ck_np; decide +kernel
theorem nh_X0_freezes : ck_nMH yX0_freezes := ⟨by decide +kernel, by decide +kernel⟩
theorem my_X0_frost : ck_my 56 = (yX0_frost, cX0_frost, (Option.some Jvm.ClassFile.FieldType.int)) := rfl
theorem np_X0_frost : ck_np yX0_frost 4 := by unfold ck_np; decide +kernel
theorem nh_X0_frost : ck_nMH yX0_frost := ⟨by decide +kernel, by decide +kernel⟩
theorem my_X0_goesOn : ck_my 57 = (yX0_goesOn, cX0_goesOn, (Option.some Jvm.ClassFile.FieldType.int)) := rfl
theorem np_X0_goesOn : ck_np yX0_goesOn 1 := by unfold ck_np; decide +kernel
theorem nh_X0_goesOn : ck_nMH yX0_goesOn := ⟨by decide +kernel, by decide +kernel⟩
theorem my_X0_goesOnOf : ck_my 58 = (yX0_goesOnOf, cX0_goesOnOf, (Option.some Jvm.ClassFile.FieldType.int)) := rfl
theorem np_X0_goesOnOf : ck_np yX0_goesOnOf 2 := by unfold ck_np; decide +kernel
theorem nh_X0_goesOnOf : ck_nMH yX0_goesOnOf := ⟨by decide +kernel, by decide +kernel⟩
theorem my_X0_goesTill : ck_my 59 = (yX0_goesTill, cX0_goesTill, (Option.none : Option Jvm.ClassFile.FieldType)) := rfl
theorem np_X0_goesTill : ck_np yX0_goesTill 1 := by unfold ck_np; decide +kernel
theorem nh_X0_goesTill : ck_nMH yX0_goesTill := ⟨by decide +kernel, by decide +kernel⟩
theorem my_X0_hards : ck_my 60 = (yX0_hards, cX0_hards, (Option.some Jvm.ClassFile.FieldType.int)) := rfl
theorem np_X0_hards : ck_np yX0_hards 2 := by unfold ck_np; decide +kernel
theorem nh_X0_hards : ck_nMH yX0_hards := ⟨by decide +kernel, by decide +kernel⟩
theorem my_X0_has : ck_my 61 = (yX0_has, cX0_has, (Option.some Jvm.ClassFile.FieldType.boolean)) := rfl
theorem np_X0_has : ck_np yX0_has 2 := by unfold ck_np; decide +kernel
theorem nh_X0_has : ck_nMH yX0_has := ⟨by decide +kernel, by decide +kernel⟩
theorem my_X0_image : ck_my 62 = (yX0_image, cX0_image, (Option.some Jvm.ClassFile.FieldType.int)) := rfl
theorem np_X0_image : ck_np yX0_image 1 := by unfold ck_np; decide +kernel
theorem nh_X0_image : ck_nMH yX0_image := ⟨by decide +kernel, by decide +kernel⟩
theorem my_X0_in : ck_my 63 = (yX0_in, cX0_in, (Option.some Jvm.ClassFile.FieldType.boolean)) := rfl
theorem np_X0_in : ck_np yX0_in 3 := by unfold ck_np; decide +kernel
theorem nh_X0_in : ck_nMH yX0_in := ⟨by decide +kernel, by decide +kernel⟩
theorem my_X0_init : ck_my 64 = (yX0_init, cX0_init, (Option.none : Option Jvm.ClassFile.FieldType)) := rfl
theorem np_X0_init : ck_np yX0_init 0 := by unfold ck_np; decide +kernel
theorem nh_X0_init : ck_nMH yX0_init := ⟨by decide +kernel, by decide +kernel⟩
theorem my_X0_isConker : ck_my 65 = (yX0_isConker, cX0_isConker, (Option.some Jvm.ClassFile.FieldType.boolean)) := rfl
theorem np_X0_isConker : ck_np yX0_isConker 1 := by unfold ck_np; decide +kernel
theorem nh_X0_isConker : ck_nMH yX0_isConker := ⟨by decide +kernel, by decide +kernel⟩
theorem my_X0_isLadder : ck_my 66 = (yX0_isLadder, cX0_isLadder, (Option.none : Option Jvm.ClassFile.FieldType)) := rfl
theorem np_X0_isLadder : ck_np yX0_isLadder 1 := by unfold ck_np; decide +kernel
theorem nh_X0_isLadder : ck_nMH yX0_isLadder := ⟨by decide +kernel, by decide +kernel⟩
theorem my_X0_isRest : ck_my 67 = (yX0_isRest, cX0_isRest, (Option.some Jvm.ClassFile.FieldType.boolean)) := rfl
theorem np_X0_isRest : ck_np yX0_isRest 1 := by unfold ck_np; decide +kernel
theorem nh_X0_isRest : ck_nMH yX0_isRest := ⟨by decide +kernel, by decide +kernel⟩
theorem my_X0_isWhole : ck_my 68 = (yX0_isWhole, cX0_isWhole, (Option.some Jvm.ClassFile.FieldType.boolean)) := rfl
theorem np_X0_isWhole : ck_np yX0_isWhole 1 := by unfold ck_np; decide +kernel
theorem nh_X0_isWhole : ck_nMH yX0_isWhole := ⟨by decide +kernel, by decide +kernel⟩
theorem my_X0_isYard : ck_my 69 = (yX0_isYard, cX0_isYard, (Option.some Jvm.ClassFile.FieldType.boolean)) := rfl
theorem np_X0_isYard : ck_np yX0_isYard 0 := by unfold ck_np; decide +kernel
theorem nh_X0_isYard : ck_nMH yX0_isYard := ⟨by decide +kernel, by decide +kernel⟩
theorem my_X0_keeps : ck_my 70 = (yX0_keeps, cX0_keeps, (Option.none : Option Jvm.ClassFile.FieldType)) := rfl
theorem np_X0_keeps : ck_np yX0_keeps 0 := by unfold ck_np; decide +kernel
theorem nh_X0_keeps : ck_nMH yX0_keeps := ⟨by decide +kernel, by decide +kernel⟩
theorem my_X0_kings : ck_my 71 = (yX0_kings, cX0_kings, (Option.some Jvm.ClassFile.FieldType.int)) := rfl
theorem np_X0_kings : ck_np yX0_kings 0 := by unfold ck_np; decide +kernel
theorem nh_X0_kings : ck_nMH yX0_kings := ⟨by decide +kernel, by decide +kernel⟩
theorem my_X0_ladder : ck_my 72 = (yX0_ladder, cX0_ladder, (Option.some Jvm.ClassFile.FieldType.int)) := rfl
theorem np_X0_ladder : ck_np yX0_ladder 1 := by unfold ck_np; decide +kernel
theorem nh_X0_ladder : ck_nMH yX0_ladder := ⟨by decide +kernel, by decide +kernel⟩
theorem my_X0_ladderFrom : ck_my 73 = (yX0_ladderFrom, cX0_ladderFrom, (Option.none : Option Jvm.ClassFile.FieldType)) := rfl
theorem np_X0_ladderFrom : ck_np yX0_ladderFrom 4 := by unfold ck_np; decide +kernel
theorem nh_X0_ladderFrom : ck_nMH yX0_ladderFrom := ⟨by decide +kernel, by decide +kernel⟩
theorem my_X0_last : ck_my 74 = (yX0_last, cX0_last, (Option.some Jvm.ClassFile.FieldType.int)) := rfl
theorem np_X0_last : ck_np yX0_last 1 := by unfold ck_np; decide +kernel
theorem nh_X0_last : ck_nMH yX0_last := ⟨by decide +kernel, by decide +kernel⟩
theorem my_X0_laysBeaten : ck_my 75 = (yX0_laysBeaten, cX0_laysBeaten, (Option.none : Option Jvm.ClassFile.FieldType)) := rfl
theorem np_X0_laysBeaten : ck_np yX0_laysBeaten 0 := by unfold ck_np; decide +kernel
theorem nh_X0_laysBeaten : ck_nMH yX0_laysBeaten := ⟨by decide +kernel, by decide +kernel⟩
theorem my_X0_laysBouts : ck_my 76 = (yX0_laysBouts, cX0_laysBouts, (Option.none : Option Jvm.ClassFile.FieldType)) := rfl
theorem np_X0_laysBouts : ck_np yX0_laysBouts 1 := by unfold ck_np; decide +kernel
theorem nh_X0_laysBouts : ck_nMH yX0_laysBouts := ⟨by decide +kernel, by decide +kernel⟩
theorem my_X0_laysCups : ck_my 77 = (yX0_laysCups, cX0_laysCups, (Option.none : Option Jvm.ClassFile.FieldType)) := rfl
theorem np_X0_laysCups : ck_np yX0_laysCups 0 := by unfold ck_np; decide +kernel
theorem nh_X0_laysCups : ck_nMH yX0_laysCups := ⟨by decide +kernel, by decide +kernel⟩
theorem my_X0_laysLasts : ck_my 78 = (yX0_laysLasts, cX0_laysLasts, (Option.none : Option Jvm.ClassFile.FieldType)) := rfl
theorem np_X0_laysLasts : ck_np yX0_laysLasts 0 := by unfold ck_np; decide +kernel
theorem nh_X0_laysLasts : ck_nMH yX0_laysLasts := ⟨by decide +kernel, by decide +kernel⟩
theorem my_X0_look : ck_my 79 = (yX0_look, cX0_look, (Option.some Jvm.ClassFile.FieldType.int)) := rfl
theorem np_X0_look : ck_np yX0_look 2 := by unfold ck_np; decide +kernel
theorem nh_X0_look : ck_nMH yX0_look := ⟨by decide +kernel, by decide +kernel⟩
theorem my_X0_mend : ck_my 80 = (yX0_mend, cX0_mend, (Option.some Jvm.ClassFile.FieldType.int)) := rfl
theorem np_X0_mend : ck_np yX0_mend 1 := by unfold ck_np; decide +kernel
theorem nh_X0_mend : ck_nMH yX0_mend := ⟨by decide +kernel, by decide +kernel⟩
theorem my_X0_mostAlike : ck_my 81 = (yX0_mostAlike, cX0_mostAlike, (Option.some Jvm.ClassFile.FieldType.int)) := rfl
theorem np_X0_mostAlike : ck_np yX0_mostAlike 2 := by unfold ck_np; decide +kernel
theorem nh_X0_mostAlike : ck_nMH yX0_mostAlike := ⟨by decide +kernel, by decide +kernel⟩
theorem my_X0_newStates : ck_my 82 = (yX0_newStates, cX0_newStates, (Option.some (Jvm.ClassFile.FieldType.array (Jvm.ClassFile.FieldType.object "ConkerYard$State")))) := rfl
theorem np_X0_newStates : ck_np yX0_newStates 1 := by unfold ck_np; decide +kernel
theorem nh_X0_newStates : ck_nMH yX0_newStates := ⟨by decide +kernel, by decide +kernel⟩
theorem my_X0_note : ck_my 83 = (yX0_note, cX0_note, (Option.some Jvm.ClassFile.FieldType.int)) := rfl
theorem np_X0_note : ck_np yX0_note 3 := by unfold ck_np; decide +kernel
theorem nh_X0_note : ck_nMH yX0_note := ⟨by decide +kernel, by decide +kernel⟩
theorem my_X0_own : ck_my 84 = (yX0_own, cX0_own, (Option.some Jvm.ClassFile.FieldType.int)) := rfl
theorem np_X0_own : ck_np yX0_own 1 := by unfold ck_np; decide +kernel
theorem nh_X0_own : ck_nMH yX0_own := ⟨by decide +kernel, by decide +kernel⟩
theorem my_X0_pence : ck_my 85 = (yX0_pence, cX0_pence, (Option.some Jvm.ClassFile.FieldType.int)) := rfl
theorem np_X0_pence : ck_np yX0_pence 2 := by unfold ck_np; decide +kernel
theorem nh_X0_pence : ck_nMH yX0_pence := ⟨by decide +kernel, by decide +kernel⟩
theorem my_X0_pickle : ck_my 86 = (yX0_pickle, cX0_pickle, (Option.some Jvm.ClassFile.FieldType.int)) := rfl
theorem np_X0_pickle : ck_np yX0_pickle 2 := by unfold ck_np; decide +kernel
theorem nh_X0_pickle : ck_nMH yX0_pickle := ⟨by decide +kernel, by decide +kernel⟩
theorem my_X0_reachedFrom : ck_my 87 = (yX0_reachedFrom, cX0_reachedFrom, (Option.some Jvm.ClassFile.FieldType.int)) := rfl
theorem np_X0_reachedFrom : ck_np yX0_reachedFrom 2 := by unfold ck_np; decide +kernel
theorem nh_X0_reachedFrom : ck_nMH yX0_reachedFrom := ⟨by decide +kernel, by decide +kernel⟩
theorem my_X0_rests : ck_my 88 = (yX0_rests, cX0_rests, (Option.some Jvm.ClassFile.FieldType.int)) := rfl
theorem np_X0_rests : ck_np yX0_rests 4 := by unfold ck_np; decide +kernel
theorem nh_X0_rests : ck_nMH yX0_rests := ⟨by decide +kernel, by decide +kernel⟩
theorem my_X0_rings : ck_my 89 = (yX0_rings, cX0_rings, (Option.some Jvm.ClassFile.FieldType.int)) := rfl
theorem np_X0_rings : ck_np yX0_rings 0 := by unfold ck_np; decide +kernel
theorem nh_X0_rings : ck_nMH yX0_rings := ⟨by decide +kernel, by decide +kernel⟩
theorem my_X0_round : ck_my 90 = (yX0_round, cX0_round, (Option.some Jvm.ClassFile.FieldType.int)) := rfl
theorem np_X0_round : ck_np yX0_round 0 := by unfold ck_np; decide +kernel
theorem nh_X0_round : ck_nMH yX0_round := ⟨by decide +kernel, by decide +kernel⟩
theorem my_X0_rule : ck_my 91 = (yX0_rule, cX0_rule, (Option.some Jvm.ClassFile.FieldType.int)) := rfl
theorem np_X0_rule : ck_np yX0_rule 0 := by unfold ck_np; decide +kernel
theorem nh_X0_rule : ck_nMH yX0_rule := ⟨by decide +kernel, by decide +kernel⟩
theorem my_X0_ruled : ck_my 92 = (yX0_ruled, cX0_ruled, (Option.some Jvm.ClassFile.FieldType.int)) := rfl
theorem np_X0_ruled : ck_np yX0_ruled 1 := by unfold ck_np; decide +kernel
theorem nh_X0_ruled : ck_nMH yX0_ruled := ⟨by decide +kernel, by decide +kernel⟩
theorem my_X0_seed : ck_my 93 = (yX0_seed, cX0_seed, (Option.some Jvm.ClassFile.FieldType.int)) := rfl
theorem np_X0_seed : ck_np yX0_seed 1 := by unfold ck_np; decide +kernel
theorem nh_X0_seed : ck_nMH yX0_seed := ⟨by decide +kernel, by decide +kernel⟩
theorem my_X0_smashed : ck_my 94 = (yX0_smashed, cX0_smashed, (Option.some Jvm.ClassFile.FieldType.int)) := rfl
theorem np_X0_smashed : ck_np yX0_smashed 1 := by unfold ck_np; decide +kernel
theorem nh_X0_smashed : ck_nMH yX0_smashed := ⟨by decide +kernel, by decide +kernel⟩
theorem my_X0_string : ck_my 95 = (yX0_string, cX0_string, (Option.some Jvm.ClassFile.FieldType.int)) := rfl
theorem np_X0_string : ck_np yX0_string 2 := by unfold ck_np; decide +kernel
theorem nh_X0_string : ck_nMH yX0_string := ⟨by decide +kernel, by decide +kernel⟩
theorem my_X0_swings : ck_my 96 = (yX0_swings, cX0_swings, (Option.some Jvm.ClassFile.FieldType.int)) := rfl
theorem np_X0_swings : ck_np yX0_swings 1 := by unfold ck_np; decide +kernel
theorem nh_X0_swings : ck_nMH yX0_swings := ⟨by decide +kernel, by decide +kernel⟩
theorem my_X0_tapes : ck_my 97 = (yX0_tapes, cX0_tapes, (Option.none : Option Jvm.ClassFile.FieldType)) := rfl
theorem np_X0_tapes : ck_np yX0_tapes 1 := by unfold ck_np; decide +kernel
theorem nh_X0_tapes : ck_nMH yX0_tapes := ⟨by decide +kernel, by decide +kernel⟩
theorem my_X0_undo : ck_my 98 = (yX0_undo, cX0_undo, (Option.some Jvm.ClassFile.FieldType.int)) := rfl
theorem np_X0_undo : ck_np yX0_undo 0 := by unfold ck_np; decide +kernel
theorem nh_X0_undo : ck_nMH yX0_undo := ⟨by decide +kernel, by decide +kernel⟩
theorem my_X0_wants : ck_my 99 = (yX0_wants, cX0_wants, (Option.some Jvm.ClassFile.FieldType.long)) := rfl
theorem np_X0_wants : ck_np yX0_wants 3 := by unfold ck_np; decide +kernel
theorem nh_X0_wants : ck_nMH yX0_wants := ⟨by decide +kernel, by decide +kernel⟩
theorem my_X0_worthTo : ck_my 100 = (yX0_worthTo, cX0_worthTo, (Option.some Jvm.ClassFile.FieldType.int)) := rfl
theorem np_X0_worthTo : ck_np yX0_worthTo 1 := by unfold ck_np; decide +kernel
theorem nh_X0_worthTo : ck_nMH yX0_worthTo := ⟨by decide +kernel, by decide +kernel⟩
theorem my_X0_would : ck_my 101 = (yX0_would, cX0_would, (Option.some Jvm.ClassFile.FieldType.int)) := rfl
theorem np_X0_would : ck_np yX0_would 3 := by unfold ck_np; decide +kernel
theorem nh_X0_would : ck_nMH yX0_would := ⟨by decide +kernel, by decide +kernel⟩
theorem my_X0_yard : ck_my 102 = (yX0_yard, cX0_yard, (Option.some Jvm.ClassFile.FieldType.int)) := rfl
theorem np_X0_yard : ck_np yX0_yard 0 := by unfold ck_np; decide +kernel
theorem nh_X0_yard : ck_nMH yX0_yard := ⟨by decide +kernel, by decide +kernel⟩
theorem my_X10_init : ck_my 103 = (yX10_init, cX10_init, (Option.none : Option Jvm.ClassFile.FieldType)) := rfl
theorem np_X10_init : ck_np yX10_init 1 := by unfold ck_np; decide +kernel
theorem nh_X10_init : ck_nMH yX10_init := ⟨by decide +kernel, by decide +kernel⟩
theorem my_X10_of : ck_my 409 = (yX10_of, cX10_of, (Option.some Jvm.ClassFile.FieldType.long)) := rfl
theorem np_X10_of : ck_np yX10_of 1 := by unfold ck_np; decide +kernel
theorem nh_X10_of : ck_nMH yX10_of := ⟨by decide +kernel, by decide +kernel⟩
theorem my_X11_init : ck_my 104 = (yX11_init, cX11_init, (Option.none : Option Jvm.ClassFile.FieldType)) := rfl
theorem np_X11_init : ck_np yX11_init 3 := by unfold ck_np; decide +kernel
theorem nh_X11_init : ck_nMH yX11_init := ⟨by decide +kernel, by decide +kernel⟩
theorem my_X11_of : ck_my 410 = (yX11_of, cX11_of, (Option.some Jvm.ClassFile.FieldType.long)) := rfl
theorem np_X11_of : ck_np yX11_of 1 := by unfold ck_np; decide +kernel
theorem nh_X11_of : ck_nMH yX11_of := ⟨by decide +kernel, by decide +kernel⟩
theorem my_X12_holds : ck_my 105 = (yX12_holds, cX12_holds, (Option.some Jvm.ClassFile.FieldType.boolean)) := rfl
theorem np_X12_holds : ck_np yX12_holds 1 := by unfold ck_np; decide +kernel
theorem nh_X12_holds : ck_nMH yX12_holds := ⟨by decide +kernel, by decide +kernel⟩
theorem my_X12_init : ck_my 106 = (yX12_init, cX12_init, (Option.none : Option Jvm.ClassFile.FieldType)) := rfl
theorem np_X12_init : ck_np yX12_init 2 := by unfold ck_np; decide +kernel
theorem nh_X12_init : ck_nMH yX12_init := ⟨by decide +kernel, by decide +kernel⟩
theorem my_X13_init : ck_my 107 = (yX13_init, cX13_init, (Option.none : Option Jvm.ClassFile.FieldType)) := rfl
theorem np_X13_init : ck_np yX13_init 0 := by unfold ck_np; decide +kernel
theorem nh_X13_init : ck_nMH yX13_init := ⟨by decide +kernel, by decide +kernel⟩
theorem my_X14_init : ck_my 108 = (yX14_init, cX14_init, (Option.none : Option Jvm.ClassFile.FieldType)) := rfl
theorem np_X14_init : ck_np yX14_init 1 := by unfold ck_np; decide +kernel
theorem nh_X14_init : ck_nMH yX14_init := ⟨by decide +kernel, by decide +kernel⟩
theorem my_X14_is : ck_my 432 = (yX14_is, cX14_is, (Option.some Jvm.ClassFile.FieldType.boolean)) := rfl
theorem np_X14_is : ck_np yX14_is 1 := by unfold ck_np; decide +kernel
theorem nh_X14_is : ck_nMH yX14_is := ⟨by decide +kernel, by decide +kernel⟩
theorem my_X15_init : ck_my 109 = (yX15_init, cX15_init, (Option.none : Option Jvm.ClassFile.FieldType)) := rfl
theorem np_X15_init : ck_np yX15_init 4 := by unfold ck_np; decide +kernel
theorem nh_X15_init : ck_nMH yX15_init := ⟨by decide +kernel, by decide +kernel⟩
theorem my_X15_is : ck_my 433 = (yX15_is, cX15_is, (Option.some Jvm.ClassFile.FieldType.boolean)) := rfl
theorem np_X15_is : ck_np yX15_is 1 := by unfold ck_np; decide +kernel
theorem nh_X15_is : ck_nMH yX15_is := ⟨by decide +kernel, by decide +kernel⟩
theorem my_X16_init : ck_my 110 = (yX16_init, cX16_init, (Option.none : Option Jvm.ClassFile.FieldType)) := rfl
theorem np_X16_init : ck_np yX16_init 3 := by unfold ck_np; decide +kernel
theorem nh_X16_init : ck_nMH yX16_init := ⟨by decide +kernel, by decide +kernel⟩
theorem my_X16_is : ck_my 434 = (yX16_is, cX16_is, (Option.some Jvm.ClassFile.FieldType.boolean)) := rfl
theorem np_X16_is : ck_np yX16_is 1 := by unfold ck_np; decide +kernel
theorem nh_X16_is : ck_nMH yX16_is := ⟨by decide +kernel, by decide +kernel⟩
theorem my_X17_holds : ck_my 111 = (yX17_holds, cX17_holds, (Option.none : Option Jvm.ClassFile.FieldType)) := rfl
theorem np_X17_holds : ck_np yX17_holds 0 := by unfold ck_np; decide +kernel
theorem nh_X17_holds : ck_nMH yX17_holds := ⟨by decide +kernel, by decide +kernel⟩
theorem my_X17_init : ck_my 112 = (yX17_init, cX17_init, (Option.none : Option Jvm.ClassFile.FieldType)) := rfl
theorem np_X17_init : ck_np yX17_init 1 := by unfold ck_np; decide +kernel
theorem nh_X17_init : ck_nMH yX17_init := ⟨by decide +kernel, by decide +kernel⟩
theorem my_X17_laysBack : ck_my 113 = (yX17_laysBack, cX17_laysBack, (Option.none : Option Jvm.ClassFile.FieldType)) := rfl
theorem np_X17_laysBack : ck_np yX17_laysBack 0 := by unfold ck_np; decide +kernel
theorem nh_X17_laysBack : ck_nMH yX17_laysBack := ⟨by decide +kernel, by decide +kernel⟩
theorem my_X1_init : ck_my 114 = (yX1_init, cX1_init, (Option.none : Option Jvm.ClassFile.FieldType)) := rfl
theorem np_X1_init : ck_np yX1_init 0 := by unfold ck_np; decide +kernel
theorem nh_X1_init : ck_nMH yX1_init := ⟨by decide +kernel, by decide +kernel⟩
theorem my_X1_many : ck_my 115 = (yX1_many, cX1_many, (Option.some Jvm.ClassFile.FieldType.int)) := rfl
theorem np_X1_many : ck_np yX1_many 0 := by unfold ck_np; decide +kernel
theorem nh_X1_many : ck_nMH yX1_many := ⟨by decide +kernel, by decide +kernel⟩
theorem my_X2_begin : ck_my 116 = (yX2_begin, cX2_begin, (Option.none : Option Jvm.ClassFile.FieldType)) := rfl
theorem np_X2_begin : ck_np yX2_begin 1 := by unfold ck_np; decide +kernel
theorem nh_X2_begin : ck_nMH yX2_begin := ⟨by decide +kernel, by decide +kernel⟩
theorem my_X2_copyFrom : ck_my 117 = (yX2_copyFrom, cX2_copyFrom, (Option.none : Option Jvm.ClassFile.FieldType)) := rfl
theorem np_X2_copyFrom : ck_np yX2_copyFrom 1 := by unfold ck_np; decide +kernel
theorem nh_X2_copyFrom : ck_nMH yX2_copyFrom := ⟨by decide +kernel, by decide +kernel⟩
theorem my_X2_fights : ck_my 118 = (yX2_fights, cX2_fights, (Option.some Jvm.ClassFile.FieldType.int)) := rfl
theorem np_X2_fights : ck_np yX2_fights 3 := by unfold ck_np; decide +kernel
theorem nh_X2_fights : ck_nMH yX2_fights := ⟨by decide +kernel, by decide +kernel⟩
theorem my_X2_hardens : ck_my 119 = (yX2_hardens, cX2_hardens, (Option.none : Option Jvm.ClassFile.FieldType)) := rfl
theorem np_X2_hardens : ck_np yX2_hardens 2 := by unfold ck_np; decide +kernel
theorem nh_X2_hardens : ck_nMH yX2_hardens := ⟨by decide +kernel, by decide +kernel⟩
theorem my_X2_heals : ck_my 120 = (yX2_heals, cX2_heals, (Option.none : Option Jvm.ClassFile.FieldType)) := rfl
theorem np_X2_heals : ck_np yX2_heals 1 := by unfold ck_np; decide +kernel
theorem nh_X2_heals : ck_nMH yX2_heals := ⟨by decide +kernel, by decide +kernel⟩
theorem my_X2_init : ck_my 121 = (yX2_init, cX2_init, (Option.none : Option Jvm.ClassFile.FieldType)) := rfl
theorem np_X2_init : ck_np yX2_init 0 := by unfold ck_np; decide +kernel
theorem nh_X2_init : ck_nMH yX2_init := ⟨by decide +kernel, by decide +kernel⟩
theorem my_X2_strikesOf : ck_my 122 = (yX2_strikesOf, cX2_strikesOf, (Option.some Jvm.ClassFile.FieldType.int)) := rfl
theorem np_X2_strikesOf : ck_np yX2_strikesOf 3 := by unfold ck_np; decide +kernel
theorem nh_X2_strikesOf : ck_nMH yX2_strikesOf := ⟨by decide +kernel, by decide +kernel⟩
theorem my_X2_sumOf : ck_my 123 = (yX2_sumOf, cX2_sumOf, (Option.some Jvm.ClassFile.FieldType.int)) := rfl
theorem np_X2_sumOf : ck_np yX2_sumOf 1 := by unfold ck_np; decide +kernel
theorem nh_X2_sumOf : ck_nMH yX2_sumOf := ⟨by decide +kernel, by decide +kernel⟩
theorem my_X2_winnerOf : ck_my 124 = (yX2_winnerOf, cX2_winnerOf, (Option.some Jvm.ClassFile.FieldType.int)) := rfl
theorem np_X2_winnerOf : ck_np yX2_winnerOf 3 := by unfold ck_np; decide +kernel
theorem nh_X2_winnerOf : ck_nMH yX2_winnerOf := ⟨by decide +kernel, by decide +kernel⟩
theorem my_X3_init : ck_my 125 = (yX3_init, cX3_init, (Option.none : Option Jvm.ClassFile.FieldType)) := rfl
theorem np_X3_init : ck_np yX3_init 0 := by unfold ck_np; decide +kernel
theorem nh_X3_init : ck_nMH yX3_init := ⟨by decide +kernel, by decide +kernel⟩
theorem my_X4_ahead : ck_my 126 = (yX4_ahead, cX4_ahead, (Option.some Jvm.ClassFile.FieldType.int)) := rfl
theorem np_X4_ahead : ck_np yX4_ahead 3 := by unfold ck_np; decide +kernel
theorem nh_X4_ahead : ck_nMH yX4_ahead := ⟨by decide +kernel, by decide +kernel⟩
theorem my_X4_alikeAt : ck_my 127 = (yX4_alikeAt, cX4_alikeAt, (Option.some Jvm.ClassFile.FieldType.int)) := rfl
theorem np_X4_alikeAt : ck_np yX4_alikeAt 1 := by unfold ck_np; decide +kernel
theorem nh_X4_alikeAt : ck_nMH yX4_alikeAt := ⟨by decide +kernel, by decide +kernel⟩
theorem my_X4_alone : ck_my 128 = (yX4_alone, cX4_alone, (Option.some Jvm.ClassFile.FieldType.int)) := rfl
theorem np_X4_alone : ck_np yX4_alone 0 := by unfold ck_np; decide +kernel
theorem nh_X4_alone : ck_nMH yX4_alone := ⟨by decide +kernel, by decide +kernel⟩
theorem my_X4_areAllSo : ck_my 129 = (yX4_areAllSo, cX4_areAllSo, (Option.some Jvm.ClassFile.FieldType.boolean)) := rfl
theorem np_X4_areAllSo : ck_np yX4_areAllSo 2 := by unfold ck_np; decide +kernel
theorem nh_X4_areAllSo : ck_nMH yX4_areAllSo := ⟨by decide +kernel, by decide +kernel⟩
theorem my_X4_areNotesSo : ck_my 130 = (yX4_areNotesSo, cX4_areNotesSo, (Option.some Jvm.ClassFile.FieldType.boolean)) := rfl
theorem np_X4_areNotesSo : ck_np yX4_areNotesSo 1 := by unfold ck_np; decide +kernel
theorem nh_X4_areNotesSo : ck_nMH yX4_areNotesSo := ⟨by decide +kernel, by decide +kernel⟩
theorem my_X4_back : ck_my 131 = (yX4_back, cX4_back, (Option.some Jvm.ClassFile.FieldType.int)) := rfl
theorem np_X4_back : ck_np yX4_back 1 := by unfold ck_np; decide +kernel
theorem nh_X4_back : ck_nMH yX4_back := ⟨by decide +kernel, by decide +kernel⟩
theorem my_X4_beats : ck_my 132 = (yX4_beats, cX4_beats, (Option.some Jvm.ClassFile.FieldType.int)) := rfl
theorem np_X4_beats : ck_np yX4_beats 1 := by unfold ck_np; decide +kernel
theorem nh_X4_beats : ck_nMH yX4_beats := ⟨by decide +kernel, by decide +kernel⟩
theorem my_X4_beatsOf : ck_my 133 = (yX4_beatsOf, cX4_beatsOf, (Option.some Jvm.ClassFile.FieldType.int)) := rfl
theorem np_X4_beatsOf : ck_np yX4_beatsOf 1 := by unfold ck_np; decide +kernel
theorem nh_X4_beatsOf : ck_nMH yX4_beatsOf := ⟨by decide +kernel, by decide +kernel⟩
theorem my_X4_begins : ck_my 134 = (yX4_begins, cX4_begins, (Option.none : Option Jvm.ClassFile.FieldType)) := rfl
theorem np_X4_begins : ck_np yX4_begins 0 := by unfold ck_np; decide +kernel
theorem nh_X4_begins : ck_nMH yX4_begins := ⟨by decide +kernel, by decide +kernel⟩
theorem my_X4_best : ck_my 135 = (yX4_best, cX4_best, (Option.some Jvm.ClassFile.FieldType.int)) := rfl
theorem np_X4_best : ck_np yX4_best 2 := by unfold ck_np; decide +kernel
theorem nh_X4_best : ck_nMH yX4_best := ⟨by decide +kernel, by decide +kernel⟩
theorem my_X4_bits : ck_my 136 = (yX4_bits, cX4_bits, (Option.some Jvm.ClassFile.FieldType.int)) := rfl
theorem np_X4_bits : ck_np yX4_bits 1 := by unfold ck_np; decide +kernel
theorem nh_X4_bits : ck_nMH yX4_bits := ⟨by decide +kernel, by decide +kernel⟩
theorem my_X4_bout : ck_my 137 = (yX4_bout, cX4_bout, (Option.some Jvm.ClassFile.FieldType.int)) := rfl
theorem np_X4_bout : ck_np yX4_bout 2 := by unfold ck_np; decide +kernel
theorem nh_X4_bout : ck_nMH yX4_bout := ⟨by decide +kernel, by decide +kernel⟩
theorem my_X4_canBe : ck_my 138 = (yX4_canBe, cX4_canBe, (Option.some Jvm.ClassFile.FieldType.int)) := rfl
theorem np_X4_canBe : ck_np yX4_canBe 3 := by unfold ck_np; decide +kernel
theorem nh_X4_canBe : ck_nMH yX4_canBe := ⟨by decide +kernel, by decide +kernel⟩
theorem my_X4_canStand : ck_my 139 = (yX4_canStand, cX4_canStand, (Option.some Jvm.ClassFile.FieldType.boolean)) := rfl
theorem np_X4_canStand : ck_np yX4_canStand 1 := by unfold ck_np; decide +kernel
theorem nh_X4_canStand : ck_nMH yX4_canStand := ⟨by decide +kernel, by decide +kernel⟩
theorem my_X4_cellHere : ck_my 140 = (yX4_cellHere, cX4_cellHere, (Option.some Jvm.ClassFile.FieldType.boolean)) := rfl
theorem np_X4_cellHere : ck_np yX4_cellHere 3 := by unfold ck_np; decide +kernel
theorem nh_X4_cellHere : ck_nMH yX4_cellHere := ⟨by decide +kernel, by decide +kernel⟩
theorem my_X4_chooses : ck_my 141 = (yX4_chooses, cX4_chooses, (Option.none : Option Jvm.ClassFile.FieldType)) := rfl
theorem np_X4_chooses : ck_np yX4_chooses 0 := by unfold ck_np; decide +kernel
theorem nh_X4_chooses : ck_nMH yX4_chooses := ⟨by decide +kernel, by decide +kernel⟩
theorem my_X4_choosesPlain : ck_my 142 = (yX4_choosesPlain, cX4_choosesPlain, (Option.none : Option Jvm.ClassFile.FieldType)) := rfl
theorem np_X4_choosesPlain : ck_np yX4_choosesPlain 0 := by unfold ck_np; decide +kernel
theorem nh_X4_choosesPlain : ck_nMH yX4_choosesPlain := ⟨by decide +kernel, by decide +kernel⟩
theorem my_X4_clauseHere : ck_my 143 = (yX4_clauseHere, cX4_clauseHere, (Option.some Jvm.ClassFile.FieldType.boolean)) := rfl
theorem np_X4_clauseHere : ck_np yX4_clauseHere 0 := by unfold ck_np; decide +kernel
theorem nh_X4_clauseHere : ck_nMH yX4_clauseHere := ⟨by decide +kernel, by decide +kernel⟩
theorem my_X4_closes : ck_my 144 = (yX4_closes, cX4_closes, (Option.none : Option Jvm.ClassFile.FieldType)) := rfl
theorem np_X4_closes : ck_np yX4_closes 0 := by unfold ck_np; decide +kernel
theorem nh_X4_closes : ck_nMH yX4_closes := ⟨by decide +kernel, by decide +kernel⟩
theorem my_X4_compare : ck_my 145 = (yX4_compare, cX4_compare, (Option.some Jvm.ClassFile.FieldType.boolean)) := rfl
theorem np_X4_compare : ck_np yX4_compare 0 := by unfold ck_np; decide +kernel
theorem nh_X4_compare : ck_nMH yX4_compare := ⟨by decide +kernel, by decide +kernel⟩
theorem my_X4_conker : ck_my 146 = (yX4_conker, cX4_conker, (Option.some Jvm.ClassFile.FieldType.int)) := rfl
theorem np_X4_conker : ck_np yX4_conker 2 := by unfold ck_np; decide +kernel
theorem nh_X4_conker : ck_nMH yX4_conker := ⟨by decide +kernel, by decide +kernel⟩
theorem my_X4_count : ck_my 147 = (yX4_count, cX4_count, (Option.some Jvm.ClassFile.FieldType.int)) := rfl
theorem np_X4_count : ck_np yX4_count 1 := by unfold ck_np; decide +kernel
theorem nh_X4_count : ck_nMH yX4_count := ⟨by decide +kernel, by decide +kernel⟩
theorem my_X4_cups : ck_my 148 = (yX4_cups, cX4_cups, (Option.some Jvm.ClassFile.FieldType.int)) := rfl
theorem np_X4_cups : ck_np yX4_cups 1 := by unfold ck_np; decide +kernel
theorem nh_X4_cups : ck_nMH yX4_cups := ⟨by decide +kernel, by decide +kernel⟩
theorem my_X4_draw : ck_my 149 = (yX4_draw, cX4_draw, (Option.some Jvm.ClassFile.FieldType.int)) := rfl
theorem np_X4_draw : ck_np yX4_draw 1 := by unfold ck_np; decide +kernel
theorem nh_X4_draw : ck_nMH yX4_draw := ⟨by decide +kernel, by decide +kernel⟩
theorem my_X4_end : ck_my 150 = (yX4_end, cX4_end, (Option.some Jvm.ClassFile.FieldType.int)) := rfl
theorem np_X4_end : ck_np yX4_end 1 := by unfold ck_np; decide +kernel
theorem nh_X4_end : ck_nMH yX4_end := ⟨by decide +kernel, by decide +kernel⟩
theorem my_X4_fact : ck_my 151 = (yX4_fact, cX4_fact, (Option.some Jvm.ClassFile.FieldType.boolean)) := rfl
theorem np_X4_fact : ck_np yX4_fact 0 := by unfold ck_np; decide +kernel
theorem nh_X4_fact : ck_nMH yX4_fact := ⟨by decide +kernel, by decide +kernel⟩
theorem my_X4_fails : ck_my 152 = (yX4_fails, cX4_fails, (Option.some Jvm.ClassFile.FieldType.boolean)) := rfl
theorem np_X4_fails : ck_np yX4_fails 2 := by unfold ck_np; decide +kernel
theorem nh_X4_fails : ck_nMH yX4_fails := ⟨by decide +kernel, by decide +kernel⟩
theorem my_X4_falls : ck_my 153 = (yX4_falls, cX4_falls, (Option.none : Option Jvm.ClassFile.FieldType)) := rfl
theorem np_X4_falls : ck_np yX4_falls 2 := by unfold ck_np; decide +kernel
theorem nh_X4_falls : ck_nMH yX4_falls := ⟨by decide +kernel, by decide +kernel⟩
theorem my_X4_feed : ck_my 154 = (yX4_feed, cX4_feed, (Option.some Jvm.ClassFile.FieldType.int)) := rfl
theorem np_X4_feed : ck_np yX4_feed 5 := by unfold ck_np; decide +kernel
theorem nh_X4_feed : ck_nMH yX4_feed := ⟨by decide +kernel, by decide +kernel⟩
theorem my_X4_fillsFits : ck_my 155 = (yX4_fillsFits, cX4_fillsFits, (Option.none : Option Jvm.ClassFile.FieldType)) := rfl
theorem np_X4_fillsFits : ck_np yX4_fillsFits 1 := by unfold ck_np; decide +kernel
theorem nh_X4_fillsFits : ck_nMH yX4_fillsFits := ⟨by decide +kernel, by decide +kernel⟩
theorem my_X4_fillsRest : ck_my 156 = (yX4_fillsRest, cX4_fillsRest, (Option.none : Option Jvm.ClassFile.FieldType)) := rfl
theorem np_X4_fillsRest : ck_np yX4_fillsRest 4 := by unfold ck_np; decide +kernel
theorem nh_X4_fillsRest : ck_nMH yX4_fillsRest := ⟨by decide +kernel, by decide +kernel⟩
theorem my_X4_fillsVictims : ck_my 157 = (yX4_fillsVictims, cX4_fillsVictims, (Option.none : Option Jvm.ClassFile.FieldType)) := rfl
theorem np_X4_fillsVictims : ck_np yX4_fillsVictims 0 := by unfold ck_np; decide +kernel
theorem nh_X4_fillsVictims : ck_nMH yX4_fillsVictims := ⟨by decide +kernel, by decide +kernel⟩
theorem my_X4_findsLadder : ck_my 158 = (yX4_findsLadder, cX4_findsLadder, (Option.some Jvm.ClassFile.FieldType.int)) := rfl
theorem np_X4_findsLadder : ck_np yX4_findsLadder 0 := by unfold ck_np; decide +kernel
theorem nh_X4_findsLadder : ck_nMH yX4_findsLadder := ⟨by decide +kernel, by decide +kernel⟩
theorem my_X4_force : ck_my 159 = (yX4_force, cX4_force, (Option.some Jvm.ClassFile.FieldType.int)) := rfl
theorem np_X4_force : ck_np yX4_force 1 := by unfold ck_np; decide +kernel
theorem nh_X4_force : ck_nMH yX4_force := ⟨by decide +kernel, by decide +kernel⟩
theorem my_X4_four : ck_my 160 = (yX4_four, cX4_four, (Option.none : Option Jvm.ClassFile.FieldType)) := rfl
theorem np_X4_four : ck_np yX4_four 1 := by unfold ck_np; decide +kernel
theorem nh_X4_four : ck_nMH yX4_four := ⟨by decide +kernel, by decide +kernel⟩
theorem my_X4_freezes : ck_my 161 = (yX4_freezes, cX4_freezes, (Option.none : Option Jvm.ClassFile.FieldType)) := rfl
theorem np_X4_freezes : ck_np yX4_freezes 1 := by unfold ck_np; decide +kernel
theorem nh_X4_freezes : ck_nMH yX4_freezes := ⟨by decide +kernel, by decide +kernel⟩
theorem my_X4_frost : ck_my 162 = (yX4_frost, cX4_frost, (Option.some Jvm.ClassFile.FieldType.int)) := rfl
theorem np_X4_frost : ck_np yX4_frost 4 := by unfold ck_np; decide +kernel
theorem nh_X4_frost : ck_nMH yX4_frost := ⟨by decide +kernel, by decide +kernel⟩
theorem my_X4_hardens : ck_my 163 = (yX4_hardens, cX4_hardens, (Option.none : Option Jvm.ClassFile.FieldType)) := rfl
theorem np_X4_hardens : ck_np yX4_hardens 2 := by unfold ck_np; decide +kernel
theorem nh_X4_hardens : ck_nMH yX4_hardens := ⟨by decide +kernel, by decide +kernel⟩
theorem my_X4_hards : ck_my 164 = (yX4_hards, cX4_hards, (Option.some Jvm.ClassFile.FieldType.int)) := rfl
theorem np_X4_hards : ck_np yX4_hards 2 := by unfold ck_np; decide +kernel
theorem nh_X4_hards : ck_nMH yX4_hards := ⟨by decide +kernel, by decide +kernel⟩
theorem my_X4_has : ck_my 165 = (yX4_has, cX4_has, (Option.some Jvm.ClassFile.FieldType.int)) := rfl
theorem np_X4_has : ck_np yX4_has 2 := by unfold ck_np; decide +kernel
theorem nh_X4_has : ck_nMH yX4_has := ⟨by decide +kernel, by decide +kernel⟩
theorem my_X4_hasThen : ck_my 166 = (yX4_hasThen, cX4_hasThen, (Option.some Jvm.ClassFile.FieldType.int)) := rfl
theorem np_X4_hasThen : ck_np yX4_hasThen 1 := by unfold ck_np; decide +kernel
theorem nh_X4_hasThen : ck_nMH yX4_hasThen := ⟨by decide +kernel, by decide +kernel⟩
theorem my_X4_image : ck_my 167 = (yX4_image, cX4_image, (Option.some Jvm.ClassFile.FieldType.int)) := rfl
theorem np_X4_image : ck_np yX4_image 1 := by unfold ck_np; decide +kernel
theorem nh_X4_image : ck_nMH yX4_image := ⟨by decide +kernel, by decide +kernel⟩
theorem my_X4_in : ck_my 168 = (yX4_in, cX4_in, (Option.some Jvm.ClassFile.FieldType.boolean)) := rfl
theorem np_X4_in : ck_np yX4_in 3 := by unfold ck_np; decide +kernel
theorem nh_X4_in : ck_nMH yX4_in := ⟨by decide +kernel, by decide +kernel⟩
theorem my_X4_init : ck_my 169 = (yX4_init, cX4_init, (Option.none : Option Jvm.ClassFile.FieldType)) := rfl
theorem np_X4_init : ck_np yX4_init 0 := by unfold ck_np; decide +kernel
theorem nh_X4_init : ck_nMH yX4_init := ⟨by decide +kernel, by decide +kernel⟩
theorem my_X4_isConker : ck_my 170 = (yX4_isConker, cX4_isConker, (Option.some Jvm.ClassFile.FieldType.boolean)) := rfl
theorem np_X4_isConker : ck_np yX4_isConker 1 := by unfold ck_np; decide +kernel
theorem nh_X4_isConker : ck_nMH yX4_isConker := ⟨by decide +kernel, by decide +kernel⟩
theorem my_X4_isConkerHere : ck_my 171 = (yX4_isConkerHere, cX4_isConkerHere, (Option.some Jvm.ClassFile.FieldType.boolean)) := rfl
theorem np_X4_isConkerHere : ck_np yX4_isConkerHere 1 := by unfold ck_np; decide +kernel
theorem nh_X4_isConkerHere : ck_nMH yX4_isConkerHere := ⟨by decide +kernel, by decide +kernel⟩
theorem my_X4_isCrackedHere : ck_my 172 = (yX4_isCrackedHere, cX4_isCrackedHere, (Option.some Jvm.ClassFile.FieldType.boolean)) := rfl
theorem np_X4_isCrackedHere : ck_np yX4_isCrackedHere 0 := by unfold ck_np; decide +kernel
theorem nh_X4_isCrackedHere : ck_nMH yX4_isCrackedHere := ⟨by decide +kernel, by decide +kernel⟩
theorem my_X4_isDigit : ck_my 173 = (yX4_isDigit, cX4_isDigit, (Option.some Jvm.ClassFile.FieldType.boolean)) := rfl
theorem np_X4_isDigit : ck_np yX4_isDigit 1 := by unfold ck_np; decide +kernel
theorem nh_X4_isDigit : ck_nMH yX4_isDigit := ⟨by decide +kernel, by decide +kernel⟩
theorem my_X4_isHitHere : ck_my 174 = (yX4_isHitHere, cX4_isHitHere, (Option.some Jvm.ClassFile.FieldType.boolean)) := rfl
theorem np_X4_isHitHere : ck_np yX4_isHitHere 0 := by unfold ck_np; decide +kernel
theorem nh_X4_isHitHere : ck_nMH yX4_isHitHere := ⟨by decide +kernel, by decide +kernel⟩
theorem my_X4_isInside : ck_my 175 = (yX4_isInside, cX4_isInside, (Option.some Jvm.ClassFile.FieldType.boolean)) := rfl
theorem np_X4_isInside : ck_np yX4_isInside 0 := by unfold ck_np; decide +kernel
theorem nh_X4_isInside : ck_nMH yX4_isInside := ⟨by decide +kernel, by decide +kernel⟩
theorem my_X4_isLetter : ck_my 176 = (yX4_isLetter, cX4_isLetter, (Option.some Jvm.ClassFile.FieldType.boolean)) := rfl
theorem np_X4_isLetter : ck_np yX4_isLetter 1 := by unfold ck_np; decide +kernel
theorem nh_X4_isLetter : ck_nMH yX4_isLetter := ⟨by decide +kernel, by decide +kernel⟩
theorem my_X4_isOf : ck_my 177 = (yX4_isOf, cX4_isOf, (Option.some Jvm.ClassFile.FieldType.boolean)) := rfl
theorem np_X4_isOf : ck_np yX4_isOf 2 := by unfold ck_np; decide +kernel
theorem nh_X4_isOf : ck_nMH yX4_isOf := ⟨by decide +kernel, by decide +kernel⟩
theorem my_X4_isRest : ck_my 178 = (yX4_isRest, cX4_isRest, (Option.some Jvm.ClassFile.FieldType.boolean)) := rfl
theorem np_X4_isRest : ck_np yX4_isRest 2 := by unfold ck_np; decide +kernel
theorem nh_X4_isRest : ck_nMH yX4_isRest := ⟨by decide +kernel, by decide +kernel⟩
theorem my_X4_isRule : ck_my 179 = (yX4_isRule, cX4_isRule, (Option.some Jvm.ClassFile.FieldType.boolean)) := rfl
theorem np_X4_isRule : ck_np yX4_isRule 1 := by unfold ck_np; decide +kernel
theorem nh_X4_isRule : ck_nMH yX4_isRule := ⟨by decide +kernel, by decide +kernel⟩
theorem my_X4_isWhole : ck_my 180 = (yX4_isWhole, cX4_isWhole, (Option.some Jvm.ClassFile.FieldType.boolean)) := rfl
theorem np_X4_isWhole : ck_np yX4_isWhole 1 := by unfold ck_np; decide +kernel
theorem nh_X4_isWhole : ck_nMH yX4_isWhole := ⟨by decide +kernel, by decide +kernel⟩
theorem my_X4_isWord : ck_my 181 = (yX4_isWord, cX4_isWord, (Option.some Jvm.ClassFile.FieldType.boolean)) := rfl
theorem np_X4_isWord : ck_np yX4_isWord 1 := by unfold ck_np; decide +kernel
theorem nh_X4_isWord : ck_nMH yX4_isWord := ⟨by decide +kernel, by decide +kernel⟩
theorem my_X4_isYard : ck_my 182 = (yX4_isYard, cX4_isYard, (Option.some Jvm.ClassFile.FieldType.boolean)) := rfl
theorem np_X4_isYard : ck_np yX4_isYard 0 := by unfold ck_np; decide +kernel
theorem nh_X4_isYard : ck_nMH yX4_isYard := ⟨by decide +kernel, by decide +kernel⟩
theorem my_X4_isYardHere : ck_my 183 = (yX4_isYardHere, cX4_isYardHere, (Option.some Jvm.ClassFile.FieldType.boolean)) := rfl
theorem np_X4_isYardHere : ck_np yX4_isYardHere 1 := by unfold ck_np; decide +kernel
theorem nh_X4_isYardHere : ck_nMH yX4_isYardHere := ⟨by decide +kernel, by decide +kernel⟩
theorem my_X4_isYardWord : ck_my 184 = (yX4_isYardWord, cX4_isYardWord, (Option.some Jvm.ClassFile.FieldType.boolean)) := rfl
theorem np_X4_isYardWord : ck_np yX4_isYardWord 0 := by unfold ck_np; decide +kernel
theorem nh_X4_isYardWord : ck_nMH yX4_isYardWord := ⟨by decide +kernel, by decide +kernel⟩
theorem my_X4_keeps : ck_my 185 = (yX4_keeps, cX4_keeps, (Option.none : Option Jvm.ClassFile.FieldType)) := rfl
theorem np_X4_keeps : ck_np yX4_keeps 0 := by unfold ck_np; decide +kernel
theorem nh_X4_keeps : ck_nMH yX4_keeps := ⟨by decide +kernel, by decide +kernel⟩
theorem my_X4_keepsAct : ck_my 186 = (yX4_keepsAct, cX4_keepsAct, (Option.none : Option Jvm.ClassFile.FieldType)) := rfl
theorem np_X4_keepsAct : ck_np yX4_keepsAct 0 := by unfold ck_np; decide +kernel
theorem nh_X4_keepsAct : ck_nMH yX4_keepsAct := ⟨by decide +kernel, by decide +kernel⟩
theorem my_X4_kings : ck_my 187 = (yX4_kings, cX4_kings, (Option.some Jvm.ClassFile.FieldType.int)) := rfl
theorem np_X4_kings : ck_np yX4_kings 0 := by unfold ck_np; decide +kernel
theorem nh_X4_kings : ck_nMH yX4_kings := ⟨by decide +kernel, by decide +kernel⟩
theorem my_X4_ladder : ck_my 188 = (yX4_ladder, cX4_ladder, (Option.some Jvm.ClassFile.FieldType.int)) := rfl
theorem np_X4_ladder : ck_np yX4_ladder 1 := by unfold ck_np; decide +kernel
theorem nh_X4_ladder : ck_nMH yX4_ladder := ⟨by decide +kernel, by decide +kernel⟩
theorem my_X4_last : ck_my 189 = (yX4_last, cX4_last, (Option.some Jvm.ClassFile.FieldType.int)) := rfl
theorem np_X4_last : ck_np yX4_last 1 := by unfold ck_np; decide +kernel
theorem nh_X4_last : ck_nMH yX4_last := ⟨by decide +kernel, by decide +kernel⟩
theorem my_X4_lastBy : ck_my 190 = (yX4_lastBy, cX4_lastBy, (Option.some Jvm.ClassFile.FieldType.int)) := rfl
theorem np_X4_lastBy : ck_np yX4_lastBy 2 := by unfold ck_np; decide +kernel
theorem nh_X4_lastBy : ck_nMH yX4_lastBy := ⟨by decide +kernel, by decide +kernel⟩
theorem my_X4_layDown : ck_my 191 = (yX4_layDown, cX4_layDown, (Option.none : Option Jvm.ClassFile.FieldType)) := rfl
theorem np_X4_layDown : ck_np yX4_layDown 1 := by unfold ck_np; decide +kernel
theorem nh_X4_layDown : ck_nMH yX4_layDown := ⟨by decide +kernel, by decide +kernel⟩
theorem my_X4_laysBack : ck_my 192 = (yX4_laysBack, cX4_laysBack, (Option.none : Option Jvm.ClassFile.FieldType)) := rfl
theorem np_X4_laysBack : ck_np yX4_laysBack 0 := by unfold ck_np; decide +kernel
theorem nh_X4_laysBack : ck_nMH yX4_laysBack := ⟨by decide +kernel, by decide +kernel⟩
theorem my_X4_look : ck_my 193 = (yX4_look, cX4_look, (Option.some Jvm.ClassFile.FieldType.int)) := rfl
theorem np_X4_look : ck_np yX4_look 2 := by unfold ck_np; decide +kernel
theorem nh_X4_look : ck_nMH yX4_look := ⟨by decide +kernel, by decide +kernel⟩
theorem my_X4_makes : ck_my 194 = (yX4_makes, cX4_makes, (Option.some Jvm.ClassFile.FieldType.boolean)) := rfl
theorem np_X4_makes : ck_np yX4_makes 1 := by unfold ck_np; decide +kernel
theorem nh_X4_makes : ck_nMH yX4_makes := ⟨by decide +kernel, by decide +kernel⟩
theorem my_X4_mend : ck_my 195 = (yX4_mend, cX4_mend, (Option.some Jvm.ClassFile.FieldType.int)) := rfl
theorem np_X4_mend : ck_np yX4_mend 1 := by unfold ck_np; decide +kernel
theorem nh_X4_mend : ck_nMH yX4_mend := ⟨by decide +kernel, by decide +kernel⟩
theorem my_X4_nextWhole : ck_my 196 = (yX4_nextWhole, cX4_nextWhole, (Option.some Jvm.ClassFile.FieldType.int)) := rfl
theorem np_X4_nextWhole : ck_np yX4_nextWhole 1 := by unfold ck_np; decide +kernel
theorem nh_X4_nextWhole : ck_nMH yX4_nextWhole := ⟨by decide +kernel, by decide +kernel⟩
theorem my_X4_note : ck_my 197 = (yX4_note, cX4_note, (Option.some Jvm.ClassFile.FieldType.int)) := rfl
theorem np_X4_note : ck_np yX4_note 3 := by unfold ck_np; decide +kernel
theorem nh_X4_note : ck_nMH yX4_note := ⟨by decide +kernel, by decide +kernel⟩
theorem my_X4_numberHere : ck_my 198 = (yX4_numberHere, cX4_numberHere, (Option.some Jvm.ClassFile.FieldType.boolean)) := rfl
theorem np_X4_numberHere : ck_np yX4_numberHere 2 := by unfold ck_np; decide +kernel
theorem nh_X4_numberHere : ck_nMH yX4_numberHere := ⟨by decide +kernel, by decide +kernel⟩
theorem my_X4_one : ck_my 199 = (yX4_one, cX4_one, (Option.some Jvm.ClassFile.FieldType.long)) := rfl
theorem np_X4_one : ck_np yX4_one 3 := by unfold ck_np; decide +kernel
theorem nh_X4_one : ck_nMH yX4_one := ⟨by decide +kernel, by decide +kernel⟩
theorem my_X4_opens : ck_my 200 = (yX4_opens, cX4_opens, (Option.some Jvm.ClassFile.FieldType.boolean)) := rfl
theorem np_X4_opens : ck_np yX4_opens 1 := by unfold ck_np; decide +kernel
theorem nh_X4_opens : ck_nMH yX4_opens := ⟨by decide +kernel, by decide +kernel⟩
theorem my_X4_own : ck_my 201 = (yX4_own, cX4_own, (Option.some Jvm.ClassFile.FieldType.int)) := rfl
theorem np_X4_own : ck_np yX4_own 1 := by unfold ck_np; decide +kernel
theorem nh_X4_own : ck_nMH yX4_own := ⟨by decide +kernel, by decide +kernel⟩
theorem my_X4_passWord : ck_my 202 = (yX4_passWord, cX4_passWord, (Option.none : Option Jvm.ClassFile.FieldType)) := rfl
theorem np_X4_passWord : ck_np yX4_passWord 0 := by unfold ck_np; decide +kernel
theorem nh_X4_passWord : ck_nMH yX4_passWord := ⟨by decide +kernel, by decide +kernel⟩
theorem my_X4_passes : ck_my 203 = (yX4_passes, cX4_passes, (Option.some Jvm.ClassFile.FieldType.int)) := rfl
theorem np_X4_passes : ck_np yX4_passes 0 := by unfold ck_np; decide +kernel
theorem nh_X4_passes : ck_nMH yX4_passes := ⟨by decide +kernel, by decide +kernel⟩
theorem my_X4_passesAll : ck_my 204 = (yX4_passesAll, cX4_passesAll, (Option.none : Option Jvm.ClassFile.FieldType)) := rfl
theorem np_X4_passesAll : ck_np yX4_passesAll 1 := by unfold ck_np; decide +kernel
theorem nh_X4_passesAll : ck_nMH yX4_passesAll := ⟨by decide +kernel, by decide +kernel⟩
theorem my_X4_pence : ck_my 205 = (yX4_pence, cX4_pence, (Option.some Jvm.ClassFile.FieldType.int)) := rfl
theorem np_X4_pence : ck_np yX4_pence 2 := by unfold ck_np; decide +kernel
theorem nh_X4_pence : ck_nMH yX4_pence := ⟨by decide +kernel, by decide +kernel⟩
theorem my_X4_pickle : ck_my 206 = (yX4_pickle, cX4_pickle, (Option.some Jvm.ClassFile.FieldType.int)) := rfl
theorem np_X4_pickle : ck_np yX4_pickle 2 := by unfold ck_np; decide +kernel
theorem nh_X4_pickle : ck_nMH yX4_pickle := ⟨by decide +kernel, by decide +kernel⟩
theorem my_X4_plays : ck_my 207 = (yX4_plays, cX4_plays, (Option.none : Option Jvm.ClassFile.FieldType)) := rfl
theorem np_X4_plays : ck_np yX4_plays 2 := by unfold ck_np; decide +kernel
theorem nh_X4_plays : ck_nMH yX4_plays := ⟨by decide +kernel, by decide +kernel⟩
theorem my_X4_pop : ck_my 208 = (yX4_pop, cX4_pop, (Option.some Jvm.ClassFile.FieldType.long)) := rfl
theorem np_X4_pop : ck_np yX4_pop 0 := by unfold ck_np; decide +kernel
theorem nh_X4_pop : ck_nMH yX4_pop := ⟨by decide +kernel, by decide +kernel⟩
theorem my_X4_push : ck_my 209 = (yX4_push, cX4_push, (Option.none : Option Jvm.ClassFile.FieldType)) := rfl
theorem np_X4_push : ck_np yX4_push 1 := by unfold ck_np; decide +kernel
theorem nh_X4_push : ck_nMH yX4_push := ⟨by decide +kernel, by decide +kernel⟩
theorem my_X4_puts : ck_my 210 = (yX4_puts, cX4_puts, (Option.none : Option Jvm.ClassFile.FieldType)) := rfl
theorem np_X4_puts : ck_np yX4_puts 2 := by unfold ck_np; decide +kernel
theorem nh_X4_puts : ck_nMH yX4_puts := ⟨by decide +kernel, by decide +kernel⟩
theorem my_X4_reach : ck_my 211 = (yX4_reach, cX4_reach, (Option.some Jvm.ClassFile.FieldType.int)) := rfl
theorem np_X4_reach : ck_np yX4_reach 2 := by unfold ck_np; decide +kernel
theorem nh_X4_reach : ck_nMH yX4_reach := ⟨by decide +kernel, by decide +kernel⟩
theorem my_X4_readsAll : ck_my 212 = (yX4_readsAll, cX4_readsAll, (Option.some Jvm.ClassFile.FieldType.boolean)) := rfl
theorem np_X4_readsAll : ck_np yX4_readsAll 0 := by unfold ck_np; decide +kernel
theorem nh_X4_readsAll : ck_nMH yX4_readsAll := ⟨by decide +kernel, by decide +kernel⟩
theorem my_X4_reckons : ck_my 213 = (yX4_reckons, cX4_reckons, (Option.some Jvm.ClassFile.FieldType.long)) := rfl
theorem np_X4_reckons : ck_np yX4_reckons 3 := by unfold ck_np; decide +kernel
theorem nh_X4_reckons : ck_nMH yX4_reckons := ⟨by decide +kernel, by decide +kernel⟩
theorem my_X4_rests : ck_my 214 = (yX4_rests, cX4_rests, (Option.some Jvm.ClassFile.FieldType.int)) := rfl
theorem np_X4_rests : ck_np yX4_rests 4 := by unfold ck_np; decide +kernel
theorem nh_X4_rests : ck_nMH yX4_rests := ⟨by decide +kernel, by decide +kernel⟩
theorem my_X4_rings : ck_my 215 = (yX4_rings, cX4_rings, (Option.some Jvm.ClassFile.FieldType.int)) := rfl
theorem np_X4_rings : ck_np yX4_rings 0 := by unfold ck_np; decide +kernel
theorem nh_X4_rings : ck_nMH yX4_rings := ⟨by decide +kernel, by decide +kernel⟩
theorem my_X4_round : ck_my 216 = (yX4_round, cX4_round, (Option.some Jvm.ClassFile.FieldType.int)) := rfl
theorem np_X4_round : ck_np yX4_round 0 := by unfold ck_np; decide +kernel
theorem nh_X4_round : ck_nMH yX4_round := ⟨by decide +kernel, by decide +kernel⟩
theorem my_X4_rule : ck_my 217 = (yX4_rule, cX4_rule, (Option.some Jvm.ClassFile.FieldType.int)) := rfl
theorem np_X4_rule : ck_np yX4_rule 0 := by unfold ck_np; decide +kernel
theorem nh_X4_rule : ck_nMH yX4_rule := ⟨by decide +kernel, by decide +kernel⟩
theorem my_X4_ruled : ck_my 218 = (yX4_ruled, cX4_ruled, (Option.some Jvm.ClassFile.FieldType.int)) := rfl
theorem np_X4_ruled : ck_np yX4_ruled 1 := by unfold ck_np; decide +kernel
theorem nh_X4_ruled : ck_nMH yX4_ruled := ⟨by decide +kernel, by decide +kernel⟩
theorem my_X4_see : ck_my 219 = (yX4_see, cX4_see, (Option.some Jvm.ClassFile.FieldType.int)) := rfl
theorem np_X4_see : ck_np yX4_see 0 := by unfold ck_np; decide +kernel
theorem nh_X4_see : ck_nMH yX4_see := ⟨by decide +kernel, by decide +kernel⟩
theorem my_X4_seed : ck_my 220 = (yX4_seed, cX4_seed, (Option.some Jvm.ClassFile.FieldType.int)) := rfl
theorem np_X4_seed : ck_np yX4_seed 1 := by unfold ck_np; decide +kernel
theorem nh_X4_seed : ck_nMH yX4_seed := ⟨by decide +kernel, by decide +kernel⟩
theorem my_X4_sets : ck_my 221 = (yX4_sets, cX4_sets, (Option.none : Option Jvm.ClassFile.FieldType)) := rfl
theorem np_X4_sets : ck_np yX4_sets 3 := by unfold ck_np; decide +kernel
theorem nh_X4_sets : ck_nMH yX4_sets := ⟨by decide +kernel, by decide +kernel⟩
theorem my_X4_smashed : ck_my 222 = (yX4_smashed, cX4_smashed, (Option.some Jvm.ClassFile.FieldType.int)) := rfl
theorem np_X4_smashed : ck_np yX4_smashed 1 := by unfold ck_np; decide +kernel
theorem nh_X4_smashed : ck_nMH yX4_smashed := ⟨by decide +kernel, by decide +kernel⟩
theorem my_X4_smashedOf : ck_my 223 = (yX4_smashedOf, cX4_smashedOf, (Option.some Jvm.ClassFile.FieldType.int)) := rfl
theorem np_X4_smashedOf : ck_np yX4_smashedOf 2 := by unfold ck_np; decide +kernel
theorem nh_X4_smashedOf : ck_nMH yX4_smashedOf := ⟨by decide +kernel, by decide +kernel⟩
theorem my_X4_strength : ck_my 224 = (yX4_strength, cX4_strength, (Option.some Jvm.ClassFile.FieldType.int)) := rfl
theorem np_X4_strength : ck_np yX4_strength 1 := by unfold ck_np; decide +kernel
theorem nh_X4_strength : ck_nMH yX4_strength := ⟨by decide +kernel, by decide +kernel⟩
theorem my_X4_strikes : ck_my 225 = (yX4_strikes, cX4_strikes, (Option.some Jvm.ClassFile.FieldType.int)) := rfl
theorem np_X4_strikes : ck_np yX4_strikes 2 := by unfold ck_np; decide +kernel
theorem nh_X4_strikes : ck_nMH yX4_strikes := ⟨by decide +kernel, by decide +kernel⟩
theorem my_X4_string : ck_my 226 = (yX4_string, cX4_string, (Option.some Jvm.ClassFile.FieldType.int)) := rfl
theorem np_X4_string : ck_np yX4_string 2 := by unfold ck_np; decide +kernel
theorem nh_X4_string : ck_nMH yX4_string := ⟨by decide +kernel, by decide +kernel⟩
theorem my_X4_sum : ck_my 227 = (yX4_sum, cX4_sum, (Option.some Jvm.ClassFile.FieldType.boolean)) := rfl
theorem np_X4_sum : ck_np yX4_sum 0 := by unfold ck_np; decide +kernel
theorem nh_X4_sum : ck_nMH yX4_sum := ⟨by decide +kernel, by decide +kernel⟩
theorem my_X4_sumOf : ck_my 228 = (yX4_sumOf, cX4_sumOf, (Option.some Jvm.ClassFile.FieldType.long)) := rfl
theorem np_X4_sumOf : ck_np yX4_sumOf 2 := by unfold ck_np; decide +kernel
theorem nh_X4_sumOf : ck_nMH yX4_sumOf := ⟨by decide +kernel, by decide +kernel⟩
theorem my_X4_sumOver : ck_my 229 = (yX4_sumOver, cX4_sumOver, (Option.some Jvm.ClassFile.FieldType.int)) := rfl
theorem np_X4_sumOver : ck_np yX4_sumOver 1 := by unfold ck_np; decide +kernel
theorem nh_X4_sumOver : ck_nMH yX4_sumOver := ⟨by decide +kernel, by decide +kernel⟩
theorem my_X4_summedBy : ck_my 230 = (yX4_summedBy, cX4_summedBy, (Option.some Jvm.ClassFile.FieldType.long)) := rfl
theorem np_X4_summedBy : ck_np yX4_summedBy 1 := by unfold ck_np; decide +kernel
theorem nh_X4_summedBy : ck_nMH yX4_summedBy := ⟨by decide +kernel, by decide +kernel⟩
theorem my_X4_swings : ck_my 231 = (yX4_swings, cX4_swings, (Option.some Jvm.ClassFile.FieldType.int)) := rfl
theorem np_X4_swings : ck_np yX4_swings 1 := by unfold ck_np; decide +kernel
theorem nh_X4_swings : ck_nMH yX4_swings := ⟨by decide +kernel, by decide +kernel⟩
theorem my_X4_takesWord : ck_my 232 = (yX4_takesWord, cX4_takesWord, (Option.some Jvm.ClassFile.FieldType.boolean)) := rfl
theorem np_X4_takesWord : ck_np yX4_takesWord 1 := by unfold ck_np; decide +kernel
theorem nh_X4_takesWord : ck_nMH yX4_takesWord := ⟨by decide +kernel, by decide +kernel⟩
theorem my_X4_term : ck_my 233 = (yX4_term, cX4_term, (Option.some Jvm.ClassFile.FieldType.boolean)) := rfl
theorem np_X4_term : ck_np yX4_term 0 := by unfold ck_np; decide +kernel
theorem nh_X4_term : ck_nMH yX4_term := ⟨by decide +kernel, by decide +kernel⟩
theorem my_X4_tested : ck_my 234 = (yX4_tested, cX4_tested, (Option.some Jvm.ClassFile.FieldType.boolean)) := rfl
theorem np_X4_tested : ck_np yX4_tested 0 := by unfold ck_np; decide +kernel
theorem nh_X4_tested : ck_nMH yX4_tested := ⟨by decide +kernel, by decide +kernel⟩
theorem my_X4_underOf : ck_my 235 = (yX4_underOf, cX4_underOf, (Option.some Jvm.ClassFile.FieldType.int)) := rfl
theorem np_X4_underOf : ck_np yX4_underOf 1 := by unfold ck_np; decide +kernel
theorem nh_X4_underOf : ck_nMH yX4_underOf := ⟨by decide +kernel, by decide +kernel⟩
theorem my_X4_undo : ck_my 236 = (yX4_undo, cX4_undo, (Option.some Jvm.ClassFile.FieldType.int)) := rfl
theorem np_X4_undo : ck_np yX4_undo 0 := by unfold ck_np; decide +kernel
theorem nh_X4_undo : ck_nMH yX4_undo := ⟨by decide +kernel, by decide +kernel⟩
theorem my_X4_value : ck_my 237 = (yX4_value, cX4_value, (Option.some Jvm.ClassFile.FieldType.boolean)) := rfl
theorem np_X4_value : ck_np yX4_value 0 := by unfold ck_np; decide +kernel
theorem nh_X4_value : ck_nMH yX4_value := ⟨by decide +kernel, by decide +kernel⟩
theorem my_X4_waysOf : ck_my 238 = (yX4_waysOf, cX4_waysOf, (Option.some Jvm.ClassFile.FieldType.int)) := rfl
theorem np_X4_waysOf : ck_np yX4_waysOf 1 := by unfold ck_np; decide +kernel
theorem nh_X4_waysOf : ck_nMH yX4_waysOf := ⟨by decide +kernel, by decide +kernel⟩
theorem my_X4_wholeIn : ck_my 239 = (yX4_wholeIn, cX4_wholeIn, (Option.some Jvm.ClassFile.FieldType.int)) := rfl
theorem np_X4_wholeIn : ck_np yX4_wholeIn 1 := by unfold ck_np; decide +kernel
theorem nh_X4_wholeIn : ck_nMH yX4_wholeIn := ⟨by decide +kernel, by decide +kernel⟩
theorem my_X4_wholeOnes : ck_my 240 = (yX4_wholeOnes, cX4_wholeOnes, (Option.some Jvm.ClassFile.FieldType.int)) := rfl
theorem np_X4_wholeOnes : ck_np yX4_wholeOnes 0 := by unfold ck_np; decide +kernel
theorem nh_X4_wholeOnes : ck_nMH yX4_wholeOnes := ⟨by decide +kernel, by decide +kernel⟩
theorem my_X4_winnerOf : ck_my 241 = (yX4_winnerOf, cX4_winnerOf, (Option.some Jvm.ClassFile.FieldType.int)) := rfl
theorem np_X4_winnerOf : ck_np yX4_winnerOf 2 := by unfold ck_np; decide +kernel
theorem nh_X4_winnerOf : ck_nMH yX4_winnerOf := ⟨by decide +kernel, by decide +kernel⟩
theorem my_X4_wordHere : ck_my 242 = (yX4_wordHere, cX4_wordHere, (Option.some Jvm.ClassFile.FieldType.int)) := rfl
theorem np_X4_wordHere : ck_np yX4_wordHere 0 := by unfold ck_np; decide +kernel
theorem nh_X4_wordHere : ck_nMH yX4_wordHere := ⟨by decide +kernel, by decide +kernel⟩
theorem my_X4_would : ck_my 243 = (yX4_would, cX4_would, (Option.some Jvm.ClassFile.FieldType.int)) := rfl
theorem np_X4_would : ck_np yX4_would 3 := by unfold ck_np; decide +kernel
theorem nh_X4_would : ck_nMH yX4_would := ⟨by decide +kernel, by decide +kernel⟩
theorem my_X4_yard : ck_my 244 = (yX4_yard, cX4_yard, (Option.some Jvm.ClassFile.FieldType.int)) := rfl
theorem np_X4_yard : ck_np yX4_yard 0 := by unfold ck_np; decide +kernel
theorem nh_X4_yard : ck_nMH yX4_yard := ⟨by decide +kernel, by decide +kernel⟩
theorem my_X4_yardLineHere : ck_my 245 = (yX4_yardLineHere, cX4_yardLineHere, (Option.some Jvm.ClassFile.FieldType.boolean)) := rfl
theorem np_X4_yardLineHere : ck_np yX4_yardLineHere 1 := by unfold ck_np; decide +kernel
theorem nh_X4_yardLineHere : ck_nMH yX4_yardLineHere := ⟨by decide +kernel, by decide +kernel⟩
theorem my_X5_begins : ck_my 246 = (yX5_begins, cX5_begins, (Option.some Jvm.ClassFile.FieldType.boolean)) := rfl
theorem np_X5_begins : ck_np yX5_begins 2 := by unfold ck_np; decide +kernel
theorem nh_X5_begins : ck_nMH yX5_begins := ⟨by decide +kernel, by decide +kernel⟩
theorem my_X5_clause : ck_my 247 = (yX5_clause, cX5_clause, (Option.none : Option Jvm.ClassFile.FieldType)) := rfl
theorem np_X5_clause : ck_np yX5_clause 1 := by unfold ck_np; decide +kernel
theorem nh_X5_clause : ck_nMH yX5_clause := ⟨by decide +kernel, by decide +kernel⟩
theorem my_X5_clause_2 : ck_my 248 = (yX5_clause_2, cX5_clause_2, (Option.none : Option Jvm.ClassFile.FieldType)) := rfl
theorem np_X5_clause_2 : ck_np yX5_clause_2 1 := by unfold ck_np; decide +kernel
theorem nh_X5_clause_2 : ck_nMH yX5_clause_2 := ⟨by decide +kernel, by decide +kernel⟩
theorem my_X5_conkerPart : ck_my 249 = (yX5_conkerPart, cX5_conkerPart, (Option.none : Option Jvm.ClassFile.FieldType)) := rfl
theorem np_X5_conkerPart : ck_np yX5_conkerPart 1 := by unfold ck_np; decide +kernel
theorem nh_X5_conkerPart : ck_nMH yX5_conkerPart := ⟨by decide +kernel, by decide +kernel⟩
theorem my_X5_counts : ck_my 250 = (yX5_counts, cX5_counts, (Option.none : Option Jvm.ClassFile.FieldType)) := rfl
theorem np_X5_counts : ck_np yX5_counts 1 := by unfold ck_np; decide +kernel
theorem nh_X5_counts : ck_nMH yX5_counts := ⟨by decide +kernel, by decide +kernel⟩
theorem my_X5_fact : ck_my 251 = (yX5_fact, cX5_fact, (Option.some (Jvm.ClassFile.FieldType.object "ConkerYard$Condition"))) := rfl
theorem np_X5_fact : ck_np yX5_fact 0 := by unfold ck_np; decide +kernel
theorem nh_X5_fact : ck_nMH yX5_fact := ⟨by decide +kernel, by decide +kernel⟩
theorem my_X5_goesDeeper : ck_my 252 = (yX5_goesDeeper, cX5_goesDeeper, (Option.none : Option Jvm.ClassFile.FieldType)) := rfl
theorem np_X5_goesDeeper : ck_np yX5_goesDeeper 1 := by unfold ck_np; decide +kernel
theorem nh_X5_goesDeeper : ck_nMH yX5_goesDeeper := ⟨by decide +kernel, by decide +kernel⟩
theorem my_X5_init : ck_my 253 = (yX5_init, cX5_init, (Option.none : Option Jvm.ClassFile.FieldType)) := rfl
theorem np_X5_init : ck_np yX5_init 3 := by unfold ck_np; decide +kernel
theorem nh_X5_init : ck_nMH yX5_init := ⟨by decide +kernel, by decide +kernel⟩
theorem my_X5_isDigit : ck_my 254 = (yX5_isDigit, cX5_isDigit, (Option.some Jvm.ClassFile.FieldType.boolean)) := rfl
theorem np_X5_isDigit : ck_np yX5_isDigit 0 := by unfold ck_np; decide +kernel
theorem nh_X5_isDigit : ck_nMH yX5_isDigit := ⟨by decide +kernel, by decide +kernel⟩
theorem my_X5_isMore : ck_my 255 = (yX5_isMore, cX5_isMore, (Option.some Jvm.ClassFile.FieldType.boolean)) := rfl
theorem np_X5_isMore : ck_np yX5_isMore 0 := by unfold ck_np; decide +kernel
theorem nh_X5_isMore : ck_nMH yX5_isMore := ⟨by decide +kernel, by decide +kernel⟩
theorem my_X5_isWord : ck_my 256 = (yX5_isWord, cX5_isWord, (Option.some Jvm.ClassFile.FieldType.boolean)) := rfl
theorem np_X5_isWord : ck_np yX5_isWord 1 := by unfold ck_np; decide +kernel
theorem nh_X5_isWord : ck_nMH yX5_isWord := ⟨by decide +kernel, by decide +kernel⟩
theorem my_X5_next : ck_my 257 = (yX5_next, cX5_next, (Option.some Jvm.ClassFile.FieldType.int)) := rfl
theorem np_X5_next : ck_np yX5_next 0 := by unfold ck_np; decide +kernel
theorem nh_X5_next : ck_nMH yX5_next := ⟨by decide +kernel, by decide +kernel⟩
theorem my_X5_number : ck_my 258 = (yX5_number, cX5_number, (Option.some Jvm.ClassFile.FieldType.int)) := rfl
theorem np_X5_number : ck_np yX5_number 2 := by unfold ck_np; decide +kernel
theorem nh_X5_number : ck_nMH yX5_number := ⟨by decide +kernel, by decide +kernel⟩
theorem my_X5_part : ck_my 259 = (yX5_part, cX5_part, (Option.some (Jvm.ClassFile.FieldType.object "ConkerYard$Condition"))) := rfl
theorem np_X5_part : ck_np yX5_part 0 := by unfold ck_np; decide +kernel
theorem nh_X5_part : ck_nMH yX5_part := ⟨by decide +kernel, by decide +kernel⟩
theorem my_X5_sign : ck_my 260 = (yX5_sign, cX5_sign, (Option.some Jvm.ClassFile.FieldType.int)) := rfl
theorem np_X5_sign : ck_np yX5_sign 0 := by unfold ck_np; decide +kernel
theorem nh_X5_sign : ck_nMH yX5_sign := ⟨by decide +kernel, by decide +kernel⟩
theorem my_X5_sum : ck_my 261 = (yX5_sum, cX5_sum, (Option.some (Jvm.ClassFile.FieldType.object "ConkerYard$Value"))) := rfl
theorem np_X5_sum : ck_np yX5_sum 0 := by unfold ck_np; decide +kernel
theorem nh_X5_sum : ck_nMH yX5_sum := ⟨by decide +kernel, by decide +kernel⟩
theorem my_X5_takes : ck_my 262 = (yX5_takes, cX5_takes, (Option.some Jvm.ClassFile.FieldType.boolean)) := rfl
theorem np_X5_takes : ck_np yX5_takes 1 := by unfold ck_np; decide +kernel
theorem nh_X5_takes : ck_nMH yX5_takes := ⟨by decide +kernel, by decide +kernel⟩
theorem my_X5_term : ck_my 263 = (yX5_term, cX5_term, (Option.some (Jvm.ClassFile.FieldType.object "ConkerYard$Value"))) := rfl
theorem np_X5_term : ck_np yX5_term 0 := by unfold ck_np; decide +kernel
theorem nh_X5_term : ck_nMH yX5_term := ⟨by decide +kernel, by decide +kernel⟩
theorem my_X5_test : ck_my 264 = (yX5_test, cX5_test, (Option.some (Jvm.ClassFile.FieldType.object "ConkerYard$Condition"))) := rfl
theorem np_X5_test : ck_np yX5_test 0 := by unfold ck_np; decide +kernel
theorem nh_X5_test : ck_nMH yX5_test := ⟨by decide +kernel, by decide +kernel⟩
theorem my_X5_value : ck_my 265 = (yX5_value, cX5_value, (Option.some (Jvm.ClassFile.FieldType.object "ConkerYard$Value"))) := rfl
theorem np_X5_value : ck_np yX5_value 0 := by unfold ck_np; decide +kernel
theorem nh_X5_value : ck_nMH yX5_value := ⟨by decide +kernel, by decide +kernel⟩
theorem my_X5_wholeRule : ck_my 266 = (yX5_wholeRule, cX5_wholeRule, (Option.some Jvm.ClassFile.FieldType.int)) := rfl
theorem np_X5_wholeRule : ck_np yX5_wholeRule 0 := by unfold ck_np; decide +kernel
theorem nh_X5_wholeRule : ck_nMH yX5_wholeRule := ⟨by decide +kernel, by decide +kernel⟩
theorem my_X5_wholeYard : ck_my 267 = (yX5_wholeYard, cX5_wholeYard, (Option.some (Jvm.ClassFile.FieldType.object "ConkerYard$Yard"))) := rfl
theorem np_X5_wholeYard : ck_np yX5_wholeYard 0 := by unfold ck_np; decide +kernel
theorem nh_X5_wholeYard : ck_nMH yX5_wholeYard := ⟨by decide +kernel, by decide +kernel⟩
theorem my_X6_init : ck_my 268 = (yX6_init, cX6_init, (Option.none : Option Jvm.ClassFile.FieldType)) := rfl
theorem np_X6_init : ck_np yX6_init 3 := by unfold ck_np; decide +kernel
theorem nh_X6_init : ck_nMH yX6_init := ⟨by decide +kernel, by decide +kernel⟩
theorem my_X7_init : ck_my 269 = (yX7_init, cX7_init, (Option.none : Option Jvm.ClassFile.FieldType)) := rfl
theorem np_X7_init : ck_np yX7_init 0 := by unfold ck_np; decide +kernel
theorem nh_X7_init : ck_nMH yX7_init := ⟨by decide +kernel, by decide +kernel⟩
theorem my_X7_wants : ck_my 270 = (yX7_wants, cX7_wants, (Option.some Jvm.ClassFile.FieldType.long)) := rfl
theorem np_X7_wants : ck_np yX7_wants 1 := by unfold ck_np; decide +kernel
theorem nh_X7_wants : ck_nMH yX7_wants := ⟨by decide +kernel, by decide +kernel⟩
theorem my_X8_init : ck_my 271 = (yX8_init, cX8_init, (Option.none : Option Jvm.ClassFile.FieldType)) := rfl
theorem np_X8_init : ck_np yX8_init 0 := by unfold ck_np; decide +kernel
theorem nh_X8_init : ck_nMH yX8_init := ⟨by decide +kernel, by decide +kernel⟩
theorem my_X9_init : ck_my 272 = (yX9_init, cX9_init, (Option.none : Option Jvm.ClassFile.FieldType)) := rfl
theorem np_X9_init : ck_np yX9_init 1 := by unfold ck_np; decide +kernel
theorem nh_X9_init : ck_nMH yX9_init := ⟨by decide +kernel, by decide +kernel⟩
theorem my_X9_of : ck_my 408 = (yX9_of, cX9_of, (Option.some Jvm.ClassFile.FieldType.long)) := rfl
theorem np_X9_of : ck_np yX9_of 1 := by unfold ck_np; decide +kernel
theorem nh_X9_of : ck_nMH yX9_of := ⟨by decide +kernel, by decide +kernel⟩
theorem cls_X0 : ck_Cls 0 RX0 TX0 29 tyX0 := ⟨rfl, in_X0, tyX0_ok, nmX0, by unfold ck_tk; intro k hk; match k, hk with | 0, _ => exact ck_tk_4 | 1, _ => exact ck_tk_4 | 2, _ => exact ck_tk_4 | 3, _ => exact ck_tk_4 | 4, _ => exact ck_tk_0 | 5, _ => exact ck_tk_4 | 6, _ => exact ck_tk_4a | 7, _ => exact ck_tk_0 | 8, _ => exact ck_tk_4a | 9, _ => exact ck_tk_4a | 10, _ => exact ck_tk_4a | 11, _ => exact ck_tk_0 | 12, _ => exact ck_tk_0 | 13, _ => exact ck_tk_4a | 14, _ => exact ck_tk_4a | 15, _ => exact ck_tk_0 | 16, _ => exact ck_tk_0 | 17, _ => exact ck_tk_4a | 18, _ => exact ck_tk_4a | 19, _ => exact ck_tk_4a | 20, _ => exact ck_tk_4a | 21, _ => exact ck_tk_4a | 22, _ => exact ck_tk_4a | 23, _ => exact ck_tk_0 | 24, _ => exact ck_tk_4a | 25, _ => exact ck_tk_4a | 26, _ => exact ck_tk_4a | 27, _ => exact ck_tk_4a | 28, _ => exact ck_tk_4a | n + 29, h => exact absurd h (by omega), q162, q127⟩
theorem cls_X1 : ck_Cls 1 RX1 TX1 3 tyX1 := ⟨rfl, in_X1, tyX1_ok, nmX1, by unfold ck_tk; intro k hk; match k, hk with | 0, _ => exact ck_tk_4 | 1, _ => exact ck_tk_4a | 2, _ => exact ck_tk_0 | n + 3, h => exact absurd h (by omega), q170, q128⟩
theorem cls_J2 : ck_Cls 2 RJ2 TJ2 3 tyJ2 := ⟨rfl, in_J2, tyJ2_ok, nmJ2, by unfold ck_tk; intro k hk; match k, hk with | 0, _ => exact ck_tk_0 | 1, _ => exact ck_tk_4a | 2, _ => exact ck_tk_0 | n + 3, h => exact absurd h (by omega), q176, q131⟩
theorem cls_X2 : ck_Cls 3 RX2 TX2 6 tyX2 := ⟨rfl, in_X2, tyX2_ok, nmX2, by unfold ck_tk; intro k hk; match k, hk with | 0, _ => exact ck_tk_4a | 1, _ => exact ck_tk_4a | 2, _ => exact ck_tk_4a | 3, _ => exact ck_tk_4a | 4, _ => exact ck_tk_0 | 5, _ => exact ck_tk_0 | n + 6, h => exact absurd h (by omega), q221, q132⟩
theorem cls_X3 : ck_Cls 4 RX3 TX3 7 tyX3 := ⟨rfl, in_X3, tyX3_ok, nmX3, by unfold ck_tk; intro k hk; match k, hk with | 0, _ => exact ck_tk_4 | 1, _ => exact ck_tk_4a | 2, _ => exact ck_tk_4 | 3, _ => exact ck_tk_4 | 4, _ => exact ck_tk_4 | 5, _ => exact ck_tk_0 | 6, _ => exact ck_tk_0 | n + 7, h => exact absurd h (by omega), q254, q135⟩
theorem cls_X5 : ck_Cls 5 RX5 TX5 7 tyX5 := ⟨rfl, in_X5, tyX5_ok, nmX5, by unfold ck_tk; intro k hk; match k, hk with | 0, _ => exact ck_tk_4a | 1, _ => exact ck_tk_0 | 2, _ => exact ck_tk_0 | 3, _ => exact ck_tk_0 | 4, _ => exact ck_tk_0 | 5, _ => exact ck_tk_0 | 6, _ => exact ck_tk_4 | n + 7, h => exact absurd h (by omega), q439, q137⟩
theorem cls_X6 : ck_Cls 6 RX6 TX6 3 tyX6 := ⟨rfl, in_X6, tyX6_ok, nmX6, by unfold ck_tk; intro k hk; match k, hk with | 0, _ => exact ck_tk_0 | 1, _ => exact ck_tk_0 | 2, _ => exact ck_tk_0 | n + 3, h => exact absurd h (by omega), q574, q143⟩
theorem cls_X7 : ck_Cls 7 RX7 TX7 1 tyX7 := ⟨rfl, in_X7, tyX7_ok, nmX7, by unfold ck_tk; intro k hk; match k, hk with | 0, _ => exact ck_tk_4 | n + 1, h => exact absurd h (by omega), q695, q149⟩
theorem cls_X9 : ck_Cls 8 RX9 TX9 1 tyX9 := ⟨rfl, in_X9, tyX9_ok, nmX9, by unfold ck_tk; intro k hk; match k, hk with | 0, _ => exact ck_tk_0 | n + 1, h => exact absurd h (by omega), q725, q151⟩
theorem cls_X10 : ck_Cls 9 RX10 TX10 1 tyX10 := ⟨rfl, in_X10, tyX10_ok, nmX10, by unfold ck_tk; intro k hk; match k, hk with | 0, _ => exact ck_tk_0 | n + 1, h => exact absurd h (by omega), q743, q152⟩
theorem cls_X11 : ck_Cls 10 RX11 TX11 3 tyX11 := ⟨rfl, in_X11, tyX11_ok, nmX11, by unfold ck_tk; intro k hk; match k, hk with | 0, _ => exact ck_tk_4 | 1, _ => exact ck_tk_4 | 2, _ => exact ck_tk_0 | n + 3, h => exact absurd h (by omega), q753, q153⟩
theorem cls_X12 : ck_Cls 11 RX12 TX12 2 tyX12 := ⟨rfl, in_X12, tyX12_ok, nmX12, by unfold ck_tk; intro k hk; match k, hk with | 0, _ => exact ck_tk_4 | 1, _ => exact ck_tk_4 | n + 2, h => exact absurd h (by omega), q769, q154⟩
theorem cls_X14 : ck_Cls 12 RX14 TX14 1 tyX14 := ⟨rfl, in_X14, tyX14_ok, nmX14, by unfold ck_tk; intro k hk; match k, hk with | 0, _ => exact ck_tk_4 | n + 1, h => exact absurd h (by omega), q793, q156⟩
theorem cls_X15 : ck_Cls 13 RX15 TX15 4 tyX15 := ⟨rfl, in_X15, tyX15_ok, nmX15, by unfold ck_tk; intro k hk; match k, hk with | 0, _ => exact ck_tk_4 | 1, _ => exact ck_tk_4 | 2, _ => exact ck_tk_0 | 3, _ => exact ck_tk_1 | n + 4, h => exact absurd h (by omega), q806, q157⟩
theorem cls_X16 : ck_Cls 14 RX16 TX16 3 tyX16 := ⟨rfl, in_X16, tyX16_ok, nmX16, by unfold ck_tk; intro k hk; match k, hk with | 0, _ => exact ck_tk_4 | 1, _ => exact ck_tk_4 | 2, _ => exact ck_tk_1 | n + 3, h => exact absurd h (by omega), q826, q158⟩
theorem cls_X17 : ck_Cls 15 RX17 TX17 9 tyX17 := ⟨rfl, in_X17, tyX17_ok, nmX17, by unfold ck_tk; intro k hk; match k, hk with | 0, _ => exact ck_tk_4 | 1, _ => exact ck_tk_4 | 2, _ => exact ck_tk_4a | 3, _ => exact ck_tk_4a | 4, _ => exact ck_tk_4a | 5, _ => exact ck_tk_0 | 6, _ => exact ck_tk_0 | 7, _ => exact ck_tk_0 | 8, _ => exact ck_tk_4 | n + 9, h => exact absurd h (by omega), q1185, q160⟩
theorem cls_X4 : ck_Cls 16 RX4 TX4 43 tyX4 := ⟨rfl, in_X4, tyX4_ok, nmX4, by unfold ck_tk; intro k hk; match k, hk with | 0, _ => exact ck_tk_4a | 1, _ => exact ck_tk_0 | 2, _ => exact ck_tk_0 | 3, _ => exact ck_tk_4a | 4, _ => exact ck_tk_4a | 5, _ => exact ck_tk_4a | 6, _ => exact ck_tk_4a | 7, _ => exact ck_tk_4a | 8, _ => exact ck_tk_0 | 9, _ => exact ck_tk_0 | 10, _ => exact ck_tk_0 | 11, _ => exact ck_tk_0 | 12, _ => exact ck_tk_0 | 13, _ => exact ck_tk_0 | 14, _ => exact ck_tk_0 | 15, _ => exact ck_tk_4a | 16, _ => exact ck_tk_0 | 17, _ => exact ck_tk_4a | 18, _ => exact ck_tk_0 | 19, _ => exact ck_tk_4a | 20, _ => exact ck_tk_4a | 21, _ => exact ck_tk_0 | 22, _ => exact ck_tk_0 | 23, _ => exact ck_tk_0 | 24, _ => exact ck_tk_0 | 25, _ => exact ck_tk_0 | 26, _ => exact ck_tk_0 | 27, _ => exact ck_tk_0 | 28, _ => exact ck_tk_4a | 29, _ => exact ck_tk_0 | 30, _ => exact ck_tk_4a | 31, _ => exact ck_tk_4a | 32, _ => exact ck_tk_4a | 33, _ => exact ck_tk_4a | 34, _ => exact ck_tk_4a | 35, _ => exact ck_tk_4a | 36, _ => exact ck_tk_4a | 37, _ => exact ck_tk_4a | 38, _ => exact ck_tk_3 | 39, _ => exact ck_tk_4a | 40, _ => exact ck_tk_4a | 41, _ => exact ck_tk_4a | 42, _ => exact ck_tk_4a | n + 43, h => exact absurd h (by omega), q1234, q136⟩
