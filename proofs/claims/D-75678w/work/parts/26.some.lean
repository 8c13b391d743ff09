/-! A STEP THAT ANSWERS: what it went through -/
section CkSome
variable {r : ck_O × ck_M}
theorem ck_pI_some {st : List ck_A} {k : Int → List ck_A → ck_Z} (h : ck_pI none st k = some r) : ∃ x st', st = vi x :: st' ∧ k x st' = some r := by
  rcases ck_pI_inv st with ⟨x, s, e1, e⟩ | e <;> rw [e] at h
  · exact ⟨x, s, e1, h⟩
  · cases h
theorem ck_pL_some {st : List ck_A} {k : Int → List ck_A → ck_Z} (h : ck_pL none st k = some r) : ∃ x st', st = vl x :: st' ∧ k x st' = some r := by
  rcases ck_pL_inv st with ⟨x, s, e1, e⟩ | e <;> rw [e] at h
  · exact ⟨x, s, e1, h⟩
  · cases h
theorem ck_pR_some {st : List ck_A} {k : Option Nat → List ck_A → ck_Z} (h : ck_pR none st k = some r) : ∃ x st', st = vr x :: st' ∧ k x st' = some r := by
  rcases ck_pR_inv st with ⟨x, s, e1, e⟩ | e <;> rw [e] at h
  · exact ⟨x, s, e1, h⟩
  · cases h
theorem ck_p1_some {st : List ck_A} {k : ck_A → List ck_A → ck_Z} (h : ck_p1 none st k = some r) : ∃ x st', (st = x :: st' ∧ ((∃ i, x = vi i) ∨ ∃ q, x = vr q)) ∧ k x st' = some r := by
  rcases ck_p1_inv st with ⟨x, s, e1, e2, e⟩ | e <;> rw [e] at h
  · exact ⟨x, s, ⟨e1, e2⟩, h⟩
  · cases h
theorem ck_pop_some {n : Nat} {st : List ck_A} {k : List ck_A → List ck_A → ck_Z} (h : ck_pop none n [] st k = some r) : ∃ as st', (st = as.reverse ++ st' ∧ as.length = n ∧ ∀ a ∈ as, a ≠ vu) ∧ k as st' = some r := by
  rcases ck_pop_inv n [] st with ⟨as, s, e1, e2, e3, e⟩ | e <;> rw [e] at h
  · exact ⟨as, s, ⟨by simpa using e1, by simpa using e2, fun a ha => (e3 a ha).resolve_left List.not_mem_nil⟩, h⟩
  · cases h
theorem ck_aI_some {v : ck_A} {k : Int → ck_Z} (h : ck_aI none v k = some r) : ∃ x, v = vi x ∧ k x = some r := by
  rcases ck_aI_inv v with ⟨x, e1, e⟩ | e <;> rw [e] at h
  · exact ⟨x, e1, h⟩
  · cases h
theorem ck_aL_some {v : ck_A} {k : Int → ck_Z} (h : ck_aL none v k = some r) : ∃ x, v = vl x ∧ k x = some r := by
  rcases ck_aL_inv v with ⟨x, e1, e⟩ | e <;> rw [e] at h
  · exact ⟨x, e1, h⟩
  · cases h
theorem ck_aR_some {v : ck_A} {k : Option Nat → ck_Z} (h : ck_aR none v k = some r) : ∃ x, v = vr x ∧ k x = some r := by
  rcases ck_aR_inv v with ⟨x, e1, e⟩ | e <;> rw [e] at h
  · exact ⟨x, e1, h⟩
  · cases h
theorem ck_sm_some {v : Option Nat} {k : Nat → ck_Z} (h : ck_sm none v k = some r) : ∃ x, v = some x ∧ k x = some r := by
  rcases ck_sm_inv v with ⟨x, e1, e⟩ | e <;> rw [e] at h
  · exact ⟨x, e1, h⟩
  · cases h
theorem ck_lg_some {n : Nat} {l : List ck_A} {k : ck_A → ck_Z} (h : ck_lg none n l k = some r) : ∃ x, l[n]? = some x ∧ k x = some r := by
  rcases ck_lg_inv n l with ⟨x, e1, e⟩ | e <;> rw [e] at h
  · exact ⟨x, e1, h⟩
  · cases h
theorem ck_ls_some {n : Nat} {v : ck_A} {l : List ck_A} {k : List ck_A → ck_Z} (h : ck_ls none n v l k = some r) : ∃ x, ck_sto n v l x ∧ k x = some r := by
  rcases ck_ls_inv n v l with ⟨x, e1, e⟩ | e <;> rw [e] at h
  · exact ⟨x, e1, h⟩
  · cases h
theorem ck_ll_some {n : Nat} {v : Int} {l : List ck_A} {k : List ck_A → ck_Z} (h : ck_ll none n v l k = some r) : ∃ x, ck_sto2 n v l x ∧ k x = some r := by
  rcases ck_ll_inv n v l with ⟨x, e1, e⟩ | e <;> rw [e] at h
  · exact ⟨x, e1, h⟩
  · cases h
theorem ck_nl_some {st : List ck_A} {k : ck_Z} (h : ck_nl none st k = some r) : st = [] ∧ k = some r := by
  rcases ck_nl_inv st with ⟨e1, e⟩ | e <;> rw [e] at h
  · exact ⟨e1, h⟩
  · cases h
theorem ck_eF_some {o : Option ck_E} {k : Nat → Nat → Nat → ck_Z} (h : ck_eF none o k = some r) : ∃ t c f ty z, (o = some (t, c, f, ty, z) ∧ (t = 1 ∨ t = 11 ∨ t = 12)) ∧ k c f ty = some r := by
  rcases ck_eF_inv o with ⟨t, c, f, ty, z, e1, e2, e⟩ | e <;> rw [e] at h
  · exact ⟨t, c, f, ty, z, ⟨e1, e2⟩, h⟩
  · cases h
theorem ck_eP_some {o : Option ck_E} {i : Bool} {k : Nat → Nat → Nat → ck_Z} (h : ck_eP none o i k = some r) : ∃ t c f ty z, (o = some (t, c, f, ty, z) ∧ (t = 1 ∨ t = 11 ∧ i = true)) ∧ k c f ty = some r := by
  rcases ck_eP_inv o i with ⟨t, c, f, ty, z, e1, e2, e⟩ | e <;> rw [e] at h
  · exact ⟨t, c, f, ty, z, ⟨e1, e2⟩, h⟩
  · cases h
theorem ck_eS_some {o : Option ck_E} {k : Nat → Nat → ck_Z} (h : ck_eS none o k = some r) : ∃ f ty c z, o = some (2, f, ty, c, z) ∧ k f ty = some r := by
  rcases ck_eS_inv o with ⟨f, ty, c, z, e1, e⟩ | e <;> rw [e] at h
  · exact ⟨f, ty, c, z, e1, h⟩
  · cases h
theorem ck_eM_some {ks : List Nat} {o : Option ck_E} {k : ck_E → ck_Z} (h : ck_eM none ks o k = some r) : ∃ a b c d, (o = some (3, a, b, c, d) ∧ ks.elem a = true) ∧ k (3, a, b, c, d) = some r := by
  rcases ck_eM_inv ks o with ⟨f, ty, c, z, e1, e2, e⟩ | e <;> rw [e] at h
  · exact ⟨f, ty, c, z, ⟨e1, e2⟩, h⟩
  · cases h
theorem ck_eC_some {o : Option ck_E} {k : Nat → Nat → ck_Z} (h : ck_eC none o k = some r) : ∃ f ty c z, o = some (8, f, ty, c, z) ∧ k f ty = some r := by
  rcases ck_eC_inv o with ⟨f, ty, c, z, e1, e⟩ | e <;> rw [e] at h
  · exact ⟨f, ty, c, z, e1, h⟩
  · cases h
theorem ck_eA_some {o : Option ck_E} {k : Nat → ck_Z} (h : ck_eA none o k = some r) : ∃ v a b c z, (o = some (9, v, b, c, z) ∨ o = some (8, a, b, v, z)) ∧ k v = some r := by
  rcases ck_eA_inv o with ⟨v, a, b, c, z, e1, e⟩ | e <;> rw [e] at h
  · exact ⟨v, a, b, c, z, e1, h⟩
  · cases h
theorem ck_eK_some {o : Option ck_E} {k : ck_A → ck_Z} (h : ck_eK none o k = some r) : ∃ v f ty c z, (o = some (4, f, ty, c, z) ∧ v = vi z ∨ o = some (6, f, ty, c, z) ∧ v = vr (some f)) ∧ k v = some r := by
  rcases ck_eK_inv o with ⟨v, f, ty, c, z, e1, e⟩ | e <;> rw [e] at h
  · exact ⟨v, f, ty, c, z, e1, h⟩
  · cases h
theorem ck_eL_some {o : Option ck_E} {k : Int → ck_Z} (h : ck_eL none o k = some r) : ∃ f ty c z, o = some (5, f, ty, c, z) ∧ k z = some r := by
  rcases ck_eL_inv o with ⟨f, ty, c, z, e1, e⟩ | e <;> rw [e] at h
  · exact ⟨f, ty, c, z, e1, h⟩
  · cases h
theorem ck_ty_some {ty : Nat} {a b c : ck_Z} (h : ck_ty ty a b c = some r) : (ty = 4 ∧ c = some r) ∨ (ty = 3 ∧ b = some r) ∨ ((ty ≠ 3 ∧ ty ≠ 4) ∧ a = some r) := by
  rcases ck_ty_inv ty with ⟨h1, e⟩ | ⟨h1, e⟩ | ⟨h1, h2, e⟩ <;> rw [e] at h
  · exact Or.inl ⟨h1, h⟩
  · exact Or.inr (Or.inl ⟨h1, h⟩)
  · exact Or.inr (Or.inr ⟨⟨h1, h2⟩, h⟩)
theorem ck_at_some {t : ArrayType} {k : Nat → ck_Z} (h : ck_at none t k = some r) : ∃ v, (t = .int ∧ v = 100 ∨ t = .byte ∧ v = 101 ∨ t = .boolean ∧ v = 102 ∨ t = .long ∧ v = 103) ∧ k v = some r := by
  cases t
  · exact ⟨102, by simp, h⟩
  · cases h
  · cases h
  · cases h
  · exact ⟨101, by simp, h⟩
  · cases h
  · exact ⟨100, by simp, h⟩
  · exact ⟨103, by simp, h⟩
theorem ck_oi_some {c : Prop} {i : Decidable c} {a b : ck_Z} (h : ck_oi c i a b = some r) : (c ∧ a = some r) ∨ (¬ c ∧ b = some r) := by
  unfold ck_oi at h
  by_cases hc : c
  · rw [if_pos hc] at h; exact Or.inl ⟨hc, h⟩
  · rw [if_neg hc] at h; exact Or.inr ⟨hc, h⟩
theorem ck_oq_some {c : Prop} {i : Decidable c} {a : ck_Z} (h : ck_oq c i a = some r) : c ∧ a = some r := by
  unfold ck_oq at h
  by_cases hc : c
  · rw [if_pos hc] at h; exact ⟨hc, h⟩
  · rw [if_neg hc] at h; cases h
theorem ck_ox_some {x : Int} {n : Nat} {k : Nat → ck_Z} (h : ck_ox x n k = some r) : ∃ j : Nat, (x = (j : Int) ∧ j < n) ∧ k j = some r := by
  unfold ck_ox at h
  by_cases hc : 0 ≤ x ∧ x < n
  · rw [if_pos hc] at h; exact ⟨x.toNat, ⟨by omega, by omega⟩, h⟩
  · rw [if_neg hc] at h; cases h
theorem ck_od_some {q : Option Nat} {k : Nat → ck_Z} (h : ck_od q k = some r) : ∃ i, q = some i ∧ k i = some r := by
  cases q with
  | none => cases h
  | some i => exact ⟨i, rfl, h⟩
theorem ck_rcv_some {as : List ck_A} {k : Nat → ck_Z} (h : ck_rcv none ck_od as k = some r) : ∃ i as', as = vr (some i) :: as' ∧ k i = some r := by
  rcases as with _ | ⟨x | x | x | x, as⟩ <;> try cases h
  obtain ⟨i, rfl, h⟩ := ck_od_some h
  exact ⟨i, as, rfl, h⟩
theorem ck_cpA_some {as : List ck_A} {k : Nat → Int → Nat → Int → Int → ck_Z} (h : ck_cpA none ck_od as k = some r) : ∃ i sp j dp n, as = [vr (some i), vi sp, vr (some j), vi dp, vi n] ∧ k i sp j dp n = some r := by
  rcases as with _ | ⟨x | x | x | x, as⟩ <;> try cases h
  rcases as with _ | ⟨y | y | y | y, as⟩ <;> try cases h
  rcases as with _ | ⟨z | z | z | z, as⟩ <;> try cases h
  rcases as with _ | ⟨u | u | u | u, as⟩ <;> try cases h
  rcases as with _ | ⟨v | v | v | v, as⟩ <;> try cases h
  rcases as with _ | ⟨w, as⟩ <;> try cases h
  obtain ⟨i, rfl, h⟩ := ck_od_some h
  obtain ⟨j, rfl, h⟩ := ck_od_some h
  exact ⟨i, _, j, _, _, rfl, h⟩
theorem ck_mm_some {as : List ck_A} {k : Int → Int → ck_Z} (h : ck_mm none as k = some r) : ∃ x y, as = [vi x, vi y] ∧ k x y = some r := by
  rcases as with _ | ⟨x | x | x | x, as⟩ <;> try cases h
  rcases as with _ | ⟨y | y | y | y, as⟩ <;> try cases h
  rcases as with _ | ⟨w, as⟩ <;> try cases h
  exact ⟨_, _, rfl, h⟩
theorem ck_dn_some {mL : Nat} {as : List ck_A} {d : Nat} {k : Nat → ck_Z} (h : ck_dn mL as d k = some r) : ∃ d', (d = d' + 1 ∧ ck_cat as ≤ mL) ∧ k d' = some r := by
  unfold ck_dn at h
  cases hb : Nat.ble (ck_cat as) mL with
  | false => rw [hb] at h; cases h
  | true =>
    rw [hb] at h
    cases d with
    | zero => cases h
    | succ d => exact ⟨d, ⟨rfl, Nat.le_of_ble_eq_true hb⟩, h⟩
theorem ck_ob_some {z : ck_Z} {k : Option ck_A → ck_M → ck_Z} {kx : Nat → ck_M → ck_Z} (h : ck_ob z k kx = some r) : (∃ v M, z = some (.inl v, M) ∧ k v M = some r) ∨ ∃ i M, z = some (.inr i, M) ∧ kx i M = some r := by
  rcases z with _ | ⟨v | i, M⟩
  · cases h
  · exact Or.inl ⟨v, M, rfl, h⟩
  · exact Or.inr ⟨i, M, rfl, h⟩
theorem ck_ot_some {ev : Nat → List ck_A → List ck_A → ck_M → ck_Z} {Dm : ck_D} {pc i : Nat} {l : List ck_A} {M : ck_M} (h : ck_ot ev Dm pc i l M = some r) : (∃ t, ck_hd Dm.2.2.2.2.2 pc = some t ∧ ev t l [vr (some i)] M = some r) ∨ (Dm.2.2.2.2.2 = [] ∧ r = (.inr i, M)) := by
  unfold ck_ot at h
  cases e : ck_hd Dm.2.2.2.2.2 pc with
  | some t => rw [e] at h; exact Or.inl ⟨t, rfl, h⟩
  | none =>
    rw [e] at h
    cases e2 : Dm.2.2.2.2.2 with
    | nil => rw [e2] at h; exact Or.inr ⟨rfl, (Option.some.inj h).symm⟩
    | cons a b => rw [e2] at h; cases h
/-- growth -/
def ck_gw (M : ck_M) (z : ck_Z) : Prop := ∀ r : ck_O × ck_M, z = some r → M.n ≤ r.2.n ∧ M.z ≤ r.2.z
set_option maxHeartbeats 4000000 in
theorem ck_stp_grow {nxt : Nat → List ck_A → List ck_A → ck_M → ck_Z} {cal : ck_E → List ck_A → Nat → List ck_A → List ck_A → ck_M → ck_Z} {ret : Option ck_A → ck_M → ck_Z} {thr : Nat → List ck_A → ck_M → ck_Z}
    (hnxt : ∀ pc l st M, ck_gw M (nxt pc l st M)) (hcal : ∀ e as nx l st M, ck_gw M (cal e as nx l st M)) (hret : ∀ v M, ck_gw M (ret v M)) (hthr : ∀ i l M, ck_gw M (thr i l M)) (Dm : ck_D) (ins : Instr) (pc nx tg : Nat) (l st : List ck_A) (M : ck_M) :
    ck_gw M (ck_stp none ck_oi ck_oq (fun x k => k x) (fun x k => k x) (fun x k => k x) ck_ox ck_od nxt cal ret thr Dm ins pc nx tg l st M) := by
  intro r h
  have fin : ∀ pc l st M', (M.n ≤ M'.n ∧ M.z ≤ M'.z) → nxt pc l st M' = some r → M.n ≤ r.2.n ∧ M.z ≤ r.2.z := fun pc l st M' h1 h2 => ⟨Nat.le_trans h1.1 (hnxt _ _ _ _ r h2).1, Nat.le_trans h1.2 (hnxt _ _ _ _ r h2).2⟩
  cases ins with
  | iconst _ =>
    unfold ck_stp at h; dsimp only at h
    exact fin _ _ _ M ⟨Nat.le_refl _, Nat.le_refl _⟩ h
  | bipush _ =>
    unfold ck_stp at h; dsimp only at h
    exact fin _ _ _ M ⟨Nat.le_refl _, Nat.le_refl _⟩ h
  | sipush _ =>
    unfold ck_stp at h; dsimp only at h
    exact fin _ _ _ M ⟨Nat.le_refl _, Nat.le_refl _⟩ h
  | lconst _ =>
    unfold ck_stp at h; dsimp only at h
    exact fin _ _ _ M ⟨Nat.le_refl _, Nat.le_refl _⟩ h
  | aconst_null =>
    unfold ck_stp at h; dsimp only at h
    exact fin _ _ _ M ⟨Nat.le_refl _, Nat.le_refl _⟩ h
  | iload _ =>
    unfold ck_stp at h; dsimp only at h
    obtain ⟨_, -, h⟩ := ck_lg_some h
    obtain ⟨_, -, h⟩ := ck_aI_some h
    exact fin _ _ _ M ⟨Nat.le_refl _, Nat.le_refl _⟩ h
  | iload_n _ =>
    unfold ck_stp at h; dsimp only at h
    obtain ⟨_, -, h⟩ := ck_lg_some h
    obtain ⟨_, -, h⟩ := ck_aI_some h
    exact fin _ _ _ M ⟨Nat.le_refl _, Nat.le_refl _⟩ h
  | lload _ =>
    unfold ck_stp at h; dsimp only at h
    obtain ⟨_, -, h⟩ := ck_lg_some h
    obtain ⟨_, -, h⟩ := ck_aL_some h
    exact fin _ _ _ M ⟨Nat.le_refl _, Nat.le_refl _⟩ h
  | lload_n _ =>
    unfold ck_stp at h; dsimp only at h
    obtain ⟨_, -, h⟩ := ck_lg_some h
    obtain ⟨_, -, h⟩ := ck_aL_some h
    exact fin _ _ _ M ⟨Nat.le_refl _, Nat.le_refl _⟩ h
  | aload _ =>
    unfold ck_stp at h; dsimp only at h
    obtain ⟨_, -, h⟩ := ck_lg_some h
    obtain ⟨_, -, h⟩ := ck_aR_some h
    exact fin _ _ _ M ⟨Nat.le_refl _, Nat.le_refl _⟩ h
  | aload_n _ =>
    unfold ck_stp at h; dsimp only at h
    obtain ⟨_, -, h⟩ := ck_lg_some h
    obtain ⟨_, -, h⟩ := ck_aR_some h
    exact fin _ _ _ M ⟨Nat.le_refl _, Nat.le_refl _⟩ h
  | istore _ =>
    unfold ck_stp at h; dsimp only at h
    obtain ⟨_, _, -, h⟩ := ck_pI_some h
    obtain ⟨_, -, h⟩ := ck_ls_some h
    exact fin _ _ _ M ⟨Nat.le_refl _, Nat.le_refl _⟩ h
  | istore_n _ =>
    unfold ck_stp at h; dsimp only at h
    obtain ⟨_, _, -, h⟩ := ck_pI_some h
    obtain ⟨_, -, h⟩ := ck_ls_some h
    exact fin _ _ _ M ⟨Nat.le_refl _, Nat.le_refl _⟩ h
  | lstore _ =>
    unfold ck_stp at h; dsimp only at h
    obtain ⟨_, _, -, h⟩ := ck_pL_some h
    obtain ⟨_, -, h⟩ := ck_ll_some h
    exact fin _ _ _ M ⟨Nat.le_refl _, Nat.le_refl _⟩ h
  | lstore_n _ =>
    unfold ck_stp at h; dsimp only at h
    obtain ⟨_, _, -, h⟩ := ck_pL_some h
    obtain ⟨_, -, h⟩ := ck_ll_some h
    exact fin _ _ _ M ⟨Nat.le_refl _, Nat.le_refl _⟩ h
  | astore _ =>
    unfold ck_stp at h; dsimp only at h
    obtain ⟨_, _, -, h⟩ := ck_pR_some h
    obtain ⟨_, -, h⟩ := ck_ls_some h
    exact fin _ _ _ M ⟨Nat.le_refl _, Nat.le_refl _⟩ h
  | astore_n _ =>
    unfold ck_stp at h; dsimp only at h
    obtain ⟨_, _, -, h⟩ := ck_pR_some h
    obtain ⟨_, -, h⟩ := ck_ls_some h
    exact fin _ _ _ M ⟨Nat.le_refl _, Nat.le_refl _⟩ h
  | iinc _ _ =>
    unfold ck_stp at h; dsimp only at h
    obtain ⟨_, -, h⟩ := ck_lg_some h
    obtain ⟨_, -, h⟩ := ck_aI_some h
    obtain ⟨_, -, h⟩ := ck_ls_some h
    exact fin _ _ _ M ⟨Nat.le_refl _, Nat.le_refl _⟩ h
  | iadd =>
    unfold ck_stp at h; dsimp only at h
    obtain ⟨_, _, -, h⟩ := ck_pI_some h
    obtain ⟨_, _, -, h⟩ := ck_pI_some h
    exact fin _ _ _ M ⟨Nat.le_refl _, Nat.le_refl _⟩ h
  | isub =>
    unfold ck_stp at h; dsimp only at h
    obtain ⟨_, _, -, h⟩ := ck_pI_some h
    obtain ⟨_, _, -, h⟩ := ck_pI_some h
    exact fin _ _ _ M ⟨Nat.le_refl _, Nat.le_refl _⟩ h
  | imul =>
    unfold ck_stp at h; dsimp only at h
    obtain ⟨_, _, -, h⟩ := ck_pI_some h
    obtain ⟨_, _, -, h⟩ := ck_pI_some h
    exact fin _ _ _ M ⟨Nat.le_refl _, Nat.le_refl _⟩ h
  | ineg =>
    unfold ck_stp at h; dsimp only at h
    obtain ⟨_, _, -, h⟩ := ck_pI_some h
    exact fin _ _ _ M ⟨Nat.le_refl _, Nat.le_refl _⟩ h
  | iand =>
    unfold ck_stp at h; dsimp only at h
    obtain ⟨_, _, -, h⟩ := ck_pI_some h
    obtain ⟨_, _, -, h⟩ := ck_pI_some h
    exact fin _ _ _ M ⟨Nat.le_refl _, Nat.le_refl _⟩ h
  | ior =>
    unfold ck_stp at h; dsimp only at h
    obtain ⟨_, _, -, h⟩ := ck_pI_some h
    obtain ⟨_, _, -, h⟩ := ck_pI_some h
    exact fin _ _ _ M ⟨Nat.le_refl _, Nat.le_refl _⟩ h
  | ixor =>
    unfold ck_stp at h; dsimp only at h
    obtain ⟨_, _, -, h⟩ := ck_pI_some h
    obtain ⟨_, _, -, h⟩ := ck_pI_some h
    exact fin _ _ _ M ⟨Nat.le_refl _, Nat.le_refl _⟩ h
  | iushr =>
    unfold ck_stp at h; dsimp only at h
    obtain ⟨_, _, -, h⟩ := ck_pI_some h
    obtain ⟨_, _, -, h⟩ := ck_pI_some h
    exact fin _ _ _ M ⟨Nat.le_refl _, Nat.le_refl _⟩ h
  | idiv =>
    unfold ck_stp at h; dsimp only at h
    obtain ⟨_, _, -, h⟩ := ck_pI_some h
    obtain ⟨_, _, -, h⟩ := ck_pI_some h
    obtain ⟨-, h⟩ := ck_oq_some h
    exact fin _ _ _ M ⟨Nat.le_refl _, Nat.le_refl _⟩ h
  | irem =>
    unfold ck_stp at h; dsimp only at h
    obtain ⟨_, _, -, h⟩ := ck_pI_some h
    obtain ⟨_, _, -, h⟩ := ck_pI_some h
    obtain ⟨-, h⟩ := ck_oq_some h
    exact fin _ _ _ M ⟨Nat.le_refl _, Nat.le_refl _⟩ h
  | ishl =>
    unfold ck_stp at h; dsimp only at h
    obtain ⟨_, _, -, h⟩ := ck_pI_some h
    obtain ⟨_, _, -, h⟩ := ck_pI_some h
    obtain ⟨-, h⟩ := ck_oq_some h
    exact fin _ _ _ M ⟨Nat.le_refl _, Nat.le_refl _⟩ h
  | ishr =>
    unfold ck_stp at h; dsimp only at h
    obtain ⟨_, _, -, h⟩ := ck_pI_some h
    obtain ⟨_, _, -, h⟩ := ck_pI_some h
    obtain ⟨-, h⟩ := ck_oq_some h
    exact fin _ _ _ M ⟨Nat.le_refl _, Nat.le_refl _⟩ h
  | ladd =>
    unfold ck_stp at h; dsimp only at h
    obtain ⟨_, _, -, h⟩ := ck_pL_some h
    obtain ⟨_, _, -, h⟩ := ck_pL_some h
    exact fin _ _ _ M ⟨Nat.le_refl _, Nat.le_refl _⟩ h
  | lsub =>
    unfold ck_stp at h; dsimp only at h
    obtain ⟨_, _, -, h⟩ := ck_pL_some h
    obtain ⟨_, _, -, h⟩ := ck_pL_some h
    exact fin _ _ _ M ⟨Nat.le_refl _, Nat.le_refl _⟩ h
  | lmul =>
    unfold ck_stp at h; dsimp only at h
    obtain ⟨_, _, -, h⟩ := ck_pL_some h
    obtain ⟨_, _, -, h⟩ := ck_pL_some h
    exact fin _ _ _ M ⟨Nat.le_refl _, Nat.le_refl _⟩ h
  | ldiv =>
    unfold ck_stp at h; dsimp only at h
    obtain ⟨_, _, -, h⟩ := ck_pL_some h
    obtain ⟨_, _, -, h⟩ := ck_pL_some h
    obtain ⟨-, h⟩ := ck_oq_some h
    exact fin _ _ _ M ⟨Nat.le_refl _, Nat.le_refl _⟩ h
  | lrem =>
    unfold ck_stp at h; dsimp only at h
    obtain ⟨_, _, -, h⟩ := ck_pL_some h
    obtain ⟨_, _, -, h⟩ := ck_pL_some h
    obtain ⟨-, h⟩ := ck_oq_some h
    exact fin _ _ _ M ⟨Nat.le_refl _, Nat.le_refl _⟩ h
  | land =>
    unfold ck_stp at h; dsimp only at h
    obtain ⟨_, _, -, h⟩ := ck_pL_some h
    obtain ⟨_, _, -, h⟩ := ck_pL_some h
    exact fin _ _ _ M ⟨Nat.le_refl _, Nat.le_refl _⟩ h
  | lor =>
    unfold ck_stp at h; dsimp only at h
    obtain ⟨_, _, -, h⟩ := ck_pL_some h
    obtain ⟨_, _, -, h⟩ := ck_pL_some h
    exact fin _ _ _ M ⟨Nat.le_refl _, Nat.le_refl _⟩ h
  | lshl =>
    unfold ck_stp at h; dsimp only at h
    obtain ⟨_, _, -, h⟩ := ck_pI_some h
    obtain ⟨_, _, -, h⟩ := ck_pL_some h
    exact fin _ _ _ M ⟨Nat.le_refl _, Nat.le_refl _⟩ h
  | lcmp =>
    unfold ck_stp at h; dsimp only at h
    obtain ⟨_, _, -, h⟩ := ck_pL_some h
    obtain ⟨_, _, -, h⟩ := ck_pL_some h
    obtain ⟨-, h⟩ := ck_oq_some h
    exact fin _ _ _ M ⟨Nat.le_refl _, Nat.le_refl _⟩ h
  | i2l =>
    unfold ck_stp at h; dsimp only at h
    obtain ⟨_, _, -, h⟩ := ck_pI_some h
    obtain ⟨-, h⟩ := ck_oq_some h
    exact fin _ _ _ M ⟨Nat.le_refl _, Nat.le_refl _⟩ h
  | l2i =>
    unfold ck_stp at h; dsimp only at h
    obtain ⟨_, _, -, h⟩ := ck_pL_some h
    exact fin _ _ _ M ⟨Nat.le_refl _, Nat.le_refl _⟩ h
  | i2b =>
    unfold ck_stp at h; dsimp only at h
    obtain ⟨_, _, -, h⟩ := ck_pI_some h
    exact fin _ _ _ M ⟨Nat.le_refl _, Nat.le_refl _⟩ h
  | i2c =>
    unfold ck_stp at h; dsimp only at h
    obtain ⟨_, _, -, h⟩ := ck_pI_some h
    exact fin _ _ _ M ⟨Nat.le_refl _, Nat.le_refl _⟩ h
  | dup =>
    unfold ck_stp at h; dsimp only at h
    obtain ⟨_, _, -, h⟩ := ck_p1_some h
    exact fin _ _ _ M ⟨Nat.le_refl _, Nat.le_refl _⟩ h
  | pop =>
    unfold ck_stp at h; dsimp only at h
    obtain ⟨_, _, -, h⟩ := ck_p1_some h
    exact fin _ _ _ M ⟨Nat.le_refl _, Nat.le_refl _⟩ h
  | dup2 =>
    unfold ck_stp at h; dsimp only at h
    obtain ⟨_, _, -, h⟩ := ck_pI_some h
    obtain ⟨_, _, -, h⟩ := ck_pR_some h
    exact fin _ _ _ M ⟨Nat.le_refl _, Nat.le_refl _⟩ h
  | dup_x1 =>
    unfold ck_stp at h; dsimp only at h
    obtain ⟨_, _, -, h⟩ := ck_pR_some h
    obtain ⟨_, _, -, h⟩ := ck_pR_some h
    exact fin _ _ _ M ⟨Nat.le_refl _, Nat.le_refl _⟩ h
  | ifCond cnd _ =>
    unfold ck_stp at h; dsimp only at h
    obtain ⟨_, _, -, h⟩ := ck_pI_some h
    obtain ⟨-, h⟩ := ck_oq_some h
    cases cnd <;> (dsimp only [ck_cd] at h; rcases ck_oi_some h with ⟨-, h⟩ | ⟨-, h⟩ <;> exact fin _ _ _ M ⟨Nat.le_refl _, Nat.le_refl _⟩ h)
  | if_icmp cnd _ =>
    unfold ck_stp at h; dsimp only at h
    obtain ⟨_, _, -, h⟩ := ck_pI_some h
    obtain ⟨_, _, -, h⟩ := ck_pI_some h
    obtain ⟨-, h⟩ := ck_oq_some h
    cases cnd <;> (dsimp only [ck_cd] at h; rcases ck_oi_some h with ⟨-, h⟩ | ⟨-, h⟩ <;> exact fin _ _ _ M ⟨Nat.le_refl _, Nat.le_refl _⟩ h)
  | if_acmp cnd _ =>
    unfold ck_stp at h; dsimp only at h
    obtain ⟨_, _, -, h⟩ := ck_pR_some h
    obtain ⟨_, _, -, h⟩ := ck_pR_some h
    obtain ⟨_, -, h⟩ := ck_sm_some h
    obtain ⟨_, -, h⟩ := ck_sm_some h
    obtain ⟨-, h⟩ := ck_oq_some h
    cases cnd <;> (dsimp only [ck_ac] at h; exact fin _ _ _ M ⟨Nat.le_refl _, Nat.le_refl _⟩ h)
  | ifnull _ =>
    unfold ck_stp at h; dsimp only at h
    obtain ⟨_, _, -, h⟩ := ck_pR_some h
    rcases ck_oi_some h with ⟨-, h⟩ | ⟨-, h⟩ <;> exact fin _ _ _ M ⟨Nat.le_refl _, Nat.le_refl _⟩ h
  | ifnonnull _ =>
    unfold ck_stp at h; dsimp only at h
    obtain ⟨_, _, -, h⟩ := ck_pR_some h
    rcases ck_oi_some h with ⟨-, h⟩ | ⟨-, h⟩ <;> exact fin _ _ _ M ⟨Nat.le_refl _, Nat.le_refl _⟩ h
  | goto _ =>
    unfold ck_stp at h; dsimp only at h
    exact fin _ _ _ M ⟨Nat.le_refl _, Nat.le_refl _⟩ h
  | tableswitch _ _ _ _ =>
    unfold ck_stp at h; dsimp only at h
    obtain ⟨_, _, -, h⟩ := ck_pI_some h
    obtain ⟨-, h⟩ := ck_oq_some h
    rcases ck_oi_some h with ⟨-, h⟩ | ⟨-, h⟩ <;> exact fin _ _ _ M ⟨Nat.le_refl _, Nat.le_refl _⟩ h
  | getfield _ =>
    unfold ck_stp at h; dsimp only at h
    obtain ⟨_, _, _, _, _, -, h⟩ := ck_eF_some h
    obtain ⟨_, _, -, h⟩ := ck_pR_some h
    obtain ⟨_, -, h⟩ := ck_od_some h
    obtain ⟨-, h⟩ := ck_oq_some h
    rcases ck_ty_some h with ⟨-, h⟩ | ⟨-, h⟩ | ⟨-, h⟩
    · skip
      exact fin _ _ _ M ⟨Nat.le_refl _, Nat.le_refl _⟩ h
    · skip
      exact fin _ _ _ M ⟨Nat.le_refl _, Nat.le_refl _⟩ h
    · skip
      exact fin _ _ _ M ⟨Nat.le_refl _, Nat.le_refl _⟩ h
  | putfield _ =>
    unfold ck_stp at h; dsimp only at h
    obtain ⟨_, _, _, _, _, -, h⟩ := ck_eP_some h
    rcases ck_ty_some h with ⟨-, h⟩ | ⟨-, h⟩ | ⟨-, h⟩
    · skip
      obtain ⟨_, _, -, h⟩ := ck_pR_some h
      obtain ⟨_, _, -, h⟩ := ck_pR_some h
      obtain ⟨_, -, h⟩ := ck_od_some h
      obtain ⟨-, h⟩ := ck_oq_some h
      exact fin _ _ _ (M.sR _ _ _) ⟨Nat.le_refl _, Nat.le_refl _⟩ h
    · skip
      obtain ⟨_, _, -, h⟩ := ck_pL_some h
      obtain ⟨_, _, -, h⟩ := ck_pR_some h
      obtain ⟨_, -, h⟩ := ck_od_some h
      obtain ⟨-, h⟩ := ck_oq_some h
      exact fin _ _ _ (M.sV _ _ _) ⟨Nat.le_refl _, Nat.le_refl _⟩ h
    · skip
      obtain ⟨_, _, -, h⟩ := ck_pI_some h
      obtain ⟨_, _, -, h⟩ := ck_pR_some h
      obtain ⟨_, -, h⟩ := ck_od_some h
      obtain ⟨-, h⟩ := ck_oq_some h
      exact fin _ _ _ (M.sV _ _ _) ⟨Nat.le_refl _, Nat.le_refl _⟩ h
  | getstatic _ =>
    unfold ck_stp at h; dsimp only at h
    obtain ⟨_, _, _, _, -, h⟩ := ck_eS_some h
    rcases ck_ty_some h with ⟨-, h⟩ | ⟨-, h⟩ | ⟨-, h⟩
    · skip
      exact fin _ _ _ M ⟨Nat.le_refl _, Nat.le_refl _⟩ h
    · skip
      exact fin _ _ _ M ⟨Nat.le_refl _, Nat.le_refl _⟩ h
    · skip
      exact fin _ _ _ M ⟨Nat.le_refl _, Nat.le_refl _⟩ h
  | ldc _ =>
    unfold ck_stp at h; dsimp only at h
    obtain ⟨_, _, _, _, _, -, h⟩ := ck_eK_some h
    exact fin _ _ _ M ⟨Nat.le_refl _, Nat.le_refl _⟩ h
  | ldc_w _ =>
    unfold ck_stp at h; dsimp only at h
    obtain ⟨_, _, _, _, _, -, h⟩ := ck_eK_some h
    exact fin _ _ _ M ⟨Nat.le_refl _, Nat.le_refl _⟩ h
  | ldc2_w _ =>
    unfold ck_stp at h; dsimp only at h
    obtain ⟨_, _, _, _, -, h⟩ := ck_eL_some h
    exact fin _ _ _ M ⟨Nat.le_refl _, Nat.le_refl _⟩ h
  | new _ =>
    unfold ck_stp at h; dsimp only at h
    obtain ⟨_, _, _, _, -, h⟩ := ck_eC_some h
    exact fin _ _ _ (M.mk _ _) ⟨Nat.le_succ _, Nat.le_add_right _ _⟩ h
  | newarray _ =>
    unfold ck_stp at h; dsimp only at h
    obtain ⟨_, -, h⟩ := ck_at_some h
    obtain ⟨_, _, -, h⟩ := ck_pI_some h
    obtain ⟨-, h⟩ := ck_oq_some h
    exact fin _ _ _ (M.mk _ _) ⟨Nat.le_succ _, Nat.le_add_right _ _⟩ h
  | anewarray _ =>
    unfold ck_stp at h; dsimp only at h
    obtain ⟨_, _, _, _, _, -, h⟩ := ck_eA_some h
    obtain ⟨_, _, -, h⟩ := ck_pI_some h
    obtain ⟨-, h⟩ := ck_oq_some h
    exact fin _ _ _ (M.mk _ _) ⟨Nat.le_succ _, Nat.le_add_right _ _⟩ h
  | arraylength =>
    unfold ck_stp at h; dsimp only at h
    obtain ⟨_, _, -, h⟩ := ck_pR_some h
    obtain ⟨_, -, h⟩ := ck_od_some h
    obtain ⟨-, h⟩ := ck_oq_some h
    exact fin _ _ _ M ⟨Nat.le_refl _, Nat.le_refl _⟩ h
  | iaload =>
    unfold ck_stp at h; dsimp only at h
    obtain ⟨_, _, -, h⟩ := ck_pI_some h
    obtain ⟨_, _, -, h⟩ := ck_pR_some h
    obtain ⟨_, -, h⟩ := ck_od_some h
    obtain ⟨-, h⟩ := ck_oq_some h
    obtain ⟨_, -, h⟩ := ck_ox_some h
    exact fin _ _ _ M ⟨Nat.le_refl _, Nat.le_refl _⟩ h
  | baload =>
    unfold ck_stp at h; dsimp only at h
    obtain ⟨_, _, -, h⟩ := ck_pI_some h
    obtain ⟨_, _, -, h⟩ := ck_pR_some h
    obtain ⟨_, -, h⟩ := ck_od_some h
    obtain ⟨-, h⟩ := ck_oq_some h
    obtain ⟨_, -, h⟩ := ck_ox_some h
    exact fin _ _ _ M ⟨Nat.le_refl _, Nat.le_refl _⟩ h
  | laload =>
    unfold ck_stp at h; dsimp only at h
    obtain ⟨_, _, -, h⟩ := ck_pI_some h
    obtain ⟨_, _, -, h⟩ := ck_pR_some h
    obtain ⟨_, -, h⟩ := ck_od_some h
    obtain ⟨-, h⟩ := ck_oq_some h
    obtain ⟨_, -, h⟩ := ck_ox_some h
    exact fin _ _ _ M ⟨Nat.le_refl _, Nat.le_refl _⟩ h
  | aaload =>
    unfold ck_stp at h; dsimp only at h
    obtain ⟨_, _, -, h⟩ := ck_pI_some h
    obtain ⟨_, _, -, h⟩ := ck_pR_some h
    obtain ⟨_, -, h⟩ := ck_od_some h
    obtain ⟨-, h⟩ := ck_oq_some h
    obtain ⟨_, -, h⟩ := ck_ox_some h
    exact fin _ _ _ M ⟨Nat.le_refl _, Nat.le_refl _⟩ h
  | iastore =>
    unfold ck_stp at h; dsimp only at h
    obtain ⟨_, _, -, h⟩ := ck_pI_some h
    obtain ⟨_, _, -, h⟩ := ck_pI_some h
    obtain ⟨_, _, -, h⟩ := ck_pR_some h
    obtain ⟨_, -, h⟩ := ck_od_some h
    obtain ⟨-, h⟩ := ck_oq_some h
    obtain ⟨_, -, h⟩ := ck_ox_some h
    exact fin _ _ _ (M.sV _ _ _) ⟨Nat.le_refl _, Nat.le_refl _⟩ h
  | bastore =>
    unfold ck_stp at h; dsimp only at h
    obtain ⟨_, _, -, h⟩ := ck_pI_some h
    obtain ⟨_, _, -, h⟩ := ck_pI_some h
    obtain ⟨_, _, -, h⟩ := ck_pR_some h
    obtain ⟨_, -, h⟩ := ck_od_some h
    obtain ⟨-, h⟩ := ck_oq_some h
    obtain ⟨_, -, h⟩ := ck_ox_some h
    exact fin _ _ _ (M.sV _ _ _) ⟨Nat.le_refl _, Nat.le_refl _⟩ h
  | lastore =>
    unfold ck_stp at h; dsimp only at h
    obtain ⟨_, _, -, h⟩ := ck_pL_some h
    obtain ⟨_, _, -, h⟩ := ck_pI_some h
    obtain ⟨_, _, -, h⟩ := ck_pR_some h
    obtain ⟨_, -, h⟩ := ck_od_some h
    obtain ⟨-, h⟩ := ck_oq_some h
    obtain ⟨_, -, h⟩ := ck_ox_some h
    exact fin _ _ _ (M.sV _ _ _) ⟨Nat.le_refl _, Nat.le_refl _⟩ h
  | aastore =>
    unfold ck_stp at h; dsimp only at h
    obtain ⟨_, _, -, h⟩ := ck_pR_some h
    obtain ⟨_, _, -, h⟩ := ck_pI_some h
    obtain ⟨_, _, -, h⟩ := ck_pR_some h
    obtain ⟨_, -, h⟩ := ck_od_some h
    obtain ⟨_, -, h⟩ := ck_od_some h
    obtain ⟨-, h⟩ := ck_oq_some h
    obtain ⟨_, -, h⟩ := ck_ox_some h
    exact fin _ _ _ (M.sR _ _ _) ⟨Nat.le_refl _, Nat.le_refl _⟩ h
  | checkcast _ =>
    unfold ck_stp at h; dsimp only at h
    obtain ⟨_, _, _, _, -, h⟩ := ck_eC_some h
    obtain ⟨_, _, -, h⟩ := ck_pR_some h
    obtain ⟨_, -, h⟩ := ck_od_some h
    obtain ⟨-, h⟩ := ck_oq_some h
    exact fin _ _ _ M ⟨Nat.le_refl _, Nat.le_refl _⟩ h
  | invokevirtual _ =>
    unfold ck_stp at h; dsimp only at h
    obtain ⟨_, _, _, _, -, h⟩ := ck_eM_some h
    obtain ⟨_, _, -, h⟩ := ck_pop_some h
    obtain ⟨-, h⟩ := ck_oq_some h
    exact hcal _ _ _ _ _ _ r h
  | invokespecial _ =>
    unfold ck_stp at h; dsimp only at h
    obtain ⟨_, _, _, _, -, h⟩ := ck_eM_some h
    obtain ⟨_, _, -, h⟩ := ck_pop_some h
    obtain ⟨-, h⟩ := ck_oq_some h
    exact hcal _ _ _ _ _ _ r h
  | invokestatic _ =>
    unfold ck_stp at h; dsimp only at h
    obtain ⟨_, _, _, _, -, h⟩ := ck_eM_some h
    obtain ⟨_, _, -, h⟩ := ck_pop_some h
    obtain ⟨-, h⟩ := ck_oq_some h
    exact hcal _ _ _ _ _ _ r h
  | return_ =>
    unfold ck_stp at h; dsimp only at h
    obtain ⟨-, h⟩ := ck_nl_some h
    obtain ⟨-, h⟩ := ck_oq_some h
    exact hret _ _ r h
  | ireturn =>
    unfold ck_stp at h; dsimp only at h
    obtain ⟨_, _, -, h⟩ := ck_pI_some h
    obtain ⟨-, h⟩ := ck_nl_some h
    obtain ⟨-, h⟩ := ck_oq_some h
    exact hret _ _ r h
  | lreturn =>
    unfold ck_stp at h; dsimp only at h
    obtain ⟨_, _, -, h⟩ := ck_pL_some h
    obtain ⟨-, h⟩ := ck_nl_some h
    obtain ⟨-, h⟩ := ck_oq_some h
    exact hret _ _ r h
  | areturn =>
    unfold ck_stp at h; dsimp only at h
    obtain ⟨_, _, -, h⟩ := ck_pR_some h
    obtain ⟨-, h⟩ := ck_nl_some h
    obtain ⟨-, h⟩ := ck_oq_some h
    exact hret _ _ r h
  | athrow =>
    unfold ck_stp at h; dsimp only at h
    obtain ⟨_, _, -, h⟩ := ck_pR_some h
    obtain ⟨_, -, h⟩ := ck_od_some h
    obtain ⟨-, h⟩ := ck_oq_some h
    exact hthr _ _ _ r h
  | _ => unfold ck_stp at h; dsimp only at h; cases h
theorem ck_cal_grow {run run1 : Nat → List ck_A → ck_M → ck_Z} {k : Option ck_A → ck_M → ck_Z} (hrun : ∀ y as M, ck_gw M (run y as M)) (hrun1 : ∀ y as M, ck_gw M (run1 y as M)) (hk : ∀ v M, ck_gw M (k v M)) (en : ck_E) (as : List ck_A) (M : ck_M) : ck_gw M (ck_cal none ck_oq (fun x k => k x) ck_od run run1 en as M k) := by
  intro r h
  obtain ⟨t, n, a, b, z⟩ := en
  rcases ck_cal_kinds n with e | e | e | e | e | e | e | e | e | e | e | e | e
  · subst e; obtain ⟨_, _, -, h⟩ := ck_rcv_some h; obtain ⟨-, h⟩ := ck_oq_some h; exact hrun _ _ _ r h
  · subst e; obtain ⟨_, _, -, h⟩ := ck_rcv_some h; obtain ⟨-, h⟩ := ck_oq_some h; exact hrun1 _ _ _ r h
  · subst e; obtain ⟨_, _, -, h⟩ := ck_rcv_some h; obtain ⟨-, h⟩ := ck_oq_some h; exact hrun1 _ _ _ r h
  · subst e; obtain ⟨_, _, -, h⟩ := ck_rcv_some h; obtain ⟨-, h⟩ := ck_oq_some h; exact hrun1 _ _ _ r h
  · subst e; obtain ⟨_, _, -, h⟩ := ck_rcv_some h; exact hrun1 _ _ _ r h
  · subst e; obtain ⟨_, _, -, h⟩ := ck_rcv_some h; exact hrun1 _ _ _ r h
  · subst e; obtain ⟨_, _, -, h⟩ := ck_rcv_some h; exact hk _ _ r h
  · subst e; obtain ⟨_, _, _, _, _, -, h⟩ := ck_cpA_some h; obtain ⟨-, h⟩ := ck_oq_some h; exact hk _ (M.cp _ _ _) r h
  · subst e; obtain ⟨_, _, -, h⟩ := ck_rcv_some h; obtain ⟨-, h⟩ := ck_oq_some h; exact hk _ _ r h
  · subst e; obtain ⟨_, _, -, h⟩ := ck_rcv_some h; obtain ⟨-, h⟩ := ck_oq_some h; exact hk _ (((M.sR _ _ _).sR _ _ _).sR _ _ _) r h
  · subst e; obtain ⟨_, _, -, h⟩ := ck_mm_some h; obtain ⟨-, h⟩ := ck_oq_some h; exact hk _ _ r h
  · subst e; obtain ⟨_, _, -, h⟩ := ck_mm_some h; obtain ⟨-, h⟩ := ck_oq_some h; exact hk _ _ r h
  · rw [ck_cal_else _ _ _ _ _ _ _ _ _ _ _ _ _ _ e] at h; exact hrun1 _ _ _ r h
theorem ck_ev_grow (T : Nat → ck_D) : ∀ (f d : Nat) (Dm : ck_D) (pc : Nat) (l st : List ck_A) (M : ck_M), ck_gw M (ck_ev T f d Dm pc l st M)
  | 0, _, _, _, _, _, _ => fun _ h => by cases h
  | f + 1, d, Dm, pc, l, st, M => by
    intro r h
    unfold ck_ev at h
    cases e : Dm.1 pc with
    | none => rw [e] at h; cases h
    | some q =>
      obtain ⟨ins, nx, tg⟩ := q
      rw [e] at h
      have ih := ck_ev_grow T f
      have hot : ∀ pc i l M, ck_gw M (ck_ot (fun pc l st M => ck_ev T f d Dm pc l st M) Dm pc i l M) := by
        intro pc i l M r h
        rcases ck_ot_some h with ⟨t, -, h⟩ | ⟨-, h⟩
        · exact ih _ _ _ _ _ _ r h
        · subst h; exact ⟨Nat.le_refl _, Nat.le_refl _⟩
      refine ck_stp_grow (fun pc l st M => ih d Dm pc l st M) (fun e as nx l st M => ck_cal_grow (fun y as M => ?_) (fun y as M => ?_) (fun v M => ih d Dm _ _ _ M) e as M) (fun v M r h => ?_) (fun i l M => hot pc i l M) Dm ins pc nx tg l st M r h
      · intro r h
        obtain ⟨d', hd, h⟩ := ck_dn_some h
        rcases ck_ob_some h with ⟨v, M1, h1, h⟩ | ⟨i, M1, h1, h⟩
        · have a1 := ih _ _ _ _ _ _ _ h1
          have a2 := ih _ _ _ _ _ _ _ h
          exact ⟨Nat.le_trans a1.1 a2.1, Nat.le_trans a1.2 a2.2⟩
        · have a1 := ih _ _ _ _ _ _ _ h1
          have a2 := hot _ _ _ _ _ h
          exact ⟨Nat.le_trans a1.1 a2.1, Nat.le_trans a1.2 a2.2⟩
      · intro r h
        obtain ⟨d', hd, h⟩ := ck_dn_some h
        rcases ck_ob_some h with ⟨v, M1, h1, h⟩ | ⟨i, M1, h1, h⟩
        · have a1 := ih _ _ _ _ _ _ _ h1
          have a2 := ih _ _ _ _ _ _ _ h
          exact ⟨Nat.le_trans a1.1 a2.1, Nat.le_trans a1.2 a2.2⟩
        · cases h
      · cases h; exact ⟨Nat.le_refl _, Nat.le_refl _⟩
end CkSome
