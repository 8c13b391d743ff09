/-! ONE STEP OF THE EVALUATOR IS ONE STEP OF THE MACHINE -/
section CkMain1
theorem ck_chkN {a b : Nat} (h : (a == b) = true) : a = b := by simpa using h
theorem ck_chkD {a b : Nat} {p : Prop} [Decidable p] (h : (a == b && decide p) = true) : a = b ∧ p := by simpa using h
theorem ck_chkT {pc nx : Nat} {d lo hi : Int} {os : Array Int} (h : (Nat.ble (pc + 1) nx && decide (0 ≤ (pc : Int) + d) && decide ((os.size : Int) = hi - lo + 1) && os.toList.all (fun o => decide (0 ≤ (pc : Int) + o))) = true) : 0 ≤ (pc : Int) + d ∧ (os.size : Int) = hi - lo + 1 ∧ ∀ o ∈ os.toList, 0 ≤ (pc : Int) + o := by
  simp only [Bool.and_eq_true, decide_eq_true_eq, List.all_eq_true] at h
  exact ⟨h.1.1.2, h.1.2, h.2⟩
theorem ck_rmc {a b n r : Nat} (h : a ≤ b) (h2 : b - n ≤ r) : a - n ≤ r := by omega
theorem ck_fit_r (ad : Nat → Nat) (x : Option Nat) (u : FieldType) {C : String} (h : u = .object C ∨ ∃ w, u = .array w) : narrow u (ck_sv ad (vr x)) = ck_sv ad (vr x) ∧ fits u (ck_sv ad (vr x)) = true := by
  rcases h with rfl | ⟨w, rfl⟩ <;> cases x <;> exact ⟨rfl, rfl⟩
theorem ck_fit_z {x : Int} (h : 0 ≤ x ∧ x < 2) : fits .boolean (Value.int (Int32.ofInt x)) = true := by
  have : x = 0 ∨ x = 1 := by omega
  rcases this with rfl | rfl <;> rfl
/-- a return instruction, and what it answers -/
def ck_rt (Dm : ck_D) (cc : ByteArray) (pc : Nat) (v : Option ck_A) : Prop :=
  (v = none ∧ decode cc pc = .ok (.return_, 1) ∧ Dm.2.2.2.1 = 0) ∨
  (∃ x, v = some (vi x) ∧ decode cc pc = .ok (.ireturn, 1) ∧ (Dm.2.2.2.1 = 1 ∨ Dm.2.2.2.1 = 2 ∧ 0 ≤ x ∧ x < 2 ∨ Dm.2.2.2.1 = 3 ∧ -128 ≤ x ∧ x < 128 ∨ Dm.2.2.2.1 = 4 ∧ 0 ≤ x ∧ x < 65536)) ∨
  (∃ x, v = some (vl x) ∧ decode cc pc = .ok (.lreturn, 1) ∧ Dm.2.2.2.1 = 5) ∨
  (∃ x, v = some (vr x) ∧ decode cc pc = .ok (.areturn, 1) ∧ Dm.2.2.2.1 = 6)
variable {p : Program} {lc : Launch} {e : Env} {R : Room} {s : State} {m : MethodId} {args : Array Value} {below : List Frame} {meth : Method} {c : Code} {Q : State → Prop}
variable {s0 : State} {D : va_G} {dA : Nat → ClassId} {sa : Nat → Nat} {SM : ck_M} {n0 z0 nL : Nat} {a0 : Array Value} {own : String}
variable {cc : ByteArray} {my : Nat → ck_Y} {o : ck_O} {Mf : ck_M}
set_option maxHeartbeats 4000000 in
theorem ck_step1 (hx : p.tables.exec = Jvm.exec) (hb : c.code = cc) (g : ck_G0 s0 D dA sa SM a0) (hW : s0.WarmedH s.vm) (hts : ∀ w ∈ lw_all, w.before args s = true) (hown : s.vm.findClass own = some m.cls)
    {nxt : Nat → List ck_A → List ck_A → ck_M → ck_Z} {cal : ck_E → List ck_A → Nat → List ck_A → List ck_A → ck_M → ck_Z} {ret : Option ck_A → ck_M → ck_Z} {thr : Nat → List ck_A → ck_M → ck_Z}
    {Dm : ck_D} {ins : Instr} {pc nx tg : Nat} {l st : List ck_A} {M : ck_M}
    (hE : ∀ k en, Dm.2.1 k = some en → ck_Eok my own k en) (hini : Dm.2.2.2.2.1 = true → meth.name = "<init>") (hio : ck_iok cc pc ins nx tg)
    (hldw : ∀ k, ins = .ldc_w k → ∀ f ty c1 z, Dm.2.1 k ≠ some (6, f, ty, c1, z)) (hane : ∀ k, ins = .anewarray k → ∀ a b d z, d = 0 → Dm.2.1 k ≠ some (8, a, b, d, z))
    (hrc : Mf.n - n0 ≤ R.cells) (hrz : Mf.z - z0 ≤ R.slots)
    (hnxt : ∀ pc l st M, nxt pc l st M = some (o, Mf) → ck_WW p lc e R s m args below meth c Q s0 D dA sa SM n0 z0 nL pc l st M) (hgw : ∀ pc l st M, nxt pc l st M = some (o, Mf) → M.n ≤ Mf.n ∧ M.z ≤ Mf.z)
    (hcal : ∀ ins k en as st', (ins = .invokevirtual k ∧ [0, 3, 6, 8, 21].elem en.2.1 = true ∨ ins = .invokespecial k ∧ [2, 5, 7, 22].elem en.2.1 = true ∨ ins = .invokestatic k ∧ [1, 4, 20, 23, 24].elem en.2.1 = true) → decode cc pc = .ok (ins, 3) → Dm.2.1 k = some en → en.1 = 3 → as.length = en.2.2.2.1 → (∀ a ∈ as, a ≠ vu) → ck_cat st' ≤ 8 → cal en as (pc + 3) l st' M = some (o, Mf) → ck_WW p lc e R s m args below meth c Q s0 D dA sa SM n0 z0 nL pc l (as.reverse ++ st') M)
    (hret : ∀ v, ck_rt Dm cc pc v → ret v M = some (o, Mf) → ck_WW p lc e R s m args below meth c Q s0 D dA sa SM n0 z0 nL pc l v.toList M)
    (hthr : ∀ i st', decode cc pc = .ok (.athrow, 1) → (M.K i).1 = 4 → 50 ≤ i → thr i l M = some (o, Mf) → ck_WW p lc e R s m args below meth c Q s0 D dA sa SM n0 z0 nL pc l (vr (some i) :: st') M)
    (h : ck_stp none ck_oi ck_oq (fun x k => k x) (fun x k => k x) (fun x k => k x) ck_ox ck_od nxt cal ret thr Dm ins pc nx tg l st M = some (o, Mf)) :
    ck_WW p lc e R s m args below meth c Q s0 D dA sa SM n0 z0 nL pc l st M := by
  obtain ⟨hdg, hck⟩ := hio
  cases ins with
  | iconst n =>
    unfold ck_stp at h; dsimp only at h
    obtain rfl := ck_chkN hck
    rw [Nat.add_sub_cancel_left] at hdg
    exact ck_s_iconst hx hb  hdg (hnxt _ _ _ _ h)
  | bipush n =>
    unfold ck_stp at h; dsimp only at h
    replace hck := ck_chkD hck; obtain ⟨rfl, hck⟩ := hck
    rw [Nat.add_sub_cancel_left] at hdg
    exact ck_s_bipush hx hb hck hdg (hnxt _ _ _ _ h)
  | sipush n =>
    unfold ck_stp at h; dsimp only at h
    replace hck := ck_chkD hck; obtain ⟨rfl, hck⟩ := hck
    rw [Nat.add_sub_cancel_left] at hdg
    exact ck_s_sipush hx hb hck hdg (hnxt _ _ _ _ h)
  | lconst n =>
    unfold ck_stp at h; dsimp only at h
    obtain rfl := ck_chkN hck
    rw [Nat.add_sub_cancel_left] at hdg
    exact ck_s_lconst hx hb  hdg (hnxt _ _ _ _ h)
  | aconst_null =>
    unfold ck_stp at h; dsimp only at h
    obtain rfl := ck_chkN hck
    rw [Nat.add_sub_cancel_left] at hdg
    exact ck_s_null hx hb  hdg (hnxt _ _ _ _ h)
  | iload k =>
    unfold ck_stp at h; dsimp only at h
    obtain rfl := ck_chkN hck
    rw [Nat.add_sub_cancel_left] at hdg
    replace h := ck_lg_some h; obtain ⟨v, hv, h⟩ := h
    replace h := ck_aI_some h; obtain ⟨x, rfl, h⟩ := h
    exact ck_s_iload hx hb hv hdg (hnxt _ _ _ _ h)
  | iload_n k =>
    unfold ck_stp at h; dsimp only at h
    obtain rfl := ck_chkN hck
    rw [Nat.add_sub_cancel_left] at hdg
    replace h := ck_lg_some h; obtain ⟨v, hv, h⟩ := h
    replace h := ck_aI_some h; obtain ⟨x, rfl, h⟩ := h
    exact ck_s_iload_n hx hb hv hdg (hnxt _ _ _ _ h)
  | lload k =>
    unfold ck_stp at h; dsimp only at h
    obtain rfl := ck_chkN hck
    rw [Nat.add_sub_cancel_left] at hdg
    replace h := ck_lg_some h; obtain ⟨v, hv, h⟩ := h
    replace h := ck_aL_some h; obtain ⟨x, rfl, h⟩ := h
    exact ck_s_lload hx hb hv hdg (hnxt _ _ _ _ h)
  | lload_n k =>
    unfold ck_stp at h; dsimp only at h
    obtain rfl := ck_chkN hck
    rw [Nat.add_sub_cancel_left] at hdg
    replace h := ck_lg_some h; obtain ⟨v, hv, h⟩ := h
    replace h := ck_aL_some h; obtain ⟨x, rfl, h⟩ := h
    exact ck_s_lload_n hx hb hv hdg (hnxt _ _ _ _ h)
  | aload k =>
    unfold ck_stp at h; dsimp only at h
    obtain rfl := ck_chkN hck
    rw [Nat.add_sub_cancel_left] at hdg
    replace h := ck_lg_some h; obtain ⟨v, hv, h⟩ := h
    replace h := ck_aR_some h; obtain ⟨x, rfl, h⟩ := h
    exact ck_s_aload hx hb hv hdg (hnxt _ _ _ _ h)
  | aload_n k =>
    unfold ck_stp at h; dsimp only at h
    obtain rfl := ck_chkN hck
    rw [Nat.add_sub_cancel_left] at hdg
    replace h := ck_lg_some h; obtain ⟨v, hv, h⟩ := h
    replace h := ck_aR_some h; obtain ⟨x, rfl, h⟩ := h
    exact ck_s_aload_n hx hb hv hdg (hnxt _ _ _ _ h)
  | istore k =>
    unfold ck_stp at h; dsimp only at h
    obtain rfl := ck_chkN hck
    rw [Nat.add_sub_cancel_left] at hdg
    replace h := ck_pI_some h; obtain ⟨x, st1, rfl, h⟩ := h
    replace h := ck_ls_some h; obtain ⟨l1, hs, h⟩ := h
    exact ck_s_istore hx hb hs hdg (hnxt _ _ _ _ h)
  | istore_n k =>
    unfold ck_stp at h; dsimp only at h
    obtain rfl := ck_chkN hck
    rw [Nat.add_sub_cancel_left] at hdg
    replace h := ck_pI_some h; obtain ⟨x, st1, rfl, h⟩ := h
    replace h := ck_ls_some h; obtain ⟨l1, hs, h⟩ := h
    exact ck_s_istore_n hx hb hs hdg (hnxt _ _ _ _ h)
  | lstore k =>
    unfold ck_stp at h; dsimp only at h
    obtain rfl := ck_chkN hck
    rw [Nat.add_sub_cancel_left] at hdg
    replace h := ck_pL_some h; obtain ⟨x, st1, rfl, h⟩ := h
    replace h := ck_ll_some h; obtain ⟨l1, hs, h⟩ := h
    exact ck_s_lstore hx hb hs hdg (hnxt _ _ _ _ h)
  | lstore_n k =>
    unfold ck_stp at h; dsimp only at h
    obtain rfl := ck_chkN hck
    rw [Nat.add_sub_cancel_left] at hdg
    replace h := ck_pL_some h; obtain ⟨x, st1, rfl, h⟩ := h
    replace h := ck_ll_some h; obtain ⟨l1, hs, h⟩ := h
    exact ck_s_lstore_n hx hb hs hdg (hnxt _ _ _ _ h)
  | astore k =>
    unfold ck_stp at h; dsimp only at h
    obtain rfl := ck_chkN hck
    rw [Nat.add_sub_cancel_left] at hdg
    replace h := ck_pR_some h; obtain ⟨x, st1, rfl, h⟩ := h
    replace h := ck_ls_some h; obtain ⟨l1, hs, h⟩ := h
    exact ck_s_astore hx hb hs hdg (hnxt _ _ _ _ h)
  | astore_n k =>
    unfold ck_stp at h; dsimp only at h
    obtain rfl := ck_chkN hck
    rw [Nat.add_sub_cancel_left] at hdg
    replace h := ck_pR_some h; obtain ⟨x, st1, rfl, h⟩ := h
    replace h := ck_ls_some h; obtain ⟨l1, hs, h⟩ := h
    exact ck_s_astore_n hx hb hs hdg (hnxt _ _ _ _ h)
  | iinc k n =>
    unfold ck_stp at h; dsimp only at h
    obtain rfl := ck_chkN hck
    rw [Nat.add_sub_cancel_left] at hdg
    replace h := ck_lg_some h; obtain ⟨v, hv, h⟩ := h
    replace h := ck_aI_some h; obtain ⟨x, rfl, h⟩ := h
    replace h := ck_ls_some h; obtain ⟨l1, hs, h⟩ := h
    exact ck_s_iinc hx hb hv hs hdg (hnxt _ _ _ _ h)
  | iadd =>
    unfold ck_stp at h; dsimp only at h
    obtain rfl := ck_chkN hck
    rw [Nat.add_sub_cancel_left] at hdg
    replace h := ck_pI_some h; obtain ⟨y, st1, rfl, h⟩ := h
    replace h := ck_pI_some h; obtain ⟨x, st2, rfl, h⟩ := h
    exact ck_s_iadd hx hb  hdg (hnxt _ _ _ _ h)
  | isub =>
    unfold ck_stp at h; dsimp only at h
    obtain rfl := ck_chkN hck
    rw [Nat.add_sub_cancel_left] at hdg
    replace h := ck_pI_some h; obtain ⟨y, st1, rfl, h⟩ := h
    replace h := ck_pI_some h; obtain ⟨x, st2, rfl, h⟩ := h
    exact ck_s_isub hx hb  hdg (hnxt _ _ _ _ h)
  | imul =>
    unfold ck_stp at h; dsimp only at h
    obtain rfl := ck_chkN hck
    rw [Nat.add_sub_cancel_left] at hdg
    replace h := ck_pI_some h; obtain ⟨y, st1, rfl, h⟩ := h
    replace h := ck_pI_some h; obtain ⟨x, st2, rfl, h⟩ := h
    exact ck_s_imul hx hb  hdg (hnxt _ _ _ _ h)
  | ineg =>
    unfold ck_stp at h; dsimp only at h
    obtain rfl := ck_chkN hck
    rw [Nat.add_sub_cancel_left] at hdg
    replace h := ck_pI_some h; obtain ⟨x, st1, rfl, h⟩ := h
    exact ck_s_ineg hx hb  hdg (hnxt _ _ _ _ h)
  | iand =>
    unfold ck_stp at h; dsimp only at h
    obtain rfl := ck_chkN hck
    rw [Nat.add_sub_cancel_left] at hdg
    replace h := ck_pI_some h; obtain ⟨y, st1, rfl, h⟩ := h
    replace h := ck_pI_some h; obtain ⟨x, st2, rfl, h⟩ := h
    exact ck_s_iand hx hb  hdg (hnxt _ _ _ _ h)
  | ior =>
    unfold ck_stp at h; dsimp only at h
    obtain rfl := ck_chkN hck
    rw [Nat.add_sub_cancel_left] at hdg
    replace h := ck_pI_some h; obtain ⟨y, st1, rfl, h⟩ := h
    replace h := ck_pI_some h; obtain ⟨x, st2, rfl, h⟩ := h
    exact ck_s_ior hx hb  hdg (hnxt _ _ _ _ h)
  | ixor =>
    unfold ck_stp at h; dsimp only at h
    obtain rfl := ck_chkN hck
    rw [Nat.add_sub_cancel_left] at hdg
    replace h := ck_pI_some h; obtain ⟨y, st1, rfl, h⟩ := h
    replace h := ck_pI_some h; obtain ⟨x, st2, rfl, h⟩ := h
    exact ck_s_ixor hx hb  hdg (hnxt _ _ _ _ h)
  | iushr =>
    unfold ck_stp at h; dsimp only at h
    obtain rfl := ck_chkN hck
    rw [Nat.add_sub_cancel_left] at hdg
    replace h := ck_pI_some h; obtain ⟨y, st1, rfl, h⟩ := h
    replace h := ck_pI_some h; obtain ⟨x, st2, rfl, h⟩ := h
    exact ck_s_iushr hx hb  hdg (hnxt _ _ _ _ h)
  | idiv =>
    unfold ck_stp at h; dsimp only at h
    obtain rfl := ck_chkN hck
    rw [Nat.add_sub_cancel_left] at hdg
    replace h := ck_pI_some h; obtain ⟨y, st1, rfl, h⟩ := h
    replace h := ck_pI_some h; obtain ⟨x, st2, rfl, h⟩ := h
    replace h := ck_oq_some h; obtain ⟨hc, h⟩ := h
    exact ck_s_idiv hx hb hc hdg (hnxt _ _ _ _ h)
  | irem =>
    unfold ck_stp at h; dsimp only at h
    obtain rfl := ck_chkN hck
    rw [Nat.add_sub_cancel_left] at hdg
    replace h := ck_pI_some h; obtain ⟨y, st1, rfl, h⟩ := h
    replace h := ck_pI_some h; obtain ⟨x, st2, rfl, h⟩ := h
    replace h := ck_oq_some h; obtain ⟨hc, h⟩ := h
    exact ck_s_irem hx hb hc hdg (hnxt _ _ _ _ h)
  | ishl =>
    unfold ck_stp at h; dsimp only at h
    obtain rfl := ck_chkN hck
    rw [Nat.add_sub_cancel_left] at hdg
    replace h := ck_pI_some h; obtain ⟨y, st1, rfl, h⟩ := h
    replace h := ck_pI_some h; obtain ⟨x, st2, rfl, h⟩ := h
    replace h := ck_oq_some h; obtain ⟨hc, h⟩ := h
    exact ck_s_ishl hx hb hc hdg (hnxt _ _ _ _ h)
  | ishr =>
    unfold ck_stp at h; dsimp only at h
    obtain rfl := ck_chkN hck
    rw [Nat.add_sub_cancel_left] at hdg
    replace h := ck_pI_some h; obtain ⟨y, st1, rfl, h⟩ := h
    replace h := ck_pI_some h; obtain ⟨x, st2, rfl, h⟩ := h
    replace h := ck_oq_some h; obtain ⟨hc, h⟩ := h
    exact ck_s_ishr hx hb hc hdg (hnxt _ _ _ _ h)
  | ladd =>
    unfold ck_stp at h; dsimp only at h
    obtain rfl := ck_chkN hck
    rw [Nat.add_sub_cancel_left] at hdg
    replace h := ck_pL_some h; obtain ⟨y, st1, rfl, h⟩ := h
    replace h := ck_pL_some h; obtain ⟨x, st2, rfl, h⟩ := h
    exact ck_s_ladd hx hb  hdg (hnxt _ _ _ _ h)
  | lsub =>
    unfold ck_stp at h; dsimp only at h
    obtain rfl := ck_chkN hck
    rw [Nat.add_sub_cancel_left] at hdg
    replace h := ck_pL_some h; obtain ⟨y, st1, rfl, h⟩ := h
    replace h := ck_pL_some h; obtain ⟨x, st2, rfl, h⟩ := h
    exact ck_s_lsub hx hb  hdg (hnxt _ _ _ _ h)
  | lmul =>
    unfold ck_stp at h; dsimp only at h
    obtain rfl := ck_chkN hck
    rw [Nat.add_sub_cancel_left] at hdg
    replace h := ck_pL_some h; obtain ⟨y, st1, rfl, h⟩ := h
    replace h := ck_pL_some h; obtain ⟨x, st2, rfl, h⟩ := h
    exact ck_s_lmul hx hb  hdg (hnxt _ _ _ _ h)
  | ldiv =>
    unfold ck_stp at h; dsimp only at h
    obtain rfl := ck_chkN hck
    rw [Nat.add_sub_cancel_left] at hdg
    replace h := ck_pL_some h; obtain ⟨y, st1, rfl, h⟩ := h
    replace h := ck_pL_some h; obtain ⟨x, st2, rfl, h⟩ := h
    replace h := ck_oq_some h; obtain ⟨hc, h⟩ := h
    exact ck_s_ldiv hx hb hc hdg (hnxt _ _ _ _ h)
  | lrem =>
    unfold ck_stp at h; dsimp only at h
    obtain rfl := ck_chkN hck
    rw [Nat.add_sub_cancel_left] at hdg
    replace h := ck_pL_some h; obtain ⟨y, st1, rfl, h⟩ := h
    replace h := ck_pL_some h; obtain ⟨x, st2, rfl, h⟩ := h
    replace h := ck_oq_some h; obtain ⟨hc, h⟩ := h
    exact ck_s_lrem hx hb hc hdg (hnxt _ _ _ _ h)
  | land =>
    unfold ck_stp at h; dsimp only at h
    obtain rfl := ck_chkN hck
    rw [Nat.add_sub_cancel_left] at hdg
    replace h := ck_pL_some h; obtain ⟨y, st1, rfl, h⟩ := h
    replace h := ck_pL_some h; obtain ⟨x, st2, rfl, h⟩ := h
    exact ck_s_land hx hb  hdg (hnxt _ _ _ _ h)
  | lor =>
    unfold ck_stp at h; dsimp only at h
    obtain rfl := ck_chkN hck
    rw [Nat.add_sub_cancel_left] at hdg
    replace h := ck_pL_some h; obtain ⟨y, st1, rfl, h⟩ := h
    replace h := ck_pL_some h; obtain ⟨x, st2, rfl, h⟩ := h
    exact ck_s_lor hx hb  hdg (hnxt _ _ _ _ h)
  | lshl =>
    unfold ck_stp at h; dsimp only at h
    obtain rfl := ck_chkN hck
    rw [Nat.add_sub_cancel_left] at hdg
    replace h := ck_pI_some h; obtain ⟨y, st1, rfl, h⟩ := h
    replace h := ck_pL_some h; obtain ⟨x, st2, rfl, h⟩ := h
    exact ck_s_lshl hx hb  hdg (hnxt _ _ _ _ h)
  | lcmp =>
    unfold ck_stp at h; dsimp only at h
    obtain rfl := ck_chkN hck
    rw [Nat.add_sub_cancel_left] at hdg
    replace h := ck_pL_some h; obtain ⟨y, st1, rfl, h⟩ := h
    replace h := ck_pL_some h; obtain ⟨x, st2, rfl, h⟩ := h
    replace h := ck_oq_some h; obtain ⟨hc, h⟩ := h
    exact ck_s_lcmp hx hb hc hdg (hnxt _ _ _ _ h)
  | i2l =>
    unfold ck_stp at h; dsimp only at h
    obtain rfl := ck_chkN hck
    rw [Nat.add_sub_cancel_left] at hdg
    replace h := ck_pI_some h; obtain ⟨x, st1, rfl, h⟩ := h
    replace h := ck_oq_some h; obtain ⟨hc, h⟩ := h
    exact ck_s_i2l hx hb hc hdg (hnxt _ _ _ _ h)
  | l2i =>
    unfold ck_stp at h; dsimp only at h
    obtain rfl := ck_chkN hck
    rw [Nat.add_sub_cancel_left] at hdg
    replace h := ck_pL_some h; obtain ⟨x, st1, rfl, h⟩ := h
    exact ck_s_l2i hx hb  hdg (hnxt _ _ _ _ h)
  | i2b =>
    unfold ck_stp at h; dsimp only at h
    obtain rfl := ck_chkN hck
    rw [Nat.add_sub_cancel_left] at hdg
    replace h := ck_pI_some h; obtain ⟨x, st1, rfl, h⟩ := h
    exact ck_s_i2b hx hb  hdg (hnxt _ _ _ _ h)
  | i2c =>
    unfold ck_stp at h; dsimp only at h
    obtain rfl := ck_chkN hck
    rw [Nat.add_sub_cancel_left] at hdg
    replace h := ck_pI_some h; obtain ⟨x, st1, rfl, h⟩ := h
    exact ck_s_i2c hx hb  hdg (hnxt _ _ _ _ h)
  | dup =>
    unfold ck_stp at h; dsimp only at h
    obtain rfl := ck_chkN hck
    rw [Nat.add_sub_cancel_left] at hdg
    replace h := ck_p1_some h; obtain ⟨v, st1, ⟨rfl, hv⟩, h⟩ := h
    exact ck_s_dup hx hb hv hdg (hnxt _ _ _ _ h)
  | pop =>
    unfold ck_stp at h; dsimp only at h
    obtain rfl := ck_chkN hck
    rw [Nat.add_sub_cancel_left] at hdg
    replace h := ck_p1_some h; obtain ⟨v, st1, ⟨rfl, hv⟩, h⟩ := h
    exact ck_s_pop hx hb hv hdg (hnxt _ _ _ _ h)
  | dup2 =>
    unfold ck_stp at h; dsimp only at h
    obtain rfl := ck_chkN hck
    rw [Nat.add_sub_cancel_left] at hdg
    replace h := ck_pI_some h; obtain ⟨y, st1, rfl, h⟩ := h
    replace h := ck_pR_some h; obtain ⟨x, st2, rfl, h⟩ := h
    exact ck_s_dup2 hx hb  hdg (hnxt _ _ _ _ h)
  | dup_x1 =>
    unfold ck_stp at h; dsimp only at h
    obtain rfl := ck_chkN hck
    rw [Nat.add_sub_cancel_left] at hdg
    replace h := ck_pR_some h; obtain ⟨y, st1, rfl, h⟩ := h
    replace h := ck_pR_some h; obtain ⟨x, st2, rfl, h⟩ := h
    exact ck_s_dup_x1 hx hb  hdg (hnxt _ _ _ _ h)
  | ifCond cnd o =>
    unfold ck_stp at h; dsimp only at h
    replace hck := ck_chkD hck; obtain ⟨rfl, hck⟩ := hck
    rw [Nat.add_sub_cancel_left] at hdg
    replace h := ck_pI_some h; obtain ⟨x, st1, rfl, h⟩ := h
    replace h := ck_oq_some h; obtain ⟨hc, h⟩ := h
    cases cnd <;> dsimp only [ck_cd] at h
    · replace h := ck_oi_some h; rcases h with ⟨hq, h⟩ | ⟨hq, h⟩
      · exact ck_s_if_eq hx hb hc hck hdg (fun _ => hnxt _ _ _ _ h) (fun q => absurd hq q)
      · exact ck_s_if_eq hx hb hc hck hdg (fun q => absurd q hq) (fun _ => hnxt _ _ _ _ h)
    · replace h := ck_oi_some h; rcases h with ⟨hq, h⟩ | ⟨hq, h⟩
      · exact ck_s_if_ne hx hb hc hck hdg (fun _ => hnxt _ _ _ _ h) (fun q => absurd hq q)
      · exact ck_s_if_ne hx hb hc hck hdg (fun q => absurd q hq) (fun _ => hnxt _ _ _ _ h)
    · replace h := ck_oi_some h; rcases h with ⟨hq, h⟩ | ⟨hq, h⟩
      · exact ck_s_if_lt hx hb hc hck hdg (fun _ => hnxt _ _ _ _ h) (fun q => absurd hq q)
      · exact ck_s_if_lt hx hb hc hck hdg (fun q => absurd q hq) (fun _ => hnxt _ _ _ _ h)
    · replace h := ck_oi_some h; rcases h with ⟨hq, h⟩ | ⟨hq, h⟩
      · exact ck_s_if_ge hx hb hc hck hdg (fun _ => hnxt _ _ _ _ h) (fun q => absurd hq q)
      · exact ck_s_if_ge hx hb hc hck hdg (fun q => absurd q hq) (fun _ => hnxt _ _ _ _ h)
    · replace h := ck_oi_some h; rcases h with ⟨hq, h⟩ | ⟨hq, h⟩
      · exact ck_s_if_gt hx hb hc hck hdg (fun _ => hnxt _ _ _ _ h) (fun q => absurd hq q)
      · exact ck_s_if_gt hx hb hc hck hdg (fun q => absurd q hq) (fun _ => hnxt _ _ _ _ h)
    · replace h := ck_oi_some h; rcases h with ⟨hq, h⟩ | ⟨hq, h⟩
      · exact ck_s_if_le hx hb hc hck hdg (fun _ => hnxt _ _ _ _ h) (fun q => absurd hq q)
      · exact ck_s_if_le hx hb hc hck hdg (fun q => absurd q hq) (fun _ => hnxt _ _ _ _ h)
  | if_icmp cnd o =>
    unfold ck_stp at h; dsimp only at h
    replace hck := ck_chkD hck; obtain ⟨rfl, hck⟩ := hck
    rw [Nat.add_sub_cancel_left] at hdg
    replace h := ck_pI_some h; obtain ⟨y, st1, rfl, h⟩ := h
    replace h := ck_pI_some h; obtain ⟨x, st2, rfl, h⟩ := h
    replace h := ck_oq_some h; obtain ⟨hc, h⟩ := h
    cases cnd <;> dsimp only [ck_cd] at h
    · replace h := ck_oi_some h; rcases h with ⟨hq, h⟩ | ⟨hq, h⟩
      · exact ck_s_icmp_eq hx hb hc hck hdg (fun _ => hnxt _ _ _ _ h) (fun q => absurd hq q)
      · exact ck_s_icmp_eq hx hb hc hck hdg (fun q => absurd q hq) (fun _ => hnxt _ _ _ _ h)
    · replace h := ck_oi_some h; rcases h with ⟨hq, h⟩ | ⟨hq, h⟩
      · exact ck_s_icmp_ne hx hb hc hck hdg (fun _ => hnxt _ _ _ _ h) (fun q => absurd hq q)
      · exact ck_s_icmp_ne hx hb hc hck hdg (fun q => absurd q hq) (fun _ => hnxt _ _ _ _ h)
    · replace h := ck_oi_some h; rcases h with ⟨hq, h⟩ | ⟨hq, h⟩
      · exact ck_s_icmp_lt hx hb hc hck hdg (fun _ => hnxt _ _ _ _ h) (fun q => absurd hq q)
      · exact ck_s_icmp_lt hx hb hc hck hdg (fun q => absurd q hq) (fun _ => hnxt _ _ _ _ h)
    · replace h := ck_oi_some h; rcases h with ⟨hq, h⟩ | ⟨hq, h⟩
      · exact ck_s_icmp_ge hx hb hc hck hdg (fun _ => hnxt _ _ _ _ h) (fun q => absurd hq q)
      · exact ck_s_icmp_ge hx hb hc hck hdg (fun q => absurd q hq) (fun _ => hnxt _ _ _ _ h)
    · replace h := ck_oi_some h; rcases h with ⟨hq, h⟩ | ⟨hq, h⟩
      · exact ck_s_icmp_gt hx hb hc hck hdg (fun _ => hnxt _ _ _ _ h) (fun q => absurd hq q)
      · exact ck_s_icmp_gt hx hb hc hck hdg (fun q => absurd q hq) (fun _ => hnxt _ _ _ _ h)
    · replace h := ck_oi_some h; rcases h with ⟨hq, h⟩ | ⟨hq, h⟩
      · exact ck_s_icmp_le hx hb hc hck hdg (fun _ => hnxt _ _ _ _ h) (fun q => absurd hq q)
      · exact ck_s_icmp_le hx hb hc hck hdg (fun q => absurd q hq) (fun _ => hnxt _ _ _ _ h)
  | if_acmp cnd o =>
    unfold ck_stp at h; dsimp only at h
    replace hck := ck_chkD hck; obtain ⟨rfl, hck⟩ := hck
    rw [Nat.add_sub_cancel_left] at hdg
    replace h := ck_pR_some h; obtain ⟨y, st1, rfl, h⟩ := h
    replace h := ck_pR_some h; obtain ⟨x, st2, rfl, h⟩ := h
    replace h := ck_sm_some h; obtain ⟨u, rfl, h⟩ := h
    replace h := ck_sm_some h; obtain ⟨w, rfl, h⟩ := h
    replace h := ck_oq_some h; obtain ⟨rfl, h⟩ := h
    cases cnd <;> dsimp only [ck_ac] at h
    · exact ck_s_acmp_eq hx hb hck hdg (hnxt _ _ _ _ h)
    · exact ck_s_acmp_ne hx hb hck hdg (hnxt _ _ _ _ h)
  | ifnull o =>
    unfold ck_stp at h; dsimp only at h
    replace hck := ck_chkD hck; obtain ⟨rfl, hck⟩ := hck
    rw [Nat.add_sub_cancel_left] at hdg
    replace h := ck_pR_some h; obtain ⟨x, st1, rfl, h⟩ := h
    replace h := ck_oi_some h; rcases h with ⟨hq, h⟩ | ⟨hq, h⟩
    · exact ck_s_ifnull hx hb hck hdg (fun _ => hnxt _ _ _ _ h) (fun q => absurd hq q)
    · exact ck_s_ifnull hx hb hck hdg (fun q => absurd q hq) (fun _ => hnxt _ _ _ _ h)
  | ifnonnull o =>
    unfold ck_stp at h; dsimp only at h
    replace hck := ck_chkD hck; obtain ⟨rfl, hck⟩ := hck
    rw [Nat.add_sub_cancel_left] at hdg
    replace h := ck_pR_some h; obtain ⟨x, st1, rfl, h⟩ := h
    replace h := ck_oi_some h; rcases h with ⟨hq, h⟩ | ⟨hq, h⟩
    · exact ck_s_ifnonnull hx hb hck hdg (fun _ => hnxt _ _ _ _ h) (fun q => absurd hq q)
    · exact ck_s_ifnonnull hx hb hck hdg (fun q => absurd q hq) (fun _ => hnxt _ _ _ _ h)
  | goto o =>
    unfold ck_stp at h; dsimp only at h
    replace hck := ck_chkD hck; obtain ⟨rfl, hck⟩ := hck
    rw [Nat.add_sub_cancel_left] at hdg
    exact ck_s_goto hx hb hck hdg (hnxt _ _ _ _ h)
  | tableswitch dd lo hi offs =>
    unfold ck_stp at h; dsimp only at h
    replace hck := ck_chkT hck
    replace h := ck_pI_some h; obtain ⟨x, st1, rfl, h⟩ := h
    replace h := ck_oq_some h; obtain ⟨hc, h⟩ := h
    obtain ⟨hd, hsz, hall⟩ := hck
    have ho : ∀ j : Nat, lo + j ≤ hi → ∃ o, offs[j]? = some o ∧ 0 ≤ (pc : Int) + o := by
      intro j hj
      have hlt : j < offs.size := by omega
      exact ⟨offs[j], Array.getElem?_eq_getElem hlt, hall _ (Array.getElem_mem_toList hlt)⟩
    replace h := ck_oi_some h; rcases h with ⟨hq, h⟩ | ⟨hq, h⟩
    · exact ck_s_tsw hx hb hc hd ho hdg (fun _ => hnxt _ _ _ _ h) (fun q => absurd hq q)
    · exact ck_s_tsw hx hb hc hd ho hdg (fun q => absurd q hq) (fun _ => hnxt _ _ _ _ h)
  | getfield k =>
    unfold ck_stp at h; dsimp only at h
    obtain rfl := ck_chkN hck
    rw [Nat.add_sub_cancel_left] at hdg
    replace h := ck_eF_some h; obtain ⟨t, cn, f, ty, z, ⟨he, ht⟩, h⟩ := h
    replace h := ck_pR_some h; obtain ⟨x, st1, rfl, h⟩ := h
    replace h := ck_od_some h; obtain ⟨i, rfl, h⟩ := h
    replace h := ck_oq_some h; obtain ⟨hc, h⟩ := h
    rcases (hE _ _ he).1 ht with ⟨hlt, hF⟩ | ⟨h50, ⟨hf, hty, hl⟩ | ⟨hf, hty, hl⟩⟩
    · refine ck_s_getf hx hb g hW hts hown hF hc hlt hdg ?_
      dsimp only at hF ⊢
      replace h := ck_ty_some h; rcases h with ⟨h1, h⟩ | ⟨h1, h⟩ | ⟨⟨h1, h2⟩, h⟩
      · subst h1; exact hnxt _ _ _ _ h
      · subst h1; exact hnxt _ _ _ _ h
      · rcases ck_ty_inv ty with ⟨q, -⟩ | ⟨q, -⟩ | ⟨-, -, q⟩
        · exact absurd q h2
        · exact absurd q h1
        · rw [q]; exact hnxt _ _ _ _ h
    · dsimp only at h50 hf hty; subst h50; subst hf; subst hty; exact ck_s_get_value hx hb g hW hts hown hl hc hdg (hnxt _ _ _ _ h)
    · dsimp only at h50 hf hty; subst h50; subst hf; subst hty; exact ck_s_get_coder hx hb g hW hts hown hl hc hdg (hnxt _ _ _ _ h)
  | putfield k =>
    unfold ck_stp at h; dsimp only at h
    obtain rfl := ck_chkN hck
    rw [Nat.add_sub_cancel_left] at hdg
    replace h := ck_eP_some h; obtain ⟨t, cn, f, ty, z, ⟨he, ht⟩, h⟩ := h
    have ht2 : t = 1 ∨ t = 11 ∧ meth.name = "<init>" := ht.imp id fun q => ⟨q.1, hini q.2⟩
    replace h := ck_ty_some h; rcases h with ⟨h1, h⟩ | ⟨h1, h⟩ | ⟨⟨h1, h2⟩, h⟩
    · subst h1
      replace h := ck_pR_some h; obtain ⟨x, st1, rfl, h⟩ := h
      replace h := ck_pR_some h; obtain ⟨r1, st2, rfl, h⟩ := h
      replace h := ck_od_some h; obtain ⟨i, rfl, h⟩ := h
      replace h := ck_oq_some h; obtain ⟨hc, h⟩ := h
      rcases (hE _ _ he).1 (ht.imp id (fun q => Or.inl q.1)) with ⟨hlt, hF⟩ | ⟨h50, -⟩
      · refine ck_s_putf hx hb g hW hts hown hF hc.1 hlt ht2 hdg (v := vr x) (M' := M.sR i f x) (x := 0) (q := none) ⟨rfl, rfl, rfl, fun j hj => ⟨rfl, ck_u2_row _ _ _ _ _ hj⟩, fun j hj => ⟨rfl, ck_u2_ne _ _ _ _ _ hj⟩⟩ ?_ ?_ (hnxt _ _ _ _ h)
        · show va_rf (x.map _) = va_rf ((ck_u2 M.R i f x i f).map _)
          rw [ck_u2_self]
        · intro u hu
          obtain ⟨C, hC⟩ := hu.2.2.2.1 rfl
          exact ck_fit_r _ _ _ hC
      · intro H locs ls hR hq hL hlen hn hz
        dsimp only at h50
        have := ck_str50 hR (i := i) (by rw [hc.1]; exact h50)
        have h5 : 50 ≤ i := hc.2
        omega
    · subst h1
      replace h := ck_pL_some h; obtain ⟨x, st1, rfl, h⟩ := h
      replace h := ck_pR_some h; obtain ⟨r1, st2, rfl, h⟩ := h
      replace h := ck_od_some h; obtain ⟨i, rfl, h⟩ := h
      replace h := ck_oq_some h; obtain ⟨hc, h⟩ := h
      rcases (hE _ _ he).1 (ht.imp id (fun q => Or.inl q.1)) with ⟨hlt, hF⟩ | ⟨h50, -⟩
      · refine ck_s_putf hx hb g hW hts hown hF hc.1 hlt ht2 hdg (v := vl x) (M' := M.sV i f x) (x := 0) (q := none) ⟨rfl, rfl, rfl, fun j hj => ⟨ck_u2_row _ _ _ _ _ hj, rfl⟩, fun j hj => ⟨ck_u2_ne _ _ _ _ _ hj, rfl⟩⟩ ?_ ?_ (hnxt _ _ _ _ h)
        · show Value.long (Int64.ofInt x) = Value.long (Int64.ofInt (ck_u2 M.V i f x i f))
          rw [ck_u2_self]
        · intro u hu
          rw [hu.2.2.1 rfl]
          exact ⟨rfl, rfl⟩
      · intro H locs ls hR hq hL hlen hn hz
        dsimp only at h50
        have := ck_str50 hR (i := i) (by rw [hc.1]; exact h50)
        have h5 : 50 ≤ i := hc.2
        omega
    · skip
      replace h := ck_pI_some h; obtain ⟨x, st1, rfl, h⟩ := h
      replace h := ck_pR_some h; obtain ⟨r1, st2, rfl, h⟩ := h
      replace h := ck_od_some h; obtain ⟨i, rfl, h⟩ := h
      replace h := ck_oq_some h; obtain ⟨hc, h⟩ := h
      rcases (hE _ _ he).1 (ht.imp id (fun q => Or.inl q.1)) with ⟨hlt, hF⟩ | ⟨h50, -⟩
      · refine ck_s_putf hx hb g hW hts hown hF hc.1 hlt ht2 hdg (v := vi x) (M' := M.sV i f x) (x := 0) (q := none) ⟨rfl, rfl, rfl, fun j hj => ⟨ck_u2_row _ _ _ _ _ hj, rfl⟩, fun j hj => ⟨ck_u2_ne _ _ _ _ _ hj, rfl⟩⟩ ?_ ?_ (hnxt _ _ _ _ h)
        · unfold ck_fv
          rcases ck_ty_inv ty with ⟨q, -⟩ | ⟨q, -⟩ | ⟨-, -, q⟩
          · exact absurd q h2
          · exact absurd q h1
          · rw [q]
            show Value.int (Int32.ofInt x) = Value.int (Int32.ofInt (ck_u2 M.V i f x i f))
            rw [ck_u2_self]
        · intro u hu
          rcases hc.2.2 with q | ⟨q, q2⟩
          · rw [hu.1 q]; exact ⟨rfl, rfl⟩
          · rw [hu.2.1 q]; exact ⟨ck_nz q2, ck_fit_z q2⟩
      · intro H locs ls hR hq hL hlen hn hz
        dsimp only at h50
        have := ck_str50 hR (i := i) (by rw [hc.1]; exact h50)
        have h5 : 50 ≤ i := hc.2.1
        omega
  | getstatic k =>
    unfold ck_stp at h; dsimp only at h
    obtain rfl := ck_chkN hck
    rw [Nat.add_sub_cancel_left] at hdg
    replace h := ck_eS_some h; obtain ⟨f, ty, c1, z, he, h⟩ := h
    rcases (hE _ _ he).2.1 rfl with ⟨hf, hty, hl⟩ | ⟨hf, hty, hl⟩ | ⟨hf, hty, hl⟩ <;> dsimp only at hf hty <;> subst hf <;> subst hty
    · exact ck_s_gets_COMPACT hx hb g hW hts hown hl hdg (hnxt _ _ _ _ h)
    · exact ck_s_gets_NAMES hx hb g hW hts hown hl hdg (hnxt _ _ _ _ h)
    · exact ck_s_gets_SIOOBE hx hb g hW hts hown hl hdg (hnxt _ _ _ _ h)
  | ldc k =>
    unfold ck_stp at h; dsimp only at h
    obtain rfl := ck_chkN hck
    rw [Nat.add_sub_cancel_left] at hdg
    replace h := ck_eK_some h; obtain ⟨v, f, ty, c1, z, ⟨he, rfl⟩ | ⟨he, rfl⟩, h⟩ := h
    · exact ck_s_ldcI hx hb g hW hts hown ((hE _ _ he).2.2.1 rfl) hdg (hnxt _ _ _ _ h)
    · obtain ⟨hf, ⟨tx, hl⟩ | ⟨hf3, hl⟩⟩ := (hE _ _ he).2.2.2.2.1 rfl
      · exact ck_s_ldcS hx hb g hW hts hown hf hl hdg (hnxt _ _ _ _ h)
      · dsimp only at hf3; subst hf3; exact ck_s_ldcM hx hb g hW hts hown hl hdg (hnxt _ _ _ _ h)
  | ldc_w k =>
    unfold ck_stp at h; dsimp only at h
    obtain rfl := ck_chkN hck
    rw [Nat.add_sub_cancel_left] at hdg
    replace h := ck_eK_some h; obtain ⟨v, f, ty, c1, z, ⟨he, rfl⟩ | ⟨he, rfl⟩, h⟩ := h
    · exact ck_s_ldcwI hx hb g hW hts hown ((hE _ _ he).2.2.1 rfl) hdg (hnxt _ _ _ _ h)
    · exact absurd he (hldw _ rfl _ _ _ _)
  | ldc2_w k =>
    unfold ck_stp at h; dsimp only at h
    obtain rfl := ck_chkN hck
    rw [Nat.add_sub_cancel_left] at hdg
    replace h := ck_eL_some h; obtain ⟨f, ty, c1, z, he, h⟩ := h
    exact ck_s_ldc2 hx hb g hW hts hown ((hE _ _ he).2.2.2.1 rfl) hdg (hnxt _ _ _ _ h)
  | new k =>
    unfold ck_stp at h; dsimp only at h
    obtain rfl := ck_chkN hck
    rw [Nat.add_sub_cancel_left] at hdg
    replace h := ck_eC_some h; obtain ⟨c1, n, a, z, he, h⟩ := h
    obtain ⟨C, T0, tf, hC, hlt, hl, -⟩ := (hE _ _ he).2.2.2.2.2.1 rfl
    exact ck_s_new hx hb g hW hts hown hC hl hlt hdg (ck_rmc (hgw _ _ _ _ h).1 hrc) (ck_rmc (hgw _ _ _ _ h).2 hrz) (hnxt _ _ _ _ h)
  | newarray t =>
    unfold ck_stp at h; dsimp only at h
    obtain rfl := ck_chkN hck
    rw [Nat.add_sub_cancel_left] at hdg
    replace h := ck_at_some h; obtain ⟨a, hat, h⟩ := h
    replace h := ck_pI_some h; obtain ⟨x, st1, rfl, h⟩ := h
    replace h := ck_oq_some h; obtain ⟨hc, h⟩ := h
    rcases hat with ⟨rfl, rfl⟩ | ⟨rfl, rfl⟩ | ⟨rfl, rfl⟩ | ⟨rfl, rfl⟩
    · exact ck_s_newa_int hx hb g hW hts hown hc q219 hdg (ck_rmc (hgw _ _ _ _ h).1 hrc) (ck_rmc (hgw _ _ _ _ h).2 hrz) (hnxt _ _ _ _ h)
    · exact ck_s_newa_byte hx hb g hW hts hown hc q420 hdg (ck_rmc (hgw _ _ _ _ h).1 hrc) (ck_rmc (hgw _ _ _ _ h).2 hrz) (hnxt _ _ _ _ h)
    · exact ck_s_newa_boolean hx hb g hW hts hown hc q1369 hdg (ck_rmc (hgw _ _ _ _ h).1 hrc) (ck_rmc (hgw _ _ _ _ h).2 hrz) (hnxt _ _ _ _ h)
    · exact ck_s_newa_long hx hb g hW hts hown hc q421 hdg (ck_rmc (hgw _ _ _ _ h).1 hrc) (ck_rmc (hgw _ _ _ _ h).2 hrz) (hnxt _ _ _ _ h)
  | anewarray k =>
    unfold ck_stp at h; dsimp only at h
    obtain rfl := ck_chkN hck
    rw [Nat.add_sub_cancel_left] at hdg
    replace h := ck_eA_some h; obtain ⟨a, b1, c1, d1, z, he, h⟩ := h
    replace h := ck_pI_some h; obtain ⟨x, st1, rfl, h⟩ := h
    replace h := ck_oq_some h; obtain ⟨hc, h⟩ := h
    rcases he with he | he
    · obtain ⟨C, h1, h2, h3, h4, h5⟩ := (hE _ _ he).2.2.2.2.2.2.1 rfl
      exact ck_s_anew hx hb g hW hts hown hc ⟨h1, h2⟩ h3 h4 h5 hdg (ck_rmc (hgw _ _ _ _ h).1 hrc) (ck_rmc (hgw _ _ _ _ h).2 hrz) (hnxt _ _ _ _ h)
    · obtain ⟨C, T0, tf, hC, hlt, hl, h9⟩ := (hE _ _ he).2.2.2.2.2.1 rfl
      by_cases ha : a = 0
      · exact absurd he (hane _ rfl _ _ _ _ ha)
      · obtain ⟨h1, h2, h3, h5⟩ := h9 ha
        exact ck_s_anew hx hb g hW hts hown hc ⟨h1, h2⟩ h3 hl h5 hdg (ck_rmc (hgw _ _ _ _ h).1 hrc) (ck_rmc (hgw _ _ _ _ h).2 hrz) (hnxt _ _ _ _ h)
  | arraylength =>
    unfold ck_stp at h; dsimp only at h
    obtain rfl := ck_chkN hck
    rw [Nat.add_sub_cancel_left] at hdg
    replace h := ck_pR_some h; obtain ⟨x, st1, rfl, h⟩ := h
    replace h := ck_od_some h; obtain ⟨i, rfl, h⟩ := h
    replace h := ck_oq_some h; obtain ⟨hc, h⟩ := h
    exact ck_s_alen hx hb g hW hts hown hc.1 (by omega) hdg (hnxt _ _ _ _ h)
  | iaload =>
    unfold ck_stp at h; dsimp only at h
    obtain rfl := ck_chkN hck
    rw [Nat.add_sub_cancel_left] at hdg
    replace h := ck_pI_some h; obtain ⟨y, st1, rfl, h⟩ := h
    replace h := ck_pR_some h; obtain ⟨r1, st2, rfl, h⟩ := h
    replace h := ck_od_some h; obtain ⟨i, rfl, h⟩ := h
    replace h := ck_oq_some h; obtain ⟨hc, h⟩ := h
    replace h := ck_ox_some h; obtain ⟨j, ⟨hxj, hj⟩, h⟩ := h
    exact ck_s_iald hx hb g hW hts hown hc hxj hj hdg (hnxt _ _ _ _ h)
  | baload =>
    unfold ck_stp at h; dsimp only at h
    obtain rfl := ck_chkN hck
    rw [Nat.add_sub_cancel_left] at hdg
    replace h := ck_pI_some h; obtain ⟨y, st1, rfl, h⟩ := h
    replace h := ck_pR_some h; obtain ⟨r1, st2, rfl, h⟩ := h
    replace h := ck_od_some h; obtain ⟨i, rfl, h⟩ := h
    replace h := ck_oq_some h; obtain ⟨hc, h⟩ := h
    replace h := ck_ox_some h; obtain ⟨j, ⟨hxj, hj⟩, h⟩ := h
    rcases hc with hc | hc
    · exact ck_s_bald hx hb g hW hts hown hc hxj hj hdg (hnxt _ _ _ _ h)
    · exact ck_s_zald hx hb g hW hts hown hc hxj hj hdg (hnxt _ _ _ _ h)
  | laload =>
    unfold ck_stp at h; dsimp only at h
    obtain rfl := ck_chkN hck
    rw [Nat.add_sub_cancel_left] at hdg
    replace h := ck_pI_some h; obtain ⟨y, st1, rfl, h⟩ := h
    replace h := ck_pR_some h; obtain ⟨r1, st2, rfl, h⟩ := h
    replace h := ck_od_some h; obtain ⟨i, rfl, h⟩ := h
    replace h := ck_oq_some h; obtain ⟨hc, h⟩ := h
    replace h := ck_ox_some h; obtain ⟨j, ⟨hxj, hj⟩, h⟩ := h
    exact ck_s_lald hx hb g hW hts hown hc hxj hj hdg (hnxt _ _ _ _ h)
  | aaload =>
    unfold ck_stp at h; dsimp only at h
    obtain rfl := ck_chkN hck
    rw [Nat.add_sub_cancel_left] at hdg
    replace h := ck_pI_some h; obtain ⟨y, st1, rfl, h⟩ := h
    replace h := ck_pR_some h; obtain ⟨r1, st2, rfl, h⟩ := h
    replace h := ck_od_some h; obtain ⟨i, rfl, h⟩ := h
    replace h := ck_oq_some h; obtain ⟨hc, h⟩ := h
    replace h := ck_ox_some h; obtain ⟨j, ⟨hxj, hj⟩, h⟩ := h
    exact ck_s_aald hx hb g hW hts hown hc.1 (by omega) hxj hj hdg (hnxt _ _ _ _ h)
  | iastore =>
    unfold ck_stp at h; dsimp only at h
    obtain rfl := ck_chkN hck
    rw [Nat.add_sub_cancel_left] at hdg
    replace h := ck_pI_some h; obtain ⟨v, st1, rfl, h⟩ := h
    replace h := ck_pI_some h; obtain ⟨x, st2, rfl, h⟩ := h
    replace h := ck_pR_some h; obtain ⟨r1, st3, rfl, h⟩ := h
    replace h := ck_od_some h; obtain ⟨i, rfl, h⟩ := h
    replace h := ck_oq_some h; obtain ⟨hc, h⟩ := h
    replace h := ck_ox_some h; obtain ⟨j, ⟨hxj, hj⟩, h⟩ := h
    exact ck_s_iast hx hb g hW hts hown hc.1 hc.2 hxj hj hdg (hnxt _ _ _ _ h)
  | bastore =>
    unfold ck_stp at h; dsimp only at h
    obtain rfl := ck_chkN hck
    rw [Nat.add_sub_cancel_left] at hdg
    replace h := ck_pI_some h; obtain ⟨v, st1, rfl, h⟩ := h
    replace h := ck_pI_some h; obtain ⟨x, st2, rfl, h⟩ := h
    replace h := ck_pR_some h; obtain ⟨r1, st3, rfl, h⟩ := h
    replace h := ck_od_some h; obtain ⟨i, rfl, h⟩ := h
    replace h := ck_oq_some h; obtain ⟨hc, h⟩ := h
    replace h := ck_ox_some h; obtain ⟨j, ⟨hxj, hj⟩, h⟩ := h
    rcases hc with ⟨⟨hk, hv⟩ | ⟨hk, hv⟩, h50⟩
    · exact ck_s_bast hx hb g hW hts hown hv hk h50 hxj hj hdg (hnxt _ _ _ _ h)
    · exact ck_s_zast hx hb g hW hts hown hv hk h50 hxj hj hdg (hnxt _ _ _ _ h)
  | lastore =>
    unfold ck_stp at h; dsimp only at h
    obtain rfl := ck_chkN hck
    rw [Nat.add_sub_cancel_left] at hdg
    replace h := ck_pL_some h; obtain ⟨v, st1, rfl, h⟩ := h
    replace h := ck_pI_some h; obtain ⟨x, st2, rfl, h⟩ := h
    replace h := ck_pR_some h; obtain ⟨r1, st3, rfl, h⟩ := h
    replace h := ck_od_some h; obtain ⟨i, rfl, h⟩ := h
    replace h := ck_oq_some h; obtain ⟨hc, h⟩ := h
    replace h := ck_ox_some h; obtain ⟨j, ⟨hxj, hj⟩, h⟩ := h
    exact ck_s_last hx hb g hW hts hown hc.1 hc.2 hxj hj hdg (hnxt _ _ _ _ h)
  | aastore =>
    unfold ck_stp at h; dsimp only at h
    obtain rfl := ck_chkN hck
    rw [Nat.add_sub_cancel_left] at hdg
    replace h := ck_pR_some h; obtain ⟨v, st1, rfl, h⟩ := h
    replace h := ck_pI_some h; obtain ⟨x, st2, rfl, h⟩ := h
    replace h := ck_pR_some h; obtain ⟨r1, st3, rfl, h⟩ := h
    replace h := ck_od_some h; obtain ⟨w, rfl, h⟩ := h
    replace h := ck_od_some h; obtain ⟨i, rfl, h⟩ := h
    replace h := ck_oq_some h; obtain ⟨hc, h⟩ := h
    replace h := ck_ox_some h; obtain ⟨j, ⟨hxj, hj⟩, h⟩ := h
    obtain ⟨hk, h50, hw50⟩ := hc
    rcases hk with ⟨hk, hw⟩ | ⟨hk, hw⟩ | ⟨hk, hw⟩
    · exact ck_s_aast hx hb g hW hts hown (C := "java/lang/Object") (by omega) (by omega) h50 hxj hj hw (by rw [hk]; rfl) (fun r hr => ck_castO _ r hr) hdg (hnxt _ _ _ _ h)
    · exact ck_s_aast hx hb g hW hts hown (C := "ConkerYard$State") (by omega) (by omega) h50 hxj hj (by omega) (by rw [hk]; rfl) (fun r hr => by rw [hw] at hr; cases hr; exact Or.inl rfl) hdg (hnxt _ _ _ _ h)
    · exact ck_s_aast hx hb g hW hts hown (C := "ConkerYard$Image") (by omega) (by omega) h50 hxj hj (by omega) (by rw [hk]; rfl) (fun r hr => by rw [hw] at hr; cases hr; exact Or.inl rfl) hdg (hnxt _ _ _ _ h)
  | checkcast k =>
    unfold ck_stp at h; dsimp only at h
    obtain rfl := ck_chkN hck
    rw [Nat.add_sub_cancel_left] at hdg
    replace h := ck_eC_some h; obtain ⟨c1, n, a, z, he, h⟩ := h
    obtain ⟨C, T0, tf, hC, hlt, hl, -⟩ := (hE _ _ he).2.2.2.2.2.1 rfl
    replace h := ck_pR_some h; obtain ⟨x, st1, rfl, h⟩ := h
    replace h := ck_od_some h; obtain ⟨i, rfl, h⟩ := h
    replace h := ck_oq_some h; obtain ⟨hc, h⟩ := h
    exact ck_s_cast hx hb g hW hts hown hC hl hc.1 hlt hdg (hnxt _ _ _ _ h)
  | invokevirtual k =>
    unfold ck_stp at h; dsimp only at h
    obtain rfl := ck_chkN hck
    rw [Nat.add_sub_cancel_left] at hdg
    replace h := ck_eM_some h; obtain ⟨a1, a2, a3, a4, ⟨he, hk⟩, h⟩ := h
    replace h := ck_pop_some h; obtain ⟨as, st1, ⟨rfl, hal, hau⟩, h⟩ := h
    replace h := ck_oq_some h; obtain ⟨hc, h⟩ := h
    exact hcal _ k _ as st1 (Or.inl ⟨rfl, hk⟩) hdg he rfl hal hau hc h
  | invokespecial k =>
    unfold ck_stp at h; dsimp only at h
    obtain rfl := ck_chkN hck
    rw [Nat.add_sub_cancel_left] at hdg
    replace h := ck_eM_some h; obtain ⟨a1, a2, a3, a4, ⟨he, hk⟩, h⟩ := h
    replace h := ck_pop_some h; obtain ⟨as, st1, ⟨rfl, hal, hau⟩, h⟩ := h
    replace h := ck_oq_some h; obtain ⟨hc, h⟩ := h
    exact hcal _ k _ as st1 (Or.inr (Or.inl ⟨rfl, hk⟩)) hdg he rfl hal hau hc h
  | invokestatic k =>
    unfold ck_stp at h; dsimp only at h
    obtain rfl := ck_chkN hck
    rw [Nat.add_sub_cancel_left] at hdg
    replace h := ck_eM_some h; obtain ⟨a1, a2, a3, a4, ⟨he, hk⟩, h⟩ := h
    replace h := ck_pop_some h; obtain ⟨as, st1, ⟨rfl, hal, hau⟩, h⟩ := h
    replace h := ck_oq_some h; obtain ⟨hc, h⟩ := h
    exact hcal _ k _ as st1 (Or.inr (Or.inr ⟨rfl, hk⟩)) hdg he rfl hal hau hc h
  | return_ =>
    unfold ck_stp at h; dsimp only at h
    obtain rfl := ck_chkN hck
    rw [Nat.add_sub_cancel_left] at hdg
    replace h := ck_nl_some h; obtain ⟨rfl, h⟩ := h
    replace h := ck_oq_some h; obtain ⟨hc, h⟩ := h
    exact hret none (Or.inl ⟨rfl, hdg, hc⟩) h
  | ireturn =>
    unfold ck_stp at h; dsimp only at h
    obtain rfl := ck_chkN hck
    rw [Nat.add_sub_cancel_left] at hdg
    replace h := ck_pI_some h; obtain ⟨x, st1, rfl, h⟩ := h
    replace h := ck_nl_some h; obtain ⟨rfl, h⟩ := h
    replace h := ck_oq_some h; obtain ⟨hc, h⟩ := h
    exact hret (some (vi x)) (Or.inr (Or.inl ⟨x, rfl, hdg, hc⟩)) h
  | lreturn =>
    unfold ck_stp at h; dsimp only at h
    obtain rfl := ck_chkN hck
    rw [Nat.add_sub_cancel_left] at hdg
    replace h := ck_pL_some h; obtain ⟨x, st1, rfl, h⟩ := h
    replace h := ck_nl_some h; obtain ⟨rfl, h⟩ := h
    replace h := ck_oq_some h; obtain ⟨hc, h⟩ := h
    exact hret (some (vl x)) (Or.inr (Or.inr (Or.inl ⟨x, rfl, hdg, hc⟩))) h
  | areturn =>
    unfold ck_stp at h; dsimp only at h
    obtain rfl := ck_chkN hck
    rw [Nat.add_sub_cancel_left] at hdg
    replace h := ck_pR_some h; obtain ⟨x, st1, rfl, h⟩ := h
    replace h := ck_nl_some h; obtain ⟨rfl, h⟩ := h
    replace h := ck_oq_some h; obtain ⟨hc, h⟩ := h
    exact hret (some (vr x)) (Or.inr (Or.inr (Or.inr ⟨x, rfl, hdg, hc⟩))) h
  | athrow =>
    unfold ck_stp at h; dsimp only at h
    obtain rfl := ck_chkN hck
    rw [Nat.add_sub_cancel_left] at hdg
    replace h := ck_pR_some h; obtain ⟨x, st1, rfl, h⟩ := h
    replace h := ck_od_some h; obtain ⟨i, rfl, h⟩ := h
    replace h := ck_oq_some h; obtain ⟨hc, h⟩ := h
    exact hthr i st1 hdg hc.1 hc.2 h
  | _ => exact absurd h (by unfold ck_stp; exact fun q => nomatch q)
end CkMain1
