/-! STEPS OF THEIR OWN KIND: Object's constructor, getClass, arraycopy, the constructor of Wrong, throws -/
section CkSpec
variable {p : Program} {lc : Launch} {e : Env} {R : Room} {s : State} {m : MethodId} {args : Array Value} {below : List Frame} {meth : Method} {c : Code} {Q : State → Prop}
variable {s0 : State} {D : va_G} {dA : Nat → ClassId} {sa : Nat → Nat} {SM : ck_M} {n0 z0 nL : Nat} {a0 : Array Value} {own : String}
variable {cc : ByteArray} {pc k i d' : Nat} {l st : List ck_A} {M : ck_M}
theorem ck_s_objInit (cx : ck_ctx p R s m args c s0 D dA sa SM a0 own cc nL d') (h1 : Cond.methodLink own k Lib.objectInit ∈ lw_all) (h2 : Cond.instanceMethod Lib.objectInit ∈ lw_all) (h3 : Cond.code Lib.objectInit ⟨#[0xb1]⟩ 1 none ∈ lw_all) (hcat : ck_cat st ≤ 8) (hdg : decode cc pc = .ok (.invokespecial k, 3))
    (k1 : ck_WW p lc e R s m args below meth c Q s0 D dA sa SM n0 z0 nL (pc + 3) l st M) : ck_WW p lc e R s m args below meth c Q s0 D dA sa SM n0 z0 nL pc l (vr (some i) :: st) M := by
  obtain ⟨hx, hb, hml, hown, hts, g, hW, hr1, hr2, hsh⟩ := cx
  intro H locs ls hR hq hL hlen hn hz
  refine W.objInit hx hb hown (hts _ h1) (hts _ h2) (hts _ h3) (g := F0 m pc ls (.ref (ck_ad s0 sa i) :: st.map (ck_sv (ck_ad s0 sa)))) rfl (hL.1.trans hml.symm) rfl hdg (by omega) ?_ (k1 H locs ls hR hq hL hlen hn hz)
  have hc := ck_cat_sum (ck_ad s0 sa) st
  show 2 * 0 + _ + 12 ≤ _
  rw [hc]; omega
theorem ck_s_getClass (cx : ck_ctx p R s m args c s0 D dA sa SM a0 own cc nL d') (h1 : Cond.methodLink own k ⟨"java/lang/Object", "getClass", "()Ljava/lang/Class;"⟩ ∈ lw_all) (h2 : Cond.declares ⟨"java/lang/Object", "getClass", "()Ljava/lang/Class;"⟩ ∈ lw_tbl) (h3 : Cond.selects "[Ljava/lang/Object;" ⟨"java/lang/Object", "getClass", "()Ljava/lang/Class;"⟩ ⟨"java/lang/Object", "getClass", "()Ljava/lang/Class;"⟩ ∈ lw_all) (h4 : Cond.instanceMethod ⟨"java/lang/Object", "getClass", "()Ljava/lang/Class;"⟩ ∈ lw_all) (h5 : Cond.native ⟨"java/lang/Object", "getClass", "()Ljava/lang/Class;"⟩ ∈ lw_all)
    (hi : (M.K i).1 = 104) (h50 : 50 ≤ i) (hcat : ck_cat st ≤ 8) (hdg : decode cc pc = .ok (.invokevirtual k, 3))
    (k1 : ck_WW p lc e R s m args below meth c Q s0 D dA sa SM n0 z0 nL (pc + 3) l (vr (some 3) :: st) M) : ck_WW p lc e R s m args below meth c Q s0 D dA sa SM n0 z0 nL pc l (vr (some i) :: st) M := by
  obtain ⟨hx, hb, hml, hown, hts, g, hW, hr1, hr2, hsh⟩ := cx
  intro H locs ls hR hq hL hlen hn hz
  obtain ⟨cell, b1, b2, b3, b4, b5, b6, b7, b8⟩ := ck_arr g hW hR (i := i) (by omega) (by omega)
  obtain ⟨c1, c2, c3⟩ := b8 h50
  have hRA := ((g.K hW).2 4 _ rfl).2
  have hnm : s.vm.findClass "[Ljava/lang/Object;" = some (dA 104) := va_nmO hRA rfl
  have hc := ck_cat_sum (ck_ad s0 sa) st
  exact va_getC (mi := ck_ad s0 sa 3) hx hb (hml.trans hL.1.symm) hown (hts _ h1) (va_Dc.use (va_Dc.moved hW.alike (va_Dc.of (g.2.1 _ h2)))) (hts _ h3) (hts _ h4) (hts _ h5) (by rw [ck_ad_lt (by omega)]; exact va_Mi.moved hW.alike g.2.2.2.2.2.1)
    ⟨cell, b1, by rw [c3]; rfl, by rw [c3, hi]; exact hnm⟩ (by omega) (by rw [hc]; omega) hdg (k1 H locs ls hR hq hL hlen hn hz)
theorem ck_castO : ∀ (cn : Nat) (r : vw_C), ck_CL[cn]? = some r → r.1 = "java/lang/Object" ∨ Cond.castable r.1 "java/lang/Object" ∈ lw_tbl := by
  intro cn r h
  match cn, h with
  | 0, h => cases h; exact Or.inr q1883
  | 1, h => cases h; exact Or.inr q1884
  | 2, h => cases h; exact Or.inr q1885
  | 3, h => cases h; exact Or.inr q1880
  | 4, h => cases h; exact Or.inr q1886
  | 5, h => cases h; exact Or.inr q1888
  | 6, h => cases h; exact Or.inr q1889
  | 7, h => cases h; exact Or.inr q1890
  | 8, h => cases h; exact Or.inr q1891
  | 9, h => cases h; exact Or.inr q1892
  | 10, h => cases h; exact Or.inr q1893
  | 11, h => cases h; exact Or.inr q1894
  | 12, h => cases h; exact Or.inr q1895
  | 13, h => cases h; exact Or.inr q1896
  | 14, h => cases h; exact Or.inr q1897
  | 15, h => cases h; exact Or.inr q1881
  | 16, h => cases h; exact Or.inr q1887
  | n + 17, h => simp at h
theorem ck_s_copy (cx : ck_ctx p R s m args c s0 D dA sa SM a0 own cc nL d') (h1 : Cond.methodLink own k arraycopyName ∈ lw_all) (h2 : Cond.native arraycopyName ∈ lw_all) (h3 : Cond.static arraycopyName ∈ lw_all) (h4 : Cond.initialized "java/lang/System" ∈ lw_all) {j : Nat} {sp dp n : Int}
    (hc : (M.K i).1 = 104 ∧ (M.K j).1 = 104 ∧ sp = 0 ∧ dp = 0 ∧ 0 ≤ n ∧ n ≤ (M.K i).2 ∧ n ≤ (M.K j).2 ∧ i ≠ j ∧ 50 ≤ i ∧ 50 ≤ j ∧ ck_elm M i n.toNat = true) (hcat : ck_cat st ≤ 8) (hdg : decode cc pc = .ok (.invokestatic k, 3))
    (k1 : ck_WW p lc e R s m args below meth c Q s0 D dA sa SM n0 z0 nL (pc + 3) l st (M.cp i j n.toNat)) : ck_WW p lc e R s m args below meth c Q s0 D dA sa SM n0 z0 nL pc l (vi n :: vi dp :: vr (some j) :: vi sp :: vr (some i) :: st) M := by
  obtain ⟨hx, hb, hml, hown, hts, g, hW, hr1, hr2, hsh⟩ := cx
  obtain ⟨k1c, k2c, rfl, rfl, hn0, hni, hnj, hij, hi50, hj50, hel⟩ := hc
  intro H locs ls hR hq hL hlen hn hz
  have hK := g.K hW
  obtain ⟨cI, b1, -, -, -, -, b6, -, b8⟩ := ck_arr g hW hR (i := i) (by omega) (by omega)
  obtain ⟨i1, -, i3⟩ := b8 hi50
  obtain ⟨cJ, d1, -, -, -, -, d6, -, d8⟩ := ck_arr g hW hR (i := j) (by omega) (by omega)
  obtain ⟨j1, -, j3⟩ := d8 hj50
  have hsm : (M.K i).2 < 65536 := by
    have := (hR.2.2.2.2.2 i hi50 i1).1
    omega
  obtain ⟨N, hN⟩ : ∃ N : Nat, n = (N : Int) := ⟨n.toNat, by omega⟩
  subst hN
  rw [show ((N : Int)).toNat = N from rfl] at hel k1
  obtain ⟨f, hf⟩ : ∃ f : Nat → Option Nat, f = fun k => (M.R i k).map (ck_ad s0 sa) := ⟨_, rfl⟩
  obtain ⟨h, hh⟩ : ∃ h : Nat → Option Nat, h = fun k => (M.R j k).map (ck_ad s0 sa) := ⟨_, rfl⟩
  have eI : cI = vp_cell (dA 104) ((M.K i).2, .inr (.inr (.inr (.inr f)))) := by rw [i3, k1c, hf]; rfl
  have eJ : cJ = vp_cell (dA 104) ((M.K j).2, .inr (.inr (.inr (.inr h)))) := by rw [j3, k2c, hh]; rfl
  rw [eI] at b1
  rw [eJ] at d1
  have hcl : (Int32.ofInt (N : Int)).toNatClampNeg = N := (ck_i_clamp (j := N) (n := N + 1) rfl (by omega) (by omega)).2
  have hc0 : (Int32.ofInt (0 : Int)).toNatClampNeg = 0 := by decide
  have hN0 : ¬ Int32.ofInt (N : Int) < 0 := fun q => (ck_i_clamp (x := (N : Int)) (j := N) (n := N + 1) rfl (by omega) (by omega)).1 (Or.inl q)
  have hNi : (Int32.ofInt (N : Int)).toInt = (N : Int) := ck_i_toInt ⟨by omega, by omega⟩
  have h00 : (Int32.ofInt (0 : Int)).toInt = 0 := by decide
  have hwords : nativeFrameWords "java/lang/System" "arraycopy" 5 ≤ 100 := by decide +kernel
  have hcs := ck_cat_sum (ck_ad s0 sa) st
  have hO := (hK.2 4 _ rfl).2
  have hel2 : ∀ q : Nat, q < N → ∀ y : Nat, f q = some y → va_Any "java/lang/Object" s H y := by
    intro q hq y hy
    rw [hf] at hy
    unfold ck_elm at hel
    have h1 := List.all_eq_true.mp hel q (List.mem_range.mpr hq)
    cases hw : M.R i q with
    | none => dsimp only at hy; rw [hw] at hy; cases hy
    | some w =>
      dsimp only at hy
      rw [hw] at hy h1
      have hy : ck_ad s0 sa w = y := Option.some.inj hy
      subst hy
      have hw17 : (M.K w).1 < 17 := of_decide_eq_true h1
      obtain ⟨hw50, hwn, r, u1, cellV, u2, u3, u4, -⟩ := ck_obj hR g hw17
      have hcls := (hK.1 _ r u1).2
      refine ⟨cellV, u2, by rw [u4]; rfl, by rw [u3]; obtain ⟨kC, hkC, -⟩ := hcls.2; exact ⟨kC, hkC⟩, fun comp hcomp => ?_⟩
      rw [u3]
      rcases ck_castO _ r u1 with h | h
      · rw [h] at hcls
        have : comp = D.1 (M.K w).1 := Option.some.inj (hcomp.symm.trans hcls.1)
        rw [this]; exact va_assign hcls
      · obtain ⟨q1, q2, z1, z2, z3⟩ := Cond.castable_spec (va_Nw.use (A := args) rfl (va_Nw.warmC hW (va_Nw.of rfl (g.2.1 _ h))))
        have e1 : q1 = D.1 (M.K w).1 := Option.some.inj (z1.symm.trans hcls.1)
        have e2 : q2 = comp := Option.some.inj (z2.symm.trans hcomp)
        rw [← e1, ← e2]; exact z3
  intro T hT X
  obtain ⟨-, k0, hk0, cm0, hkk0⟩ := (hK.2 4 _ rfl).1 (M.K i).2 (fun j => va_rf (f j))
  obtain ⟨-, k9, hk9, cm9, hkk9⟩ := (hK.2 4 _ rfl).1 (M.K j).2 (fun j => va_rf (h j))
  obtain ⟨vm', X', step⟩ := X.arraycopy hx hown (hts _ h1) (hts _ h2) (hts _ h3) (hts _ h4) (src := ck_ad s0 sa i) (dst := ck_ad s0 sa j) (cs := vp_cell (dA 104) ((M.K i).2, .inr (.inr (.inr (.inr f))))) (cd := vp_cell (dA 104) ((M.K j).2, .inr (.inr (.inr (.inr h))))) (srcPos := Int32.ofInt 0) (destPos := Int32.ofInt 0) (n := Int32.ofInt N) (by rw [hT]; exact b1) (by rw [hT]; exact d1)
    (fun _ h => by cases h) (fun _ h => by cases h) (fun h => by cases h) (fun h => by cases h) hk0 hk9 hkk0 hkk9 rfl (by decide) (by decide) hN0
    (by rw [h00, hNi]; show ¬ _ > ((arrV (dA 104) (M.K i).2 (fun j => va_rf (f j))).slots.size : Int); rw [arrV_size]; omega)
    (by rw [h00, hNi]; show ¬ _ > ((arrV (dA 104) (M.K j).2 (fun j => va_rf (h j))).slots.size : Int); rw [arrV_size]; omega)
    (fun vm₁ hal q hq => by
      rw [hcl] at hq
      have e : (vp_cell (dA 104) ((M.K i).2, .inr (.inr (.inr (.inr f))))).slots.getD ((Int32.ofInt 0).toNatClampNeg + q) .null = va_rf (f q) := by
        show (arrV (dA 104) (M.K i).2 (fun j => va_rf (f j))).slots.getD _ _ = _
        rw [hc0, Nat.zero_add, Array.getD_eq_getD_getElem?, arrV_read _ _ (by omega)]
        rfl
      rw [e]
      cases hy : f q with
      | none => exact ⟨rfl, trivial⟩
      | some y =>
        obtain ⟨cellV, g1, g2, ⟨kC, hkC⟩, hasg⟩ := hel2 q hq y hy
        obtain ⟨kA, comp, r1, r2, r3, -⟩ := hO
        cases hk9.symm.trans r1
        cases hkk9.symm.trans r2
        obtain ⟨kE, hkE, -⟩ := Vm.findClass_spec r3
        obtain ⟨kC', hkC', -⟩ := hal.2.2 _ _ hkC
        obtain ⟨kE', hkE', -⟩ := hal.2.2 _ _ hkE
        refine ⟨rfl, cellV, (show T.heap[y]? = some cellV by rw [hT]; exact g1), (fun q h => by rw [h] at g2; cases g2), ⟨kC', hkC'⟩, ?_, ?_⟩
        · exact ⟨kE', hkE'⟩
        · show vm₁.assignable _ _ = true
          rw [hal.assignable]
          exact hasg _ r3)
    (g := F0 m pc ls (.int (Int32.ofInt N) :: .int (Int32.ofInt 0) :: .ref (ck_ad s0 sa j) :: .int (Int32.ofInt 0) :: .ref (ck_ad s0 sa i) :: st.map (ck_sv (ck_ad s0 sa)))) rfl (hL.1.trans hml.symm) (rest := st.map (ck_sv (ck_ad s0 sa))) rfl (by rw [hb]; exact hdg) (by omega) (by show 2 * 0 + _ + _ ≤ _; rw [hcs]; omega)
  have e1 : copied (vp_cell (dA 104) ((M.K i).2, .inr (.inr (.inr (.inr f))))) (vp_cell (dA 104) ((M.K j).2, .inr (.inr (.inr (.inr h))))) (Int32.ofInt 0) (Int32.ofInt 0) (Int32.ofInt N) = vp_cell (dA 104) ((M.K j).2, .inr (.inr (.inr (.inr (va_cpy f h (Int32.ofInt 0).toNatClampNeg (Int32.ofInt 0).toNatClampNeg (Int32.ofInt N).toNatClampNeg))))) := by
    rw [vp_cell_q, vp_cell_q, vp_cell_q]
    exact va_copied (fun z => va_rf z) (dA 104) (dA 104) f h (by rw [hc0, hcl]; omega)
  rw [e1, hc0, hcl] at X' step
  have hl : ck_ad s0 sa j < H.size := (Array.getElem?_eq_some_iff.mp d1).1
  obtain ⟨nc, hnc⟩ : ∃ nc : Cell, nc = vp_cell (dA 104) ((M.K j).2, .inr (.inr (.inr (.inr (va_cpy f h 0 0 N))))) := ⟨_, rfl⟩
  rw [← hnc] at X' step
  have hheap : ((T.setVm vm').setCell (ck_ad s0 sa j) nc).heap = H.setIfInBounds (ck_ad s0 sa j) nc := by rw [← hT]; rfl
  have oq : ∀ q : Nat, q ≠ ck_ad s0 sa j → (H.setIfInBounds (ck_ad s0 sa j) nc)[q]? = H[q]? := fun q hq => by simp [Array.getElem?_setIfInBounds, Ne.symm hq]
  have oj : (H.setIfInBounds (ck_ad s0 sa j) nc)[ck_ad s0 sa j]? = some nc := by simp [Array.getElem?_setIfInBounds, hl]
  have hR' : ck_Rl s0 D dA sa SM (M.cp i j N) (H.setIfInBounds (ck_ad s0 sa j) nc) := by
    refine hR.upd hj50 j1 rfl rfl (fun q hq => ⟨rfl, if_neg hq⟩) (by simp) oq ?_
    unfold ck_at1
    rw [show (M.cp i j N).K = M.K from rfl, if_neg (by omega), oj, k2c, hnc]
    show some (arrV (dA 104) (M.K j).2 (fun k => va_rf (va_cpy f h 0 0 N k))) = some (arrV (dA 104) (M.K j).2 _)
    congr 2
    funext k
    show va_rf (va_cpy f h 0 0 N k) = va_rf (((M.cp i j N).R j k).map (ck_ad s0 sa))
    rw [show (M.cp i j N).R j k = (if k < N then M.R i k else M.R j k) from congrFun (if_pos rfl : (M.cp i j N).R j = _) k]
    by_cases hk : k < N
    · rw [if_pos hk, pk_cpy_in (by omega) (by omega), hf]
      show va_rf ((M.R i (0 + (k - 0))).map _) = _
      rw [show 0 + (k - 0) = k by omega]
    · rw [if_neg hk, pk_cpy_out (by omega), hh]
  obtain ⟨t, a1, b1'⟩ := k1 _ _ ls hR' (fun q hq' => by
      rcases List.mem_append.mp hq' with h | h
      · exact hq q h
      · obtain ⟨z, -, hz⟩ := List.mem_map.mp h
        rw [← hz]
        show s0.heap.size ≤ ck_ad s0 sa j
        rw [ck_ad_ge hj50]; omega) hL hlen hn hz _ hheap X'
  exact ⟨t, step t a1, b1'⟩
theorem ck_s_wrong (cx : ck_ctx p R s m args c s0 D dA sa SM a0 "ConkerYard$Wrong" cc nL d') (hfl : lc.stackTraces = false) (hi : (M.K i).1 = 4) (h50 : 50 ≤ i) (hback : M.R i 4 = none) (hcat : ck_cat st ≤ 8) (hdg : decode cc pc = .ok (.invokespecial 1, 3))
    (k1 : ck_WW p lc e R s m args below meth c Q s0 D dA sa SM n0 z0 nL (pc + 3) l st (((M.sR i 0 (some i)).sR i 1 (M.R 0 2)).sR i 2 (M.R 0 3))) : ck_WW p lc e R s m args below meth c Q s0 D dA sa SM n0 z0 nL pc l (vr (some i) :: st) M := by
  obtain ⟨hx, hb, hml, hown, hts, g, hW, hr1, hr2, hsh⟩ := cx
  intro H locs ls hR hq hL hlen hn hz
  obtain ⟨-, hin, r, q1, cell, q2, q3, q4, q5⟩ := ck_obj (i := i) hR g (by omega)
  obtain ⟨cm, hcm, hmo1, hmo2⟩ := ck_objm (i := i) hR g (by omega)
  cases Option.some.inj (q2.symm.trans hcm)
  rw [hi] at q1 q3 q5
  have hr : r = (RX3, TX3, 7) := Option.some.inj (q1.symm.trans rfl)
  subst hr
  have hKK := g.K hW
  obtain ⟨hS, hfc, kC, hkC, hkind⟩ := hKK.1 4 (RX3, TX3, 7) rfl
  have hap := va_apart (own := "ConkerYard$Wrong") (ci := 4) hts in_X3 tyX3 tyX3_ok nmX3 hKK rfl
  have hls : ∀ {C n d : String}, Cond.laysStatic C n d ∈ lw_tbl → (Cond.laysStatic C n d).before args s = true := by
    intro C n d hm
    obtain ⟨c', k', i', f, a, cl, h1, h2, h3, h4, h5, h6, h7, h8, h9⟩ := Cond.laysStatic_spec (g.2.1 _ hm)
    obtain ⟨k2, hi', he⟩ := State.fieldFound?_setVm hW.alike h2
    show (Cond.laysStatic C n d).holds args s none s [] = true
    exact Cond.laysStatic_of (by rw [hW.alike.findClass]; exact h1) hi' h3 (by rw [he]; exact h4) (by rw [hsh a (Array.getElem?_eq_some_iff.mp h5).1]; exact h5) h6 h7 h8 (by rw [he]; exact h9)
  have hdc : (Cond.declares ⟨"java/lang/Throwable", "<init>", "()V"⟩).before args s = true := va_Nw.use rfl (va_Nw.warmD hW (va_Nw.of rfl (g.2.1 _ q258)))
  have hw : ∀ c ∈ Bundle.throwableAtoms, c.before args s = true := by
    intro c hc
    simp only [Bundle.throwableAtoms, List.mem_cons, List.not_mem_nil, or_false] at hc
    rcases hc with rfl | rfl | rfl | rfl | rfl | rfl | rfl | rfl | rfl | rfl | rfl | rfl | rfl | rfl | rfl | rfl | rfl | rfl | rfl | rfl | rfl | rfl | rfl | rfl
    · exact hts _ q133
    · exact hts _ q273
    · exact hts _ q282
    · exact hts _ q284
    · exact hts _ q287
    · exact hts _ q289
    · exact hts _ q274
    · exact hts _ q275
    · exact hts _ q167
    · exact hts _ q168
    · exact hts _ q276
    · exact hts _ q281
    · exact hts _ q285
    · exact hts _ q299
    · exact hts _ q263
    · exact hts _ q300
    · exact hts _ q265
    · exact hts _ q301
    · exact hts _ q267
    · exact hts _ q277
    · exact hls q278
    · exact hts _ q279
    · exact hls q280
    · exact hts _ q269
  have hpass : ∀ c ∈ Bundle.chain0Atoms "java/lang/Exception" [], c.before args s = true := by
    intro c hc
    simp only [Bundle.chain0Atoms, Bundle.passAtoms, List.mem_cons, List.not_mem_nil, or_false] at hc
    rcases hc with rfl | rfl | rfl | rfl | rfl
    · exact hts _ q294
    · exact hts _ q295
    · exact hts _ q296
    · exact hts _ q274
    · exact hdc
  intro T hT X
  have htr : e.platform.stackTraces = false := (show e.platform.stackTraces = lc.stackTraces by rw [X.admits.platform]).trans hfl
  have howns : e.platform.frameOwnsMonitors = true := by rw [X.admits.platform]
  have hfin : e.platform.finalization = false := by rw [X.admits.platform]
  have hpl : e.platform.magicAccessors = ({} : Platform).magicAccessors := by rw [X.admits.platform]
  obtain ⟨TT, Z, L, LZ, Y⟩ := ThrowableC.of_atoms (args := args) howns hfin hpl hw
  obtain ⟨P1, Ps, hlen', L1, hL', hP1m, hlink1, hlink⟩ := Bundle.chain0 (args := args) hpl Y.init0 [] "java/lang/Exception" (by decide +kernel) (fun n h => by cases h) hpass
  have hPs : Ps = [] := List.eq_nil_of_length_eq_zero hlen'
  subst hPs
  have hsel0 : selectMethod e.platform s.vm cell.cls TT.fill0 = .method TT.fill0 := by
    obtain ⟨c2, r2, m2, z1, z2, z3, z4, -⟩ := Cond.selects_spec (hts _ q260)
    cases Option.some.inj (z1.symm.trans hfc)
    cases Option.some.inj (z2.symm.trans (State.methodFound?_of_named Y.fill0 (by decide)))
    cases Option.some.inj (z3.symm.trans Y.fill0)
    rw [Launch.admits_selectMethod X.admits, q3]; exact z4
  have hselF : selectMethod e.platform s.vm cell.cls TT.fill = .method TT.fill := by
    obtain ⟨c2, r2, m2, z1, z2, z3, z4, -⟩ := Cond.selects_spec (hts _ q261)
    cases Option.some.inj (z1.symm.trans hfc)
    cases Option.some.inj (z2.symm.trans (State.methodFound?_of_named Y.fill (by decide)))
    cases Option.some.inj (z3.symm.trans Y.fill)
    rw [Launch.admits_selectMethod X.admits, q3]; exact z4
  obtain ⟨cfU, kfU, fiU, fU, aU, cellS, u1, -, -, u4, u5, u6, u7, -⟩ := va_Z.moved hW.alike g.2.2.2.2.2.2.2.2.1
  obtain ⟨cfN, kfN, fiN, fN, aN, cellN, w1, -, -, w4, w5, w6, w7, -⟩ := va_Z.moved hW.alike g.2.2.2.2.2.2.2.2.2
  have eU := Option.some.inj (u1.symm.trans Y.unassigned)
  have eN := Option.some.inj (w1.symm.trans Y.sentinel)
  simp only [Prod.mk.injEq] at eU eN
  obtain ⟨-, rfl, -, rfl⟩ := eU
  obtain ⟨-, rfl, -, rfl⟩ := eN
  cases Option.some.inj (u4.symm.trans L.statics)
  cases Option.some.inj (w4.symm.trans L.statics)
  cases Option.some.inj (u5.symm.trans w5)
  have haS := (Array.getElem?_eq_some_iff.mp u5).1
  obtain ⟨u0, hu0⟩ : ∃ u0 : RefV, u0.v = va_rf ((SM.R 0 2).map (ck_ad s0 sa)) := ⟨⟨va_rf ((SM.R 0 2).map (ck_ad s0 sa)), by cases SM.R 0 2 <;> rfl⟩, rfl⟩
  obtain ⟨sen, hsen⟩ : ∃ sen : RefV, sen.v = va_rf ((SM.R 0 3).map (ck_ad s0 sa)) := ⟨⟨va_rf ((SM.R 0 3).map (ck_ad s0 sa)), by cases SM.R 0 3 <;> rfl⟩, rfl⟩
  have slot : ∀ (k : Nat) (hk : k < 7) (cf kf fi : _) (fd : Field), s.fieldFound? (TX3 k).1 (TX3 k).2.1 (TX3 k).2.2.1 = some (cf, kf, fi, fd) → fd.slot = (D.2 4) k := by
    intro k hk cf kf fi fd h
    obtain ⟨_, _, _, _, h1, h2⟩ := hS k hk
    cases Option.some.inj (h1.symm.trans h)
    exact h2
  have eC : TT.fCause.slot = (D.2 4) 0 := slot 0 (by decide) _ _ _ _ Y.cause
  have eS : TT.fStack.slot = (D.2 4) 1 := slot 1 (by decide) _ _ _ _ Y.stack
  have eP : TT.fSupp.slot = (D.2 4) 2 := slot 2 (by decide) _ _ _ _ Y.supp
  obtain ⟨ci198, i198, fB, hk198, hg198, ha198, hsB, -, hnB, htB, hffB⟩ := Cond.ownField (t := .object "java/lang/Object") Y.found L.cls (by decide +kernel) (hts _ q272) (hts _ q271) e.platform hpl
  have eB : fB.slot = (D.2 4) 4 := slot 4 (by decide) _ _ _ _ hffB
  have p1 := t_set q5 hap (k := 0) (by decide) (Value.ref (ck_ad s0 sa i))
  have p2 := t_set p1 hap (k := 1) (by decide) u0.v
  have p3 := t_set p2 hap (k := 2) (by decide) sen.v
  have p4 := t_set p3 hap (k := 1) (by decide) u0.v
  have hprep : preparedCellV TT.toThrowableT cell (ck_ad s0 sa i) u0 sen = ((cell.setSlot ((D.2 4) 0) (.ref (ck_ad s0 sa i))).setSlot ((D.2 4) 1) u0.v).setSlot ((D.2 4) 2) sen.v := by
    rw [← eC, ← eS, ← eP]; try rfl
  have hskip : SkipFacts TT e.platform s (fun u => u) u0 ((preparedCellV TT.toThrowableT cell (ck_ad s0 sa i) u0 sen).withEntry T.cur) := by
    refine ⟨{ ci198 := ci198, i198 := i198, fBack := fB }, ⟨hk198, hg198, ha198, hsB⟩, ?_, fun _ _ => rfl⟩
    show (preparedCellV TT.toThrowableT cell (ck_ad s0 sa i) u0 sen).slots[fB.slot]? = some .null
    rw [hprep, eB, p3 4 (by decide)]
    show some (va_rf ((M.R i 4).map (ck_ad s0 sa))) = some .null
    rw [hback]; rfl
  have htk : ∀ (k : Nat) (hk : k < 7) (cf fi : Nat) (kf : Class) (fd : Field) (v : Value), (Cond.lays RX3 (TX3 k).1 (TX3 k).2.1 (TX3 k).2.2.1).before args s = true → s.fieldFound? (TX3 k).1 (TX3 k).2.1 (TX3 k).2.2.1 = some (cf, kf, fi, fd) → narrow (tyX3 k) v = v → fits (tyX3 k) v = true → Takes s cell fd v := by
    intro k hk cf fi kf fd v h1 h2 h3 h4
    refine ⟨by rw [slot k hk _ _ _ _ h2]; exact k2_hasslot (q5 k hk), ?_⟩
    rw [q3, q4]
    exact (u_fits hfc hkC hkind (Or.inl h1) h2 (tyX3_ok k hk) h3 h4).2
  have htC := htk 0 (by decide) _ _ _ _ (.ref (ck_ad s0 sa i)) (hts _ q262) Y.cause rfl rfl
  have htS := htk 1 (by decide) _ _ _ _ u0.v (hts _ q264) Y.stack (narrow_refV _ u0) (fits_refV_array _ u0)
  have htP := htk 2 (by decide) _ _ _ _ sen.v (hts _ q266) Y.supp (narrow_refV _ sen) (fits_refV_object _ sen)
  have hcs := ck_cat_sum (ck_ad s0 sa) st
  obtain ⟨tm, methC, cdC, kC2, vm₁, hnC, -, -, -, -, -, -, -, hW₁, st1⟩ := Steps.initCold (tb := p.tables) (e := e) (below := below) (s := s) (U := T) X.here hx X.warmed hpl hown (t := Bundle.init0 "java/lang/Exception") rfl rfl ⟨by decide, by decide⟩ (args := args)
    (hts _ q293) (hts _ q294) (bytes := Bundle.five) (maxL := 1) (hts _ q295) (f := F0 m pc ls (.ref (ck_ad s0 sa i) :: st.map (ck_sv (ck_ad s0 sa)))) rfl (a := ck_ad s0 sa i) (rest := st.map (ck_sv (ck_ad s0 sa))) rfl (by rw [hb]; exact hdg)
  cases Option.some.inj (hnC.symm.trans hP1m)
  have X₁ := X.noted hW₁
  obtain ⟨vm₂, X₂, st2⟩ := X₁.ctorPlainOffV hx (g := F0 m pc ls (st.map (ck_sv (ck_ad s0 sa)))) rfl (hL.1.trans hml.symm) TT L Z LZ [P1]
    (fun P hP => by rw [List.mem_singleton.mp hP]; exact L1) ⟨hlink1, hlink⟩ (u0 := u0) (sen := sen) (self := ck_ad s0 sa i) (cell := cell) (cellS := cellS)
    (by show T.heap[_]? = _; rw [hT]; exact q2) (fun _ => by rw [q4]; simp) (by rw [q4]; simp) hmo1 hmo2 hsel0 hselF (by show T.heap[_]? = _; rw [hT, hR.2.2.1 _ haS]; exact u5) (Nat.ne_of_lt (Nat.lt_of_lt_of_le haS (by rw [ck_ad_ge h50]; exact Nat.le_add_right _ _))) (fun q => by rw [q] at u6; cases u6) (by rw [hu0]; exact u7) (by rw [hsen]; exact w7)
    htC htS htP Y.objLocals hskip htr [] (by rw [hb]; exact hdg) (by show 1 + 2 < _; omega) (by show 2 * 0 + _ + _ ≤ _; rw [hcs]; show _ + (13 * 1 + 41) ≤ _; omega)
  obtain ⟨nc, hnc⟩ : ∃ nc : Cell, nc = (preparedCellV TT.toThrowableT cell (ck_ad s0 sa i) u0 sen).setSlot TT.fStack.slot u0.v := ⟨_, rfl⟩
  rw [← hnc] at X₂ st2
  rw [hprep, eS] at hnc
  have hl : ck_ad s0 sa i < H.size := (Array.getElem?_eq_some_iff.mp q2).1
  have hheap : (((T.setVm vm₁).setVm vm₂).setCell (ck_ad s0 sa i) nc).heap = H.setIfInBounds (ck_ad s0 sa i) nc := by rw [← hT]; rfl
  have oq : ∀ q : Nat, q ≠ ck_ad s0 sa i → (H.setIfInBounds (ck_ad s0 sa i) nc)[q]? = H[q]? := fun q hq => by simp [Array.getElem?_setIfInBounds, Ne.symm hq]
  have oi : (H.setIfInBounds (ck_ad s0 sa i) nc)[ck_ad s0 sa i]? = some nc := by simp [Array.getElem?_setIfInBounds, hl]
  have hSM : M.R 0 = SM.R 0 := (hR.2.2.2.1 0 (by decide)).2.1
  have hR' : ck_Rl s0 D dA sa SM (((M.sR i 0 (some i)).sR i 1 (M.R 0 2)).sR i 2 (M.R 0 3)) (H.setIfInBounds (ck_ad s0 sa i) nc) := by
    refine hR.upd h50 hin rfl rfl (fun j hj => ⟨rfl, (ck_u2_row _ _ _ _ _ hj).trans ((ck_u2_row _ _ _ _ _ hj).trans (ck_u2_row _ _ _ _ _ hj))⟩) (by simp) oq ?_
    unfold ck_at1
    rw [show (((M.sR i 0 (some i)).sR i 1 (M.R 0 2)).sR i 2 (M.R 0 3)).K = M.K from rfl, if_pos (by omega), hi]
    refine ⟨⟨(RX3, TX3, 7), rfl, nc, oi, by rw [hnc]; exact q3, by rw [hnc]; exact q4, fun j hj => ?_⟩, nc, oi, by rw [hnc]; exact hmo1, by rw [hnc]; exact hmo2⟩
    rw [hnc, p4 j hj]
    have hRR : (((M.sR i 0 (some i)).sR i 1 (M.R 0 2)).sR i 2 (M.R 0 3)).R = ck_u2 (ck_u2 (ck_u2 M.R i 0 (some i)) i 1 (M.R 0 2)) i 2 (M.R 0 3) := rfl
    rw [hRR]
    show some _ = some (ck_fv (ck_ad s0 sa) (ck_ft 4 j) _ (ck_u2 (ck_u2 (ck_u2 M.R i 0 (some i)) i 1 (M.R 0 2)) i 2 (M.R 0 3) i j))
    match j, hj with
    | 0, _ =>
      rw [ck_u2_ne _ _ _ _ _ (by decide), ck_u2_ne _ _ _ _ _ (by decide), ck_u2_self]; rfl
    | 1, _ =>
      rw [ck_u2_ne _ _ _ _ _ (by decide), ck_u2_self, hSM]
      show some u0.v = _
      rw [hu0]; rfl
    | 2, _ =>
      rw [ck_u2_self, hSM]
      show some sen.v = _
      rw [hsen]; rfl
    | 3, _ => rw [ck_u2_ne _ _ _ _ _ (by decide), ck_u2_ne _ _ _ _ _ (by decide), ck_u2_ne _ _ _ _ _ (by decide)]; rfl
    | 4, _ => rw [ck_u2_ne _ _ _ _ _ (by decide), ck_u2_ne _ _ _ _ _ (by decide), ck_u2_ne _ _ _ _ _ (by decide)]; rfl
    | 5, _ => rw [ck_u2_ne _ _ _ _ _ (by decide), ck_u2_ne _ _ _ _ _ (by decide), ck_u2_ne _ _ _ _ _ (by decide)]; rfl
    | 6, _ => rw [ck_u2_ne _ _ _ _ _ (by decide), ck_u2_ne _ _ _ _ _ (by decide), ck_u2_ne _ _ _ _ _ (by decide)]; rfl
    | n + 7, h => exact absurd h (by show ¬ n + 7 < 7; omega)
  obtain ⟨t, a1, b1⟩ := k1 _ _ ls hR' (fun q hq' => by
      rcases List.mem_append.mp hq' with h | h
      · exact hq q h
      · have hb2 : q.base = ck_ad s0 sa i := by
          simp only [List.mem_cons, List.not_mem_nil, or_false] at h
          rcases h with rfl | rfl | rfl | rfl <;> rfl
        rw [hb2, ck_ad_ge h50]; omega) hL hlen hn hz _ hheap X₂
  exact ⟨t, st1 _ (fun acts => by rw [doInvoke_state]; exact st2 _ a1), b1⟩
theorem ck_s_max (cx : ck_ctx p R s m args c s0 D dA sa SM a0 own cc nL d') (h1 : Cond.methodLink own k Lib.Math.max.name ∈ lw_all) (h2 : Cond.static Lib.Math.max.name ∈ lw_all) (h3 : Cond.initialized "java/lang/Math" ∈ lw_all) (h4 : Cond.code Lib.Math.max.name Lib.Math.max.code 2 (some .int) ∈ lw_all) {x y : Int} (hxy : ck_i32 x ∧ ck_i32 y) (hcat : ck_cat st ≤ 8) (hdg : decode cc pc = .ok (.invokestatic k, 3))
    (hgc : M.n - n0 ≤ R.cells) (hgs : M.z - z0 ≤ R.slots)
    (k1 : ck_WW p lc e R s m args below meth c Q s0 D dA sa SM n0 z0 nL (pc + 3) l (vi (max x y) :: st) M) : ck_WW p lc e R s m args below meth c Q s0 D dA sa SM n0 z0 nL pc l (vi y :: vi x :: st) M := by
  obtain ⟨hx, hb, hml, hown, hts, g, hW, hr1, hr2, hsh⟩ := cx
  intro H locs ls hR hq hL hlen hn hz
  have hc := ck_cat_sum (ck_ad s0 sa) st
  refine va_mmax hx hb (hml.trans hL.1.symm) hown (hts _ h1) (hts _ h2) (hts _ h3) (hts _ h4) (by omega) (by rw [hc]; omega) hgc hgs hdg ?_
  have hk := k1 H locs ls hR hq hL hlen hn hz
  have he : (if Int32.ofInt x < Int32.ofInt y then Int32.ofInt y else Int32.ofInt x) = Int32.ofInt (max x y) := by
    by_cases hlt : x < y
    · rw [if_pos ((ck_i_lt hxy.1 hxy.2).mpr hlt)]; congr 1; omega
    · rw [if_neg (fun q => hlt ((ck_i_lt hxy.1 hxy.2).mp q))]; congr 1; omega
  rw [he]
  exact hk
theorem ck_s_min (cx : ck_ctx p R s m args c s0 D dA sa SM a0 own cc nL d') (h1 : Cond.methodLink own k Lib.Math.min.name ∈ lw_all) (h2 : Cond.static Lib.Math.min.name ∈ lw_all) (h3 : Cond.initialized "java/lang/Math" ∈ lw_all) (h4 : Cond.code Lib.Math.min.name Lib.Math.min.code 2 (some .int) ∈ lw_all) {x y : Int} (hxy : ck_i32 x ∧ ck_i32 y) (hcat : ck_cat st ≤ 8) (hdg : decode cc pc = .ok (.invokestatic k, 3))
    (hgc : M.n - n0 ≤ R.cells) (hgs : M.z - z0 ≤ R.slots)
    (k1 : ck_WW p lc e R s m args below meth c Q s0 D dA sa SM n0 z0 nL (pc + 3) l (vi (min x y) :: st) M) : ck_WW p lc e R s m args below meth c Q s0 D dA sa SM n0 z0 nL pc l (vi y :: vi x :: st) M := by
  obtain ⟨hx, hb, hml, hown, hts, g, hW, hr1, hr2, hsh⟩ := cx
  intro H locs ls hR hq hL hlen hn hz
  have hc := ck_cat_sum (ck_ad s0 sa) st
  refine va_mmin hx hb (hml.trans hL.1.symm) hown (hts _ h1) (hts _ h2) (hts _ h3) (hts _ h4) (by omega) (by rw [hc]; omega) hgc hgs hdg ?_
  have hk := k1 H locs ls hR hq hL hlen hn hz
  have he : (if Int32.ofInt y < Int32.ofInt x then Int32.ofInt y else Int32.ofInt x) = Int32.ofInt (min x y) := by
    by_cases hlt : y < x
    · rw [if_pos ((ck_i_lt hxy.2 hxy.1).mpr hlt)]; congr 1; omega
    · rw [if_neg (fun q => hlt ((ck_i_lt hxy.2 hxy.1).mp q))]; congr 1; omega
  rw [he]
  exact hk
/-- what a method with handlers says of its table -/
def ck_hok (Dm : ck_D) (y : ck_Y) (c : Code) : Prop := Dm.2.2.2.2.2 = [] ∨ ∃ a b t k hh, Dm.2.2.2.2.2 = [(a, b, t)] ∧ c.exceptionTable.toList = tableOf ((a, b, t, k) :: hh) ∧ k ≠ 0 ∧ Cond.classLink y.1.cls k "ConkerYard$Wrong" ∈ lw_all
theorem ck_caught {Dm : ck_D} {y : ck_Y} (cx : ck_ctx p R s m args c s0 D dA sa SM a0 y.1.cls cc nL d') (hh : ck_hok Dm y c) {t : Nat} (ht : ck_hd Dm.2.2.2.2.2 pc = some t) (hi : (M.K i).1 = 4)
    (k1 : ck_WW p lc e R s m args below meth c Q s0 D dA sa SM n0 z0 nL t l [vr (some i)] M) {H : Heap} {locs : List Loc} {ls : Array Slot} {rest : List Value} (hR : ck_Rl s0 D dA sa SM M H) (hq : ∀ q ∈ locs, s0.heap.size ≤ q.base) (hL : lv_has ls nL (ck_el (ck_ad s0 sa) l)) (hlen : l.length = nL) (hn : n0 ≤ M.n) (hz : z0 ≤ M.z) :
    vy_W p lc e R s m args below meth c H locs (M.n - n0) (M.z - z0) Q (F0 m pc ls rest) (ck_ad s0 sa i) := by
  obtain ⟨hx, hb, hml, hown, hts, g, hW, hr1, hr2, hsh⟩ := cx
  rcases hh with h1 | ⟨a, b, t', k, hh', h1, h2, h3, h4⟩
  · rw [h1] at ht; cases ht
  · rw [h1] at ht
    unfold ck_hd at ht
    have hcv : (Nat.ble a pc && Nat.blt pc b) = true ∧ t' = t := by
      cases hb2 : (Nat.ble a pc && Nat.blt pc b) with
      | true => rw [hb2] at ht; exact ⟨rfl, Option.some.inj ht⟩
      | false => rw [hb2] at ht; cases ht
    obtain ⟨hcv, rfl⟩ := hcv
    obtain ⟨cell, u1, u2, u3⟩ := ck_recv (C := RX3) (T := TX3) (N := 7) (cn := 4) hR g hW rfl hi
    obtain ⟨h50, hin, r, q1, cell2, q2, q3, q4, q5⟩ := ck_obj (i := i) hR g (by omega)
    cases Option.some.inj (u1.symm.trans q2)
    have hcs : (Cond.castable "ConkerYard$Wrong" "ConkerYard$Wrong").before args s = true := va_Nw.use rfl (va_Nw.warmC hW (va_Nw.of rfl (g.2.1 _ q255)))
    refine vy_catch (E := "ConkerYard$Wrong") (name := "ConkerYard$Wrong") hown [] ⟨a, b, t', k⟩ (tableOf hh') h2 (fun z hz => by cases hz) ?_ h3 (hts _ h4) hcs u1 q4 u3 (k1 H locs ls hR hq hL hlen hn hz)
    simp only [Bool.and_eq_true] at hcv
    simp only [covers]
    simp only [Nat.ble_eq, Nat.blt_eq] at hcv
    simp [hcv.1, hcv.2]
theorem ck_s_athrow (hx : p.tables.exec = Jvm.exec) (hb : c.code = cc) (hdg : decode cc pc = .ok (.athrow, 1)) {st : List ck_A}
    (k1 : ∀ H locs ls, ck_Rl s0 D dA sa SM M H → (∀ q ∈ locs, s0.heap.size ≤ q.base) → lv_has ls nL (ck_el (ck_ad s0 sa) l) → l.length = nL → n0 ≤ M.n → z0 ≤ M.z → vy_W p lc e R s m args below meth c H locs (M.n - n0) (M.z - z0) Q (F0 m pc ls (st.map (ck_sv (ck_ad s0 sa)))) (ck_ad s0 sa i)) :
    ck_WW p lc e R s m args below meth c Q s0 D dA sa SM n0 z0 nL pc l (vr (some i) :: st) M := by
  intro H locs ls hR hq hL hlen hn hz
  exact vy_athrow hx hb hdg (k1 H locs ls hR hq hL hlen hn hz)
end CkSpec
