/-! CALLS, by their kinds: from a contract of the callee to the caller's next place -/
section CkRuns
variable {p : Program} {lc : Launch} {e : Env} {R : Room} {s : State} {m : MethodId} {args : Array Value} {below : List Frame} {meth : Method} {c : Code} {Q : State → Prop}
variable {s0 : State} {D : va_G} {dA : Nat → ClassId} {sa : Nat → Nat} {SM : ck_M} {n0 z0 nL : Nat} {a0 : Array Value} {own : String}
variable {cc : ByteArray} {pc : Nat} {l st : List ck_A} {M M1 : ck_M} {my : Nat → ck_Y} {k mid na d' mL : Nat} {z : Int} {as : List ck_A} {v : Option ck_A} {i : Nat} {H : Heap} {locs : List Loc} {ls : Array Slot}
theorem ck_roomF {R : Room} {d mc ms : Nat} (h : d + 9 ≤ R.frames) : (ck_rm d mc ms).frames + 1 ≤ R.frames := by
  have e : (ck_rm d mc ms).frames = d + 8 := rfl
  rw [e]; omega
theorem ck_roomL {R : Room} {d mc ms mL : Nat} (h : 64 * d + 320 ≤ R.locals) (hm : mL ≤ 45) : 8 + (mL + 11) + (ck_rm d mc ms).locals ≤ R.locals := by
  have e : (ck_rm d mc ms).locals = 64 * d + 256 := rfl
  generalize (ck_rm d mc ms).locals = u at e ⊢
  omega
/-- behind a call that returned -/
theorem ck_after {a : Array Value} {st0 : List Value} (hr : va_Run p lc e R s m args below meth c H locs (M.n - n0) (M.z - z0) (M1.n - M.n) (M1.z - M.z) (F0 m pc ls st0) (st.map (ck_sv (ck_ad s0 sa))) (ck_Qc s0 D dA sa SM v M1 a) (ck_Ab s0))
    (hg : M.n ≤ M1.n ∧ M.z ≤ M1.z) (hq : ∀ q ∈ locs, s0.heap.size ≤ q.base) (hL : lv_has ls nL (ck_el (ck_ad s0 sa) l)) (hlen : l.length = nL) (hn : n0 ≤ M.n) (hz : z0 ≤ M.z)
    (k1 : ck_WW p lc e R s m args below meth c Q s0 D dA sa SM n0 z0 nL (pc + 3) l (ck_push v st) M1) : W p lc e R s m args below meth c H locs (M.n - n0) (M.z - z0) Q (F0 m pc ls st0) := by
  intro T hT X
  obtain ⟨v', st₀, t, T', L, h0, X', hLf, e1, e2, ⟨hv, hR'⟩, stp⟩ := hr T hT X
  have hv' : v' = v.map (ck_sv (ck_ad s0 sa)) := Outcome.returned.inj hv
  subst hv'
  have k2 := k1 T'.heap (locs ++ L) ls (by rw [e1]; exact hR') (fun q h => (List.mem_append.mp h).elim (hq q) (hLf q)) hL hlen (by omega) (by omega)
  rw [show M.n - n0 + (M1.n - M.n) = M1.n - n0 by omega, show M.z - z0 + (M1.z - M.z) = M1.z - z0 by omega] at X'
  obtain ⟨t2, a1, b1⟩ := k2 T' rfl X'
  refine ⟨t2, stp t2 ?_, b1⟩
  cases v with
  | none => exact a1
  | some v => exact a1
/-- behind a call of a method that may throw -/
theorem ck_afterX {a : Array Value} {st0 : List Value} {j : Nat} {Qc : Array Value → State → Outcome → State → Prop} (hr : vy_Run p lc e R s m args below meth c H locs (M.n - n0) (M.z - z0) (M1.n - M.n) (M1.z - M.z) (F0 m pc ls st0) (st.map (ck_sv (ck_ad s0 sa))) (Qc a) (ck_Xc s0 D dA sa SM j M1) (ck_Ab s0)) (hQc : ∀ a st v t, ¬ Qc a st (.returned v) t)
    (hg : M.n ≤ M1.n ∧ M.z ≤ M1.z) (hq : ∀ q ∈ locs, s0.heap.size ≤ q.base) (hn : n0 ≤ M.n) (hz : z0 ≤ M.z)
    (k1 : ∀ H1 locs1, ck_Rl s0 D dA sa SM M1 H1 → (∀ q ∈ locs1, s0.heap.size ≤ q.base) → vy_W p lc e R s m args below meth c H1 locs1 (M1.n - n0) (M1.z - z0) Q (F0 m pc ls (st.map (ck_sv (ck_ad s0 sa)))) (ck_ad s0 sa j)) : W p lc e R s m args below meth c H locs (M.n - n0) (M.z - z0) Q (F0 m pc ls st0) := by
  intro T hT X
  rcases hr T hT X with ⟨v', st₀, t, T', L, h0, X', hLf, e1, e2, hv, stp⟩ | ⟨q, st₀, t, T', L, E, ce, h0, X', hLf, e1, e2, ⟨hE, hqj, hR', hk4⟩, hce, hcv, hcl, stp⟩
  · exact absurd hv (hQc _ _ _ _)
  · subst hqj
    have k2 := k1 T'.heap (locs ++ L) (by rw [e1]; exact hR') (fun q h => (List.mem_append.mp h).elim (hq q) (hLf q))
    rw [show M.n - n0 + (M1.n - M.n) = M1.n - n0 by omega, show M.z - z0 + (M1.z - M.z) = M1.z - z0 by omega] at X'
    obtain ⟨t2, a1, b1⟩ := k2 T' rfl X'
    exact ⟨t2, stp.trans a1, b1⟩
theorem ck_stack {as st' : List ck_A} (ad : Nat → Nat) {i : Nat} {as' : List ck_A} (h : st = as.reverse ++ st') (ha : as = vr (some i) :: as') : st.map (ck_sv ad) = (as'.map (ck_sv ad)).reverse ++ .ref (ad i) :: st'.map (ck_sv ad) := by
  subst h; subst ha
  simp [List.map_reverse, ck_sv, ck_cv, va_rf]
theorem ck_stackS {as st' : List ck_A} (ad : Nat → Nat) (h : st = as.reverse ++ st') : st.map (ck_sv ad) = (as.map (ck_sv ad)).reverse ++ st'.map (ck_sv ad) := by
  subst h
  simp [List.map_reverse]
theorem ck_recv (hR : ck_Rl s0 D dA sa SM M H) (g : ck_G0 s0 D dA sa SM a0) (hW : s0.WarmedH s.vm) {C : String} {T : u_T} {N : Nat} {cn : Nat} (hC : ck_CL[cn]? = some (C, T, N)) (hi : (M.K i).1 = cn) : ∃ cell : Cell, H[ck_ad s0 sa i]? = some cell ∧ cell.vm.isStatics = false ∧ s.vm.findClass C = some cell.cls := by
  have hlt : cn < 17 := by
    have := (List.getElem?_eq_some_iff.mp hC).1
    simpa using this
  subst hi
  obtain ⟨h50, hin, r, q1, cell, q2, q3, q4, q5⟩ := ck_obj hR g hlt
  have hr : r = (C, T, N) := Option.some.inj (q1.symm.trans hC)
  subst hr
  exact ⟨cell, q2, by rw [q4]; rfl, by rw [q3]; exact ((g.K hW).1 _ _ hC).2.1⟩
variable {st' : List ck_A} {as' : List ck_A} {cy : ByteArray} {rt : Option FieldType} {y : MethodName} {hh : List (Nat × Nat × Nat × Nat)}
abbrev ck_ctx (p : Program) (R : Room) (s : State) (m : MethodId) (args : Array Value) (c : Code) (s0 : State) (D : va_G) (dA : Nat → ClassId) (sa : Nat → Nat) (SM : ck_M) (a0 : Array Value) (own : String) (cc : ByteArray) (nL d' : Nat) : Prop :=
  p.tables.exec = Jvm.exec ∧ c.code = cc ∧ c.maxLocals = nL ∧ s.vm.findClass own = some m.cls ∧ (∀ w ∈ lw_all, w.before args s = true) ∧ ck_G0 s0 D dA sa SM a0 ∧ s0.WarmedH s.vm ∧ d' + 8 ≤ R.frames ∧ 64 * d' + 256 ≤ R.locals ∧ (∀ q : Nat, q < s0.heap.size → s.heap[q]? = s0.heap[q]?)
theorem ck_runV (cx : ck_ctx p R s m args c s0 D dA sa SM a0 own cc nL (d' + 1)) (hM : Met lc y (ws_ y cy mL rt) (ck_rm d' (M1.n - M.n) (M1.z - M.z)) (ck_Pc s0 D dA sa SM as M) (ck_Qc s0 D dA sa SM v M1) (M1.n - M.n) (M1.z - M.z) (ck_Ab s0)) (hcode : Cond.code y cy mL rt ∈ lw_all) (hmL : mL ≤ 45)
    {C : String} (hyC : y.cls = C) (h1 : Cond.methodLink own k y ∈ lw_all) (h2 : Cond.instanceMethod y ∈ lw_all) (h3 : Cond.selects C y y ∈ lw_all) (h4 : Cond.initialized C ∈ lw_all) (h5 : ck_nMH y) (h6 : 0 < na) (h7 : ck_np y (na - 1))
    (hst : st = as.reverse ++ st') (has : as = vr (some i) :: as') (hal : as.length = na) (hcat : ck_cat st' ≤ 8) (hrv : ∃ cell : Cell, H[ck_ad s0 sa i]? = some cell ∧ cell.vm.isStatics = false ∧ s.vm.findClass C = some cell.cls) (hR : ck_Rl s0 D dA sa SM M H) (hls : ls.size = nL)
    (hf : M.n - n0 + (M1.n - M.n) ≤ R.cells ∧ M.z - z0 + (M1.z - M.z) ≤ R.slots) (hdg : decode cc pc = .ok (.invokevirtual k, 3)) :
    va_Run p lc e R s m args below meth c H locs (M.n - n0) (M.z - z0) (M1.n - M.n) (M1.z - M.z) (F0 m pc ls (st.map (ck_sv (ck_ad s0 sa)))) (st'.map (ck_sv (ck_ad s0 sa))) (ck_Qc s0 D dA sa SM v M1 (as.map (ck_sv (ck_ad s0 sa))).toArray) (ck_Ab s0) := by
  obtain ⟨hx, hb, hml, hown, hts, g, hW, hr1, hr2, hsh⟩ := cx
  subst has
  exact va_runV (As := as'.map (ck_sv (ck_ad s0 sa))) (C := C) (b := ck_ad s0 sa i) ⟨hx, hb, hml, hown, hts⟩ hM (cwV (na - 1) hts (lw_V h1 h2 h3 h4 hcode) rfl rfl rfl ⟨hyC, h5.1, h5.2, h7⟩ ⟨ck_roomF (by omega), ck_roomL (by omega) hmL⟩)
    ⟨ck_blind _ _, hrv, fun U hU hW' => ⟨rfl, State.WarmedH.trans hW hW', by rw [hU]; exact hR⟩⟩ rfl (by rw [List.length_map]; simp at hal; omega) hls (ck_stack _ hst rfl) (lv_room (by rw [ck_cat_sum]; exact hcat)) hdg hf
theorem ck_runVW (cx : ck_ctx p R s m args c s0 D dA sa SM a0 own cc nL (d' + 1)) (hM : Met lc y (wsW_ y cy mL rt hh) (ck_rm d' (M1.n - M.n) (M1.z - M.z)) (ck_Pc s0 D dA sa SM as M) (ck_Qc s0 D dA sa SM v M1) (M1.n - M.n) (M1.z - M.z) (ck_Ab s0)) (hcode : Cond.codeWith y cy mL rt hh ∈ lw_all) (hmL : mL ≤ 45)
    {C : String} (hyC : y.cls = C) (h1 : Cond.methodLink own k y ∈ lw_all) (h2 : Cond.instanceMethod y ∈ lw_all) (h3 : Cond.selects C y y ∈ lw_all) (h4 : Cond.initialized C ∈ lw_all) (h5 : ck_nMH y) (h6 : 0 < na) (h7 : ck_np y (na - 1))
    (hst : st = as.reverse ++ st') (has : as = vr (some i) :: as') (hal : as.length = na) (hcat : ck_cat st' ≤ 8) (hrv : ∃ cell : Cell, H[ck_ad s0 sa i]? = some cell ∧ cell.vm.isStatics = false ∧ s.vm.findClass C = some cell.cls) (hR : ck_Rl s0 D dA sa SM M H) (hls : ls.size = nL)
    (hf : M.n - n0 + (M1.n - M.n) ≤ R.cells ∧ M.z - z0 + (M1.z - M.z) ≤ R.slots) (hdg : decode cc pc = .ok (.invokevirtual k, 3)) :
    va_Run p lc e R s m args below meth c H locs (M.n - n0) (M.z - z0) (M1.n - M.n) (M1.z - M.z) (F0 m pc ls (st.map (ck_sv (ck_ad s0 sa)))) (st'.map (ck_sv (ck_ad s0 sa))) (ck_Qc s0 D dA sa SM v M1 (as.map (ck_sv (ck_ad s0 sa))).toArray) (ck_Ab s0) := by
  obtain ⟨hx, hb, hml, hown, hts, g, hW, hr1, hr2, hsh⟩ := cx
  subst has
  exact vy_runVW (As := as'.map (ck_sv (ck_ad s0 sa))) (C := C) (b := ck_ad s0 sa i) ⟨hx, hb, hml, hown, hts⟩ hM (vy_cwVW (na - 1) hts (lw_VW h1 h2 h3 h4 hcode) rfl rfl rfl ⟨hyC, h5.1, h5.2, h7⟩ ⟨ck_roomF (by omega), ck_roomL (by omega) hmL⟩)
    ⟨ck_blind _ _, hrv, fun U hU hW' => ⟨rfl, State.WarmedH.trans hW hW', by rw [hU]; exact hR⟩⟩ rfl (by rw [List.length_map]; simp at hal; omega) hls (ck_stack _ hst rfl) (lv_room (by rw [ck_cat_sum]; exact hcat)) hdg hf
theorem ck_runX {Qc : Array Value → State → Outcome → State → Prop} {XC : String → Addr → State → State → Prop} (cx : ck_ctx p R s m args c s0 D dA sa SM a0 own cc nL (d' + 1)) (hM : vy_Met lc y (ws_ y cy mL rt) (ck_rm d' (M1.n - M.n) (M1.z - M.z)) (ck_Pc s0 D dA sa SM as M) Qc XC (M1.n - M.n) (M1.z - M.z) (ck_Ab s0)) (hcode : Cond.code y cy mL rt ∈ lw_all) (hmL : mL ≤ 45)
    {C : String} (hyC : y.cls = C) (h1 : Cond.methodLink own k y ∈ lw_all) (h2 : Cond.instanceMethod y ∈ lw_all) (h3 : Cond.selects C y y ∈ lw_all) (h4 : Cond.initialized C ∈ lw_all) (h5 : ck_nMH y) (h6 : 0 < na) (h7 : ck_np y (na - 1))
    (hst : st = as.reverse ++ st') (has : as = vr (some i) :: as') (hal : as.length = na) (hcat : ck_cat st' ≤ 8) (hrv : ∃ cell : Cell, H[ck_ad s0 sa i]? = some cell ∧ cell.vm.isStatics = false ∧ s.vm.findClass C = some cell.cls) (hR : ck_Rl s0 D dA sa SM M H) (hls : ls.size = nL)
    (hf : M.n - n0 + (M1.n - M.n) ≤ R.cells ∧ M.z - z0 + (M1.z - M.z) ≤ R.slots) (hdg : decode cc pc = .ok (.invokevirtual k, 3)) :
    vy_Run p lc e R s m args below meth c H locs (M.n - n0) (M.z - z0) (M1.n - M.n) (M1.z - M.z) (F0 m pc ls (st.map (ck_sv (ck_ad s0 sa)))) (st'.map (ck_sv (ck_ad s0 sa))) (Qc (as.map (ck_sv (ck_ad s0 sa))).toArray) XC (ck_Ab s0) := by
  obtain ⟨hx, hb, hml, hown, hts, g, hW, hr1, hr2, hsh⟩ := cx
  subst has
  exact vy_runV (As := as'.map (ck_sv (ck_ad s0 sa))) (C := C) (b := ck_ad s0 sa i) ⟨hx, hb, hml, hown, hts⟩ hM (cwV (na - 1) hts (lw_V h1 h2 h3 h4 hcode) rfl rfl rfl ⟨hyC, h5.1, h5.2, h7⟩ ⟨ck_roomF (by omega), ck_roomL (by omega) hmL⟩)
    ⟨ck_blind _ _, hrv, fun U hU hW' => ⟨rfl, State.WarmedH.trans hW hW', by rw [hU]; exact hR⟩⟩ rfl (by rw [List.length_map]; simp at hal; omega) hls (ck_stack _ hst rfl) (lv_room (by rw [ck_cat_sum]; exact hcat)) hdg hf
theorem ck_runS (cx : ck_ctx p R s m args c s0 D dA sa SM a0 own cc nL (d' + 1)) (hM : Met lc y (ws_ y cy mL rt) (ck_rm d' (M1.n - M.n) (M1.z - M.z)) (ck_Pc s0 D dA sa SM as M) (ck_Qc s0 D dA sa SM v M1) (M1.n - M.n) (M1.z - M.z) (ck_Ab s0)) (hcode : Cond.code y cy mL rt ∈ lw_all) (hmL : mL ≤ 45)
    (h1 : Cond.methodLink own k y ∈ lw_all) (h2 : Cond.static y ∈ lw_all) (h4 : Cond.initialized y.cls ∈ lw_all) (h5 : ck_nMH y) (h7 : ck_np y na)
    (hst : st = as.reverse ++ st') (hal : as.length = na) (hcat : ck_cat st' ≤ 8) (hR : ck_Rl s0 D dA sa SM M H) (hls : ls.size = nL)
    (hf : M.n - n0 + (M1.n - M.n) ≤ R.cells ∧ M.z - z0 + (M1.z - M.z) ≤ R.slots) (hdg : decode cc pc = .ok (.invokestatic k, 3)) :
    va_Run p lc e R s m args below meth c H locs (M.n - n0) (M.z - z0) (M1.n - M.n) (M1.z - M.z) (F0 m pc ls (st.map (ck_sv (ck_ad s0 sa)))) (st'.map (ck_sv (ck_ad s0 sa))) (ck_Qc s0 D dA sa SM v M1 (as.map (ck_sv (ck_ad s0 sa))).toArray) (ck_Ab s0) := by
  obtain ⟨hx, hb, hml, hown, hts, g, hW, hr1, hr2, hsh⟩ := cx
  exact va_runS (As := as.map (ck_sv (ck_ad s0 sa))) ⟨hx, hb, hml, hown, hts⟩ hM (va_cwS na hts (lw_S h1 h2 h4 hcode) rfl rfl rfl ⟨h5.1, h5.2, h7⟩ ⟨ck_roomF (by omega), ck_roomL (by omega) hmL⟩)
    ⟨ck_blind _ _, fun U hU hW' => ⟨rfl, State.WarmedH.trans hW hW', by rw [hU]; exact hR⟩⟩ rfl (by rw [List.length_map]; exact hal) hls (ck_stackS _ hst) (lv_room (by rw [ck_cat_sum]; exact hcat)) hdg hf
theorem ck_runI (cx : ck_ctx p R s m args c s0 D dA sa SM a0 own cc nL (d' + 1)) (hM : Met lc y (ws_ y cy mL none) (ck_rm d' (M1.n - M.n) (M1.z - M.z)) (ck_Pc s0 D dA sa SM as M) (ck_Qc s0 D dA sa SM v M1) (M1.n - M.n) (M1.z - M.z) (ck_Ab s0)) (hcode : Cond.code y cy mL none ∈ lw_all) (hmL : mL ≤ 45)
    (h1 : Cond.methodLink own k y ∈ lw_all) (h2 : Cond.instanceMethod y ∈ lw_all) (h4 : Cond.initialized y.cls ∈ lw_all) (hy1 : y.name = "<init>") (h5 : ck_nMH y) (h6 : 0 < na) (h7 : ck_np y (na - 1))
    (hst : st = as.reverse ++ st') (has : as = vr (some i) :: as') (hal : as.length = na) (hcat : ck_cat st' ≤ 8) (hR : ck_Rl s0 D dA sa SM M H) (hls : ls.size = nL)
    (hf : M.n - n0 + (M1.n - M.n) ≤ R.cells ∧ M.z - z0 + (M1.z - M.z) ≤ R.slots) (hdg : decode cc pc = .ok (.invokespecial k, 3)) :
    va_Run p lc e R s m args below meth c H locs (M.n - n0) (M.z - z0) (M1.n - M.n) (M1.z - M.z) (F0 m pc ls (st.map (ck_sv (ck_ad s0 sa)))) (st'.map (ck_sv (ck_ad s0 sa))) (ck_Qc s0 D dA sa SM v M1 (as.map (ck_sv (ck_ad s0 sa))).toArray) (ck_Ab s0) := by
  obtain ⟨hx, hb, hml, hown, hts, g, hW, hr1, hr2, hsh⟩ := cx
  subst has
  exact va_runI (As := as'.map (ck_sv (ck_ad s0 sa))) (b := ck_ad s0 sa i) ⟨hx, hb, hml, hown, hts⟩ hM (cwI (na - 1) hts (lw_meth hcode) rfl rfl rfl (hts _ h4) (hts _ h1) (hts _ h2) hy1 ⟨h5.1, h5.2, h7⟩ ⟨ck_roomF (by omega), ck_roomL (by omega) hmL⟩)
    ⟨ck_blind _ _, fun U hU hW' => ⟨rfl, State.WarmedH.trans hW hW', by rw [hU]; exact hR⟩⟩ rfl (by rw [List.length_map]; simp at hal; omega) hls (ck_stack _ hst rfl) (lv_room (by rw [ck_cat_sum]; exact hcat)) hdg hf
theorem ck_nestM {host : String} (g : ck_G0 s0 D dA sa SM a0) (hW : s0.WarmedH s.vm) (h : Cond.methodLinkNest own k y host ∈ lw_tbl) : va_Nw (.methodLinkNest own k y host) s := va_Nw.warmM hW (va_Nw.of rfl (g.2.1 _ h))
theorem ck_runVN {host : String} (cx : ck_ctx p R s m args c s0 D dA sa SM a0 own cc nL (d' + 1)) (hM : Met lc y (ws_ y cy mL rt) (ck_rm d' (M1.n - M.n) (M1.z - M.z)) (ck_Pc s0 D dA sa SM as M) (ck_Qc s0 D dA sa SM v M1) (M1.n - M.n) (M1.z - M.z) (ck_Ab s0)) (hcode : Cond.code y cy mL rt ∈ lw_all) (hmL : mL ≤ 45)
    {C : String} (hyC : y.cls = C) (h1 : Cond.methodLinkNest own k y host ∈ lw_tbl) (h2 : Cond.instanceMethod y ∈ lw_all) (h3 : Cond.selects C y y ∈ lw_all) (h4 : Cond.initialized C ∈ lw_all) (h5 : ck_nMH y) (h6 : 0 < na) (h7 : ck_np y (na - 1))
    (hst : st = as.reverse ++ st') (has : as = vr (some i) :: as') (hal : as.length = na) (hcat : ck_cat st' ≤ 8) (hrv : ∃ cell : Cell, H[ck_ad s0 sa i]? = some cell ∧ cell.vm.isStatics = false ∧ s.vm.findClass C = some cell.cls) (hR : ck_Rl s0 D dA sa SM M H) (hls : ls.size = nL)
    (hf : M.n - n0 + (M1.n - M.n) ≤ R.cells ∧ M.z - z0 + (M1.z - M.z) ≤ R.slots) (hdg : decode cc pc = .ok (.invokevirtual k, 3)) :
    va_Run p lc e R s m args below meth c H locs (M.n - n0) (M.z - z0) (M1.n - M.n) (M1.z - M.z) (F0 m pc ls (st.map (ck_sv (ck_ad s0 sa)))) (st'.map (ck_sv (ck_ad s0 sa))) (ck_Qc s0 D dA sa SM v M1 (as.map (ck_sv (ck_ad s0 sa))).toArray) (ck_Ab s0) := by
  obtain ⟨hx, hb, hml, hown, hts, g, hW, hr1, hr2, hsh⟩ := cx
  subst has
  exact va_runVN (As := as'.map (ck_sv (ck_ad s0 sa))) (C := C) (b := ck_ad s0 sa i) ⟨hx, hb, hml, hown, hts⟩ hM ⟨va_cnB (na - 1) hts (lw_meth hcode) rfl rfl rfl (ck_nestM g hW h1) (by rw [hyC]; exact hts _ h4) ⟨h5.1, h5.2, h7⟩ ⟨ck_roomF (by omega), ck_roomL (by omega) hmL⟩, hts _ h2, hts _ h3⟩
    ⟨ck_blind _ _, hrv, fun U hU hW' => ⟨rfl, State.WarmedH.trans hW hW', by rw [hU]; exact hR⟩⟩ rfl (by rw [List.length_map]; simp at hal; omega) hls (ck_stack _ hst rfl) (lv_room (by rw [ck_cat_sum]; exact hcat)) hdg hf
theorem ck_runSN {host : String} (cx : ck_ctx p R s m args c s0 D dA sa SM a0 own cc nL (d' + 1)) (hM : Met lc y (ws_ y cy mL rt) (ck_rm d' (M1.n - M.n) (M1.z - M.z)) (ck_Pc s0 D dA sa SM as M) (ck_Qc s0 D dA sa SM v M1) (M1.n - M.n) (M1.z - M.z) (ck_Ab s0)) (hcode : Cond.code y cy mL rt ∈ lw_all) (hmL : mL ≤ 45)
    (h1 : Cond.methodLinkNest own k y host ∈ lw_tbl) (h2 : Cond.static y ∈ lw_all) (h4 : Cond.initialized y.cls ∈ lw_all) (h5 : ck_nMH y) (h7 : ck_np y na)
    (hst : st = as.reverse ++ st') (hal : as.length = na) (hcat : ck_cat st' ≤ 8) (hR : ck_Rl s0 D dA sa SM M H) (hls : ls.size = nL)
    (hf : M.n - n0 + (M1.n - M.n) ≤ R.cells ∧ M.z - z0 + (M1.z - M.z) ≤ R.slots) (hdg : decode cc pc = .ok (.invokestatic k, 3)) :
    va_Run p lc e R s m args below meth c H locs (M.n - n0) (M.z - z0) (M1.n - M.n) (M1.z - M.z) (F0 m pc ls (st.map (ck_sv (ck_ad s0 sa)))) (st'.map (ck_sv (ck_ad s0 sa))) (ck_Qc s0 D dA sa SM v M1 (as.map (ck_sv (ck_ad s0 sa))).toArray) (ck_Ab s0) := by
  obtain ⟨hx, hb, hml, hown, hts, g, hW, hr1, hr2, hsh⟩ := cx
  exact va_runSN (As := as.map (ck_sv (ck_ad s0 sa))) ⟨hx, hb, hml, hown, hts⟩ hM ⟨va_cnB na hts (lw_meth hcode) rfl rfl rfl (ck_nestM g hW h1) (hts _ h4) ⟨h5.1, h5.2, h7⟩ ⟨ck_roomF (by omega), ck_roomL (by omega) hmL⟩, hts _ h2, trivial⟩
    ⟨ck_blind _ _, fun U hU hW' => ⟨rfl, State.WarmedH.trans hW hW', by rw [hU]; exact hR⟩⟩ rfl (by rw [List.length_map]; exact hal) hls (ck_stackS _ hst) (lv_room (by rw [ck_cat_sum]; exact hcat)) hdg hf
theorem ck_runIN {host : String} (cx : ck_ctx p R s m args c s0 D dA sa SM a0 own cc nL (d' + 1)) (hM : Met lc y (ws_ y cy mL none) (ck_rm d' (M1.n - M.n) (M1.z - M.z)) (ck_Pc s0 D dA sa SM as M) (ck_Qc s0 D dA sa SM v M1) (M1.n - M.n) (M1.z - M.z) (ck_Ab s0)) (hcode : Cond.code y cy mL none ∈ lw_all) (hmL : mL ≤ 45)
    (h1 : Cond.methodLinkNest own k y host ∈ lw_tbl) (h2 : Cond.instanceMethod y ∈ lw_all) (h4 : Cond.initialized y.cls ∈ lw_all) (hy1 : y.name = "<init>") (h5 : ck_nMH y) (h6 : 0 < na) (h7 : ck_np y (na - 1))
    (hst : st = as.reverse ++ st') (has : as = vr (some i) :: as') (hal : as.length = na) (hcat : ck_cat st' ≤ 8) (hR : ck_Rl s0 D dA sa SM M H) (hls : ls.size = nL)
    (hf : M.n - n0 + (M1.n - M.n) ≤ R.cells ∧ M.z - z0 + (M1.z - M.z) ≤ R.slots) (hdg : decode cc pc = .ok (.invokespecial k, 3)) :
    va_Run p lc e R s m args below meth c H locs (M.n - n0) (M.z - z0) (M1.n - M.n) (M1.z - M.z) (F0 m pc ls (st.map (ck_sv (ck_ad s0 sa)))) (st'.map (ck_sv (ck_ad s0 sa))) (ck_Qc s0 D dA sa SM v M1 (as.map (ck_sv (ck_ad s0 sa))).toArray) (ck_Ab s0) := by
  obtain ⟨hx, hb, hml, hown, hts, g, hW, hr1, hr2, hsh⟩ := cx
  subst has
  exact va_runIN (As := as'.map (ck_sv (ck_ad s0 sa))) (b := ck_ad s0 sa i) ⟨hx, hb, hml, hown, hts⟩ hM ⟨va_cnB (na - 1) hts (lw_meth hcode) rfl rfl rfl (ck_nestM g hW h1) (hts _ h4) ⟨h5.1, h5.2, h7⟩ ⟨ck_roomF (by omega), ck_roomL (by omega) hmL⟩, hy1, hts _ h2⟩
    ⟨ck_blind _ _, fun U hU hW' => ⟨rfl, State.WarmedH.trans hW hW', by rw [hU]; exact hR⟩⟩ rfl (by rw [List.length_map]; simp at hal; omega) hls (ck_stack _ hst rfl) (lv_room (by rw [ck_cat_sum]; exact hcat)) hdg hf
theorem ck_goodU {C : String} {x : MethodName} (h1 : Cond.methodLink own k x ∈ lw_all) (h2 : Cond.sameMethod x.cls x.cls x.name x.desc ∈ lw_all) (h3 : Cond.selects C x y ∈ lw_all) (h4 : Cond.instanceMethod y ∈ lw_all) (h5 : Cond.initialized y.cls ∈ lw_all) (hcode : Cond.code y cy mL rt ∈ lw_all) : GoodIn lw_all (va_wsU own k C x.cls x y (ws_ y cy mL rt)) := by
  refine lw_app ?_ (lw_meth hcode)
  intro w hw
  simp only [List.mem_cons, List.not_mem_nil, or_false] at hw
  rcases hw with e | e | e | e | e <;> rw [e] <;> assumption
theorem ck_runU {x : MethodName} (cx : ck_ctx p R s m args c s0 D dA sa SM a0 own cc nL (d' + 1)) (hM : Met lc y (ws_ y cy mL rt) (ck_rm d' (M1.n - M.n) (M1.z - M.z)) (ck_Pc s0 D dA sa SM as M) (ck_Qc s0 D dA sa SM v M1) (M1.n - M.n) (M1.z - M.z) (ck_Ab s0)) (hcode : Cond.code y cy mL rt ∈ lw_all) (hmL : mL ≤ 45)
    {C : String} (h1 : Cond.methodLink own k x ∈ lw_all) (h2 : Cond.sameMethod x.cls x.cls x.name x.desc ∈ lw_all) (h3 : Cond.declares ⟨x.cls, x.name, x.desc⟩ ∈ lw_tbl) (h5 : ck_nMH x) (h6 : 0 < na) (h7 : ck_np x (na - 1)) (h8 : Cond.selects C x y ∈ lw_all) (h9 : Cond.instanceMethod y ∈ lw_all) (h10 : Cond.initialized y.cls ∈ lw_all)
    (hst : st = as.reverse ++ st') (has : as = vr (some i) :: as') (hal : as.length = na) (hcat : ck_cat st' ≤ 8) (hrv : ∃ cell : Cell, H[ck_ad s0 sa i]? = some cell ∧ cell.vm.isStatics = false ∧ s.vm.findClass C = some cell.cls) (hR : ck_Rl s0 D dA sa SM M H) (hls : ls.size = nL)
    (hf : M.n - n0 + (M1.n - M.n) ≤ R.cells ∧ M.z - z0 + (M1.z - M.z) ≤ R.slots) (hdg : decode cc pc = .ok (.invokevirtual k, 3)) :
    va_Run p lc e R s m args below meth c H locs (M.n - n0) (M.z - z0) (M1.n - M.n) (M1.z - M.z) (F0 m pc ls (st.map (ck_sv (ck_ad s0 sa)))) (st'.map (ck_sv (ck_ad s0 sa))) (ck_Qc s0 D dA sa SM v M1 (as.map (ck_sv (ck_ad s0 sa))).toArray) (ck_Ab s0) := by
  obtain ⟨hx, hb, hml, hown, hts, g, hW, hr1, hr2, hsh⟩ := cx
  subst has
  exact va_runU (As := as'.map (ck_sv (ck_ad s0 sa))) (C := C) (b := ck_ad s0 sa i) ⟨hx, hb, hml, hown, hts⟩ hM (va_cwA (na - 1) hts (ck_goodU h1 h2 h8 h9 h10 hcode) rfl rfl rfl (va_Nw.warmD hW (va_Nw.of rfl (g.2.1 _ h3))) ⟨h5.1, h5.2, h7⟩ ⟨ck_roomF (by omega), ck_roomL (by omega) hmL⟩)
    ⟨ck_blind _ _, hrv, fun U hU hW' => ⟨rfl, State.WarmedH.trans hW hW', by rw [hU]; exact hR⟩⟩ rfl (by rw [List.length_map]; simp at hal; omega) hls (ck_stack _ hst rfl) (lv_room (by rw [ck_cat_sum]; exact hcat)) hdg hf
end CkRuns
