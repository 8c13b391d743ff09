/-! SOUNDNESS, by induction on the fuel -/
section CkMain3
variable {s0 : State} {D : va_G} {dA : Nat → ClassId} {sa : Nat → Nat} {SM : ck_M} {a0 : Array Value} {my : Nat → ck_Y} {T : Nat → ck_D}
variable {p : Program} {lc : Launch} {e : Env} {R : Room} {s : State} {m : MethodId} {args : Array Value} {below : List Frame} {meth : Method} {c : Code} {Q : State → Prop} {n0 z0 d : Nat} {Dm : ck_D} {y : ck_Y} {o : ck_O} {Mf : ck_M} {own : String} {cc : ByteArray} {nL : Nat}
variable {pc : Nat} {l st' : List ck_A} {M : ck_M}
/-- what is thrown is a Wrong, out of a method without handlers -/
theorem ck_ev_thr (T : Nat → ck_D) : ∀ (f d : Nat) (Dm : ck_D) (pc : Nat) (l st : List ck_A) (M : ck_M) (i : Nat) (M1 : ck_M), ck_ev T f d Dm pc l st M = some (.inr i, M1) → (M1.K i).1 = 4 ∧ Dm.2.2.2.2.2 = []
  | 0, _, _, _, _, _, _, _, _, h => by cases h
  | f + 1, d, Dm, pc, l, st, M, i, M1, h => by
    have ih := ck_ev_thr T f
    unfold ck_ev at h
    cases e : Dm.1 pc with
    | none => rw [e] at h; cases h
    | some q =>
      obtain ⟨ins, nx, tg⟩ := q
      rw [e] at h
      have hot : ∀ pc j l M, (M.K j).1 = 4 → ∀ i M1, ck_ot (fun pc l st M => ck_ev T f d Dm pc l st M) Dm pc j l M = some (.inr i, M1) → (M1.K i).1 = 4 ∧ Dm.2.2.2.2.2 = [] := by
        intro pc j l M hj i M1 h
        rcases ck_ot_some h with ⟨t, -, h⟩ | ⟨h0, h⟩
        · exact ih _ _ _ _ _ _ _ _ h
        · cases h; exact ⟨hj, h0⟩
      by_cases hins : ins = .athrow
      · subst hins
        unfold ck_stp at h; dsimp only at h
        replace h := ck_pR_some h; obtain ⟨x, st1, -, h⟩ := h
        replace h := ck_od_some h; obtain ⟨j, -, h⟩ := h
        replace h := ck_oq_some h; obtain ⟨hc, h⟩ := h
        exact hot _ _ _ _ hc.1 _ _ h
      · refine ck_stp_rel (α := ck_Z) (β := ck_Z) (fun (a _ : ck_Z) => ∀ i M1, a = some (.inr i, M1) → (M1.K i).1 = 4 ∧ Dm.2.2.2.2.2 = []) (ite := ck_oi) (ite' := ck_oi) (req := ck_oq) (req' := ck_oq) (nam := fun x k => k x) (nam' := fun x k => k x) (nar := fun x k => k x) (nar' := fun x k => k x) (nmm := fun x k => k x) (nmm' := fun x k => k x) (idx := ck_ox) (idx' := ck_ox) (der := ck_od) (der' := ck_od)
          (nxt := fun pc l st M => ck_ev T f d Dm pc l st M) (nxt' := fun _ _ _ _ => none)
          (cal := fun e as nx l st M => ck_cal none ck_oq (fun x k => k x) ck_od
          (fun y as M => ck_dn (T y).2.2.1 as d fun d' => ck_ob (ck_ev T f d' (T y) 0 (ck_ent (T y).2.2.1 as) [] M) (fun v M => ck_ev T f d Dm nx l (ck_push v st) M) (fun i M => ck_ot (fun pc l st M => ck_ev T f d Dm pc l st M) Dm pc i l M))
          (fun y as M => ck_dn (T y).2.2.1 as d fun d' => ck_ob (ck_ev T f d' (T y) 0 (ck_ent (T y).2.2.1 as) [] M) (fun v M => ck_ev T f d Dm nx l (ck_push v st) M) (fun _ _ => none))
          e as M (fun v M => ck_ev T f d Dm nx l (ck_push v st) M)) (cal' := fun e as nx l st M => ck_cal none ck_oq (fun x k => k x) ck_od (fun _ _ _ => none) (fun _ _ _ => none) e as M (fun _ _ => none)) (ret := fun v M => some (.inl v, M)) (ret' := fun _ _ => none) (thr := fun _ _ _ => none) (thr' := fun _ _ _ => none) (bad := none) (bad' := none)
          (fun i M1 h => by cases h) (fun c h a b a' b' q1 q2 i M1 hh => ?_) (fun c h a a' q i M1 hh => ?_) (fun x k k' q => q x rfl) (fun x k k' q => q x rfl) (fun x k k' q => q x rfl) (fun x n k k' q i M1 hh => ?_) (fun r k k' q i M1 hh => ?_) (fun pc l st M => ih _ _ _ _ _ _) (fun en as nx l st M => ?_) (fun v M i M1 h => by cases h) (fun j l M i M1 h => by cases h) Dm ins pc nx tg l st M i M1 ?_
        · rcases ck_oi_some hh with ⟨hc, hh⟩ | ⟨hc, hh⟩
          · exact q1 hc _ _ hh
          · exact q2 hc _ _ hh
        · obtain ⟨hc, hh⟩ := ck_oq_some hh
          exact q hc _ _ hh
        · obtain ⟨j, ⟨h1, h2⟩, hh⟩ := ck_ox_some hh
          exact q j h1 h2 _ _ hh
        · obtain ⟨j, h1, hh⟩ := ck_od_some hh
          exact q j h1 _ _ hh
        · refine ck_cal_rel (α := ck_Z) (β := ck_Z) (fun (a _ : ck_Z) => ∀ i M1, a = some (.inr i, M1) → (M1.K i).1 = 4 ∧ Dm.2.2.2.2.2 = []) (req := ck_oq) (req' := ck_oq) (nmm := fun x k => k x) (nmm' := fun x k => k x) (der := ck_od) (der' := ck_od) (bad := none) (bad' := none) (run' := fun _ _ _ => none) (run1' := fun _ _ _ => none) (k' := fun _ _ => none) (fun i M1 h => by cases h) (fun c h a a' q i M1 hh => ?_) (fun x k k' q => q x rfl) (fun r k k' q i M1 hh => ?_) (fun y as M i M1 hh => ?_) (fun y as M i M1 hh => ?_) en as M (fun v M => ih _ _ _ _ _ _)
          · obtain ⟨hc, hh⟩ := ck_oq_some hh
            exact q hc _ _ hh
          · obtain ⟨j, h1, hh⟩ := ck_od_some hh
            exact q j h1 _ _ hh
          · replace hh := ck_dn_some hh; obtain ⟨d', -, hh⟩ := hh
            replace hh := ck_ob_some hh; rcases hh with ⟨v, M2, h1, hh⟩ | ⟨j, M2, h1, hh⟩
            · exact ih _ _ _ _ _ _ _ _ hh
            · exact hot _ _ _ _ (ih _ _ _ _ _ _ _ _ h1).1 _ _ hh
          · replace hh := ck_dn_some hh; obtain ⟨d', -, hh⟩ := hh
            replace hh := ck_ob_some hh; rcases hh with ⟨v, M2, h1, hh⟩ | ⟨j, M2, h1, hh⟩
            · exact ih _ _ _ _ _ _ _ _ hh
            · cases hh
        · rw [← h]
          cases ins <;> first | rfl | exact absurd rfl hins
theorem ck_k14 {n : Nat} (h : n ≠ 0 ∧ n ≠ 3 ∧ n ≠ 8 ∧ n ≠ 6 ∧ n ≠ 2 ∧ n ≠ 5 ∧ n ≠ 7 ∧ n ≠ 20 ∧ n ≠ 21 ∧ n ≠ 22 ∧ n ≠ 23 ∧ n ≠ 24) (h2 : n < 9 ∨ n = 20 ∨ n = 21 ∨ n = 22 ∨ n = 23 ∨ n = 24) : n = 1 ∨ n = 4 := by omega
theorem ck_room2 {a b c n r : Nat} (h1 : n ≤ a) (h2 : a ≤ b) (h3 : b ≤ c) (h4 : c - n ≤ r) : a - n + (b - a) ≤ r := by omega
theorem ck_ne200 {a b c : Nat} (h : 200 ≤ a) (hc : c < 200) : a + b ≠ c := by omega
/-- a call that returns, whatever its kind -/
theorem ck_snd_ret {f d' mid : Nat} {as : List ck_A} {v : Option ck_A} {M1 : ck_M} (hP : ck_P s0 D dA sa SM my T f) (hT : ck_TT my T) (hst : lc.stackTraces = false) (hau : ∀ a ∈ as, a ≠ vu) (hfit : ck_cat as ≤ (T mid).2.2.1)
    (h1 : ck_ev T f d' (T mid) 0 (ck_ent (T mid).2.2.1 as) [] M = some (.inl v, M1)) (hgr2 : M1.n ≤ Mf.n ∧ M1.z ≤ Mf.z) (hrc : Mf.n - n0 ≤ R.cells) (hrz : Mf.z - z0 ≤ R.slots)
    (k1 : ck_WW p lc e R s m args below meth c Q s0 D dA sa SM n0 z0 nL (pc + 3) l (ck_push v st') M1)
    (call : ∀ (H : Heap) (locs : List Loc) (ls : Array Slot), ck_Rl s0 D dA sa SM M H → ls.size = nL → M.n - n0 + (M1.n - M.n) ≤ R.cells ∧ M.z - z0 + (M1.z - M.z) ≤ R.slots → (T mid).2.2.1 ≤ 45 →
      ((T mid).2.2.2.2.2 = [] ∧ Cond.code (my mid).1 (my mid).2.1 (T mid).2.2.1 (my mid).2.2 ∈ lw_all ∧ Met lc (my mid).1 (ws_ (my mid).1 (my mid).2.1 (T mid).2.2.1 (my mid).2.2) (ck_rm d' (M1.n - M.n) (M1.z - M.z)) (ck_Pc s0 D dA sa SM as M) (ck_Qc s0 D dA sa SM v M1) (M1.n - M.n) (M1.z - M.z) (ck_Ab s0)) ∨
      ((T mid).2.2.2.2.2 ≠ [] ∧ ∃ hh, Cond.codeWith (my mid).1 (my mid).2.1 (T mid).2.2.1 (my mid).2.2 hh ∈ lw_all ∧ Met lc (my mid).1 (wsW_ (my mid).1 (my mid).2.1 (T mid).2.2.1 (my mid).2.2 hh) (ck_rm d' (M1.n - M.n) (M1.z - M.z)) (ck_Pc s0 D dA sa SM as M) (ck_Qc s0 D dA sa SM v M1) (M1.n - M.n) (M1.z - M.z) (ck_Ab s0)) →
      va_Run p lc e R s m args below meth c H locs (M.n - n0) (M.z - z0) (M1.n - M.n) (M1.z - M.z) (F0 m pc ls ((as.reverse ++ st').map (ck_sv (ck_ad s0 sa)))) (st'.map (ck_sv (ck_ad s0 sa))) (ck_Qc s0 D dA sa SM v M1 (as.map (ck_sv (ck_ad s0 sa))).toArray) (ck_Ab s0)) :
    ck_WW p lc e R s m args below meth c Q s0 D dA sa SM n0 z0 nL pc l (as.reverse ++ st') M := by
  obtain ⟨-, hok, hcd⟩ := hT.at h1
  have hgr1 := ck_ev_grow T f d' _ _ _ _ _ _ h1
  have hgr1 : M.n ≤ M1.n ∧ M.z ≤ M1.z := hgr1
  intro H locs ls hR hq hL hlen hn hz
  exact ck_after (call H locs ls hR hL.1 ⟨ck_room2 hn hgr1.1 hgr2.1 hrc, ck_room2 hz hgr1.2 hgr2.2 hrz⟩ hok.2.2.2.2 (ck_met hP hst h1 hau hfit hok hcd)) hgr1 hq hL hlen hn hz k1
theorem ck_string (g : ck_G0 s0 D dA sa SM a0) (hW : s0.WarmedH s.vm) {H : Heap} {i : Nat} (hR : ck_Rl s0 D dA sa SM M H) (hi : (M.K i).1 = 50) : ∃ cell : Cell, H[ck_ad s0 sa i]? = some cell ∧ cell.vm.isStatics = false ∧ s.vm.findClass "java/lang/String" = some cell.cls := by
  have h50 := ck_str50 hR hi
  obtain ⟨r1, r2, r3, r4, r5, r6⟩ := hR
  rw [(r4 i h50).2.2] at hi
  obtain ⟨g1, -, -⟩ := g.2.2.2.1 i h50 hi
  obtain ⟨cell, c1, c2, c3, -⟩ := (va_O.moved hW.alike g1).kept (H1 := H) (fun a ha _ => r3 a ha)
  exact ⟨cell, by rw [ck_ad_lt h50]; exact c1, c2, c3⟩
set_option maxHeartbeats 2000000 in
theorem ck_snd_cal {f : Nat} (g : ck_G0 s0 D dA sa SM a0) (hT : ck_TT my T) (hP : ck_P s0 D dA sa SM my T f) (hst : lc.stackTraces = false) (cx : ck_ctx p R s m args c s0 D dA sa SM a0 y.1.cls y.2.1 nL d) (hhk : ck_hok Dm y c) (hrc : Mf.n - n0 ≤ R.cells) (hrz : Mf.z - z0 ≤ R.slots)
    (hcont : ∀ pc l st M, ck_ev T f d Dm pc l st M = some (o, Mf) → ck_WW p lc e R s m args below meth c Q s0 D dA sa SM n0 z0 nL pc l st M) (hE : ∀ k en, Dm.2.1 k = some en → ck_Eok my y.1.cls k en)
    (hX : ∀ i, o = .inr i → Dm.2.2.2.2.2 = [] → (Mf.K i).1 = 4 → ∀ (H : Heap) (locs : List Loc) (ls : Array Slot) (pc : Nat) (rest : List Value), ck_Rl s0 D dA sa SM Mf H → (∀ q ∈ locs, s0.heap.size ≤ q.base) → vy_W p lc e R s m args below meth c H locs (Mf.n - n0) (Mf.z - z0) Q (F0 m pc ls rest) (ck_ad s0 sa i))
    {ins : Instr} {k : Nat} {en : ck_E} {as : List ck_A} (hins : ins = .invokevirtual k ∧ [0, 3, 6, 8, 21].elem en.2.1 = true ∨ ins = .invokespecial k ∧ [2, 5, 7, 22].elem en.2.1 = true ∨ ins = .invokestatic k ∧ [1, 4, 20, 23, 24].elem en.2.1 = true) (hdg : decode y.2.1 pc = .ok (ins, 3)) (he : Dm.2.1 k = some en) (h3 : en.1 = 3) (hal : as.length = en.2.2.2.1) (hau : ∀ a ∈ as, a ≠ vu) (hcat : ck_cat st' ≤ 8)
    (h : ck_cal none ck_oq (fun x k => k x) ck_od
          (fun y as M => ck_dn (T y).2.2.1 as d fun d' => ck_ob (ck_ev T f d' (T y) 0 (ck_ent (T y).2.2.1 as) [] M) (fun v M => ck_ev T f d Dm (pc + 3) l (ck_push v st') M) (fun i M => ck_ot (fun pc l st M => ck_ev T f d Dm pc l st M) Dm pc i l M))
          (fun y as M => ck_dn (T y).2.2.1 as d fun d' => ck_ob (ck_ev T f d' (T y) 0 (ck_ent (T y).2.2.1 as) [] M) (fun v M => ck_ev T f d Dm (pc + 3) l (ck_push v st') M) (fun _ _ => none))
          en as M (fun v M => ck_ev T f d Dm (pc + 3) l (ck_push v st') M) = some (o, Mf)) :
    ck_WW p lc e R s m args below meth c Q s0 D dA sa SM n0 z0 nL pc l (as.reverse ++ st') M := by
  have hm : ck_Mok my y.1.cls k en.2.1 en.2.2.1 en.2.2.2.1 en.2.2.2.2 := (hE _ _ he).2.2.2.2.2.2.2 h3
  obtain ⟨t, kind, mid, na, z⟩ := en
  dsimp only at hm hins h3 hal
  subst h3
  obtain ⟨m0, m1, m2, m3, m4, m5, m6, m7, m8, m20, m21, m22, m23, m24, mk, mh, m200⟩ := hm
  have hnil : ∀ mid', mid' ≠ 91 → mid' ≠ 102 → (T mid').2.2.2.2.2 = [] := by
    intro mid' q1 q2
    rcases (hT mid').2.2 with q | q | q
    · exact q
    · exact absurd q q1
    · exact absurd q q2
  have hW := cx.2.2.2.2.2.2.1
  rcases ck_cal_kinds kind with q | q | q | q | q | q | q | q | q | q | q | q | q
  · -- 0: a virtual call
    subst q
    obtain ⟨C, T0, N, hC, hcls, h1, h2, h3, h4, h5, h6, h7⟩ := m0 rfl
    replace h := ck_rcv_some h; obtain ⟨i, as', rfl, h⟩ := h
    replace h := ck_oq_some h; obtain ⟨hc, h⟩ := h
    replace h := ck_dn_some h; obtain ⟨d', ⟨rfl, hfit⟩, h⟩ := h
    have hdg : decode y.2.1 pc = .ok (.invokevirtual k, 3) := by
      rcases hins with ⟨rfl, -⟩ | ⟨-, q⟩ | ⟨-, q⟩
      · exact hdg
      · exact absurd q (by decide)
      · exact absurd q (by decide)
    replace h := ck_ob_some h; rcases h with ⟨v, M1, hev, h⟩ | ⟨j, M1, hev, h⟩
    · refine ck_snd_ret hP hT hst hau hfit hev (ck_ev_grow T f _ _ _ _ _ _ _ h) hrc hrz (hcont _ _ _ _ h) fun H locs ls hR hls hf hmL hM => ?_
      rcases hM with ⟨-, hcode, hM⟩ | ⟨-, hh, hcode, hM⟩
      · exact ck_runV cx hM hcode hmL hcls h1 h2 h3 h4 h5 h6 h7 rfl rfl hal hcat (ck_recv hR g hW hC hc.1) hR hls hf hdg
      · exact ck_runVW cx hM hcode hmL hcls h1 h2 h3 h4 h5 h6 h7 rfl rfl hal hcat (ck_recv hR g hW hC hc.1) hR hls hf hdg
    · obtain ⟨-, hok, hcd⟩ := hT.at hev
      have hgr1 : M.n ≤ M1.n ∧ M.z ≤ M1.z := ck_ev_grow T f d' _ _ _ _ _ _ hev
      have hgr2 : M1.n ≤ Mf.n ∧ M1.z ≤ Mf.z := by
        replace h := ck_ot_some h; rcases h with ⟨t, -, h⟩ | ⟨-, h⟩
        · exact ck_ev_grow T f _ _ _ _ _ _ _ h
        · cases h; exact ⟨Nat.le_refl _, Nat.le_refl _⟩
      obtain ⟨hk4, hn1⟩ := ck_ev_thr T _ _ _ _ _ _ _ _ _ hev
      have hcode : Cond.code (my mid).1 (my mid).2.1 (T mid).2.2.1 (my mid).2.2 ∈ lw_all := by
        rcases hcd.2 with ⟨-, q⟩ | ⟨a, b, t, k', hh', q1, -, -, -⟩
        · exact q
        · rw [q1] at hn1; cases hn1
      have hM := ck_metX g hP hst hev hau hfit hok hcd.1 hn1
      intro H locs ls hR hq hL hlen hn hz
      have hrun := ck_runX (k := k) (pc := pc) (n0 := n0) (z0 := z0) (st := (vr (some i) :: as').reverse ++ st') (st' := st') (ls := ls) (locs := locs) (below := below) (e := e) (meth := meth) cx hM hcode hok.2.2.2.2 hcls h1 h2 h3 h4 h5 h6 h7 rfl rfl hal hcat (ck_recv hR g hW hC hc.1) hR hL.1 ⟨ck_room2 hn hgr1.1 hgr2.1 hrc, ck_room2 hz hgr1.2 hgr2.2 hrz⟩ hdg
      refine ck_afterX (a := #[]) (Qc := fun _ _ _ _ => False) hrun (fun _ _ _ _ q => q) hgr1 hq hn hz ?_
      intro H1 locs1 hR1 hq1
      replace h := ck_ot_some h; rcases h with ⟨t, ht, h⟩ | ⟨ht, h⟩
      · exact ck_caught cx hhk ht hk4 (hcont _ _ _ _ h) hR1 hq1 hL hlen (Nat.le_trans hn hgr1.1) (Nat.le_trans hz hgr1.2)
      · cases h
        exact hX j rfl ht hk4 H1 locs1 ls pc _ hR1 hq1
  · -- 3: of a nest mate
    subst q
    obtain ⟨C, T0, N, host, hC, hcls, h1, h2, h3, h4, h5, h6, h7⟩ := m3 rfl
    replace h := ck_rcv_some h; obtain ⟨i, as', rfl, h⟩ := h
    replace h := ck_oq_some h; obtain ⟨hc, h⟩ := h
    replace h := ck_dn_some h; obtain ⟨d', ⟨rfl, hfit⟩, h⟩ := h
    have hdg : decode y.2.1 pc = .ok (.invokevirtual k, 3) := by
      rcases hins with ⟨rfl, -⟩ | ⟨-, q⟩ | ⟨-, q⟩
      · exact hdg
      · exact absurd q (by decide)
      · exact absurd q (by decide)
    replace h := ck_ob_some h; rcases h with ⟨v, M1, hev, h⟩ | ⟨j, M1, hev, h⟩
    · refine ck_snd_ret hP hT hst hau hfit hev (ck_ev_grow T f _ _ _ _ _ _ _ h) hrc hrz (hcont _ _ _ _ h) fun H locs ls hR hls hf hmL hM => ?_
      rcases hM with ⟨-, hcode, hM⟩ | ⟨hh, -⟩
      · exact ck_runVN cx hM hcode hmL hcls h1 h2 h3 h4 h5 h6 h7 rfl rfl hal hcat (ck_recv hR g hW hC hc.1) hR hls hf hdg
      · exact absurd (hnil _ (mh (by decide)).1 (mh (by decide)).2) hh
    · cases h
  · -- 8: a method of String
    subst q
    obtain ⟨hcls, h1, h2, h3, h4, h6, h7⟩ := m8 rfl
    replace h := ck_rcv_some h; obtain ⟨i, as', rfl, h⟩ := h
    replace h := ck_oq_some h; obtain ⟨hc, h⟩ := h
    replace h := ck_dn_some h; obtain ⟨d', ⟨rfl, hfit⟩, h⟩ := h
    have hdg : decode y.2.1 pc = .ok (.invokevirtual k, 3) := by
      rcases hins with ⟨rfl, -⟩ | ⟨-, q⟩ | ⟨-, q⟩
      · exact hdg
      · exact absurd q (by decide)
      · exact absurd q (by decide)
    replace h := ck_ob_some h; rcases h with ⟨v, M1, hev, h⟩ | ⟨j, M1, hev, h⟩
    · refine ck_snd_ret hP hT hst hau hfit hev (ck_ev_grow T f _ _ _ _ _ _ _ h) hrc hrz (hcont _ _ _ _ h) fun H locs ls hR hls hf hmL hM => ?_
      rcases hM with ⟨-, hcode, hM⟩ | ⟨hh, -⟩
      · exact ck_runV cx hM hcode hmL hcls h1 h2 h3 h4 ⟨by rw [hcls]; decide, by rw [hcls]; decide⟩ h6 h7 rfl rfl hal hcat (ck_string g hW hR hc) hR hls hf hdg
      · exact absurd (hnil _ (mh (by decide)).1 (mh (by decide)).2) hh
    · cases h
  · -- 6: by the receiver's class
    subst q
    obtain ⟨x, h1, h2, h3, h5, h6, h7, h8⟩ := m6 rfl
    replace h := ck_rcv_some h; obtain ⟨i, as', rfl, h⟩ := h
    replace h := ck_oq_some h; obtain ⟨hc, h⟩ := h
    replace h := ck_dn_some h; obtain ⟨d', ⟨rfl, hfit⟩, h⟩ := h
    have hdg : decode y.2.1 pc = .ok (.invokevirtual k, 3) := by
      rcases hins with ⟨rfl, -⟩ | ⟨-, q⟩ | ⟨-, q⟩
      · exact hdg
      · exact absurd q (by decide)
      · exact absurd q (by decide)
    replace h := ck_ob_some h; rcases h with ⟨v, M1, hev, h⟩ | ⟨j, M1, hev, h⟩
    · have hne := (hT.at hev).1
      rcases h8 (M.K i).1 hc.1 with q | ⟨C, T0, N, hC, g1, g2, g3⟩
      · exact absurd q hne
      · refine ck_snd_ret hP hT hst hau hfit hev (ck_ev_grow T f _ _ _ _ _ _ _ h) hrc hrz (hcont _ _ _ _ h) fun H locs ls hR hls hf hmL hM => ?_
        have := m200 rfl
        rcases hM with ⟨-, hcode, hM⟩ | ⟨hh, -⟩
        · exact ck_runU cx hM hcode hmL h1 h2 h3 h5 h6 h7 g1 g2 g3 rfl rfl hal hcat (ck_recv hR g hW hC rfl) hR hls hf hdg
        · exact absurd (hnil _ (ck_ne200 this (by decide)) (ck_ne200 this (by decide))) hh
    · cases h
  · -- 2: a constructor
    subst q
    obtain ⟨h1, h2, h4, hy, hr, h5, h6, h7⟩ := m2 rfl
    replace h := ck_rcv_some h; obtain ⟨i, as', rfl, h⟩ := h
    replace h := ck_dn_some h; obtain ⟨d', ⟨rfl, hfit⟩, h⟩ := h
    have hdg : decode y.2.1 pc = .ok (.invokespecial k, 3) := by
      rcases hins with ⟨-, q⟩ | ⟨rfl, -⟩ | ⟨-, q⟩
      · exact absurd q (by decide)
      · exact hdg
      · exact absurd q (by decide)
    replace h := ck_ob_some h; rcases h with ⟨v, M1, hev, h⟩ | ⟨j, M1, hev, h⟩
    · refine ck_snd_ret hP hT hst hau hfit hev (ck_ev_grow T f _ _ _ _ _ _ _ h) hrc hrz (hcont _ _ _ _ h) fun H locs ls hR hls hf hmL hM => ?_
      rw [hr] at hM
      rcases hM with ⟨-, hcode, hM⟩ | ⟨hh, -⟩
      · exact ck_runI cx hM hcode hmL h1 h2 h4 hy h5 h6 h7 rfl rfl hal hcat hR hls hf hdg
      · exact absurd (hnil _ (mh (by decide)).1 (mh (by decide)).2) hh
    · cases h
  · -- 5: a constructor
    subst q
    obtain ⟨host, h1, h2, h4, hy, hr, h5, h6, h7⟩ := m5 rfl
    replace h := ck_rcv_some h; obtain ⟨i, as', rfl, h⟩ := h
    replace h := ck_dn_some h; obtain ⟨d', ⟨rfl, hfit⟩, h⟩ := h
    have hdg : decode y.2.1 pc = .ok (.invokespecial k, 3) := by
      rcases hins with ⟨-, q⟩ | ⟨rfl, -⟩ | ⟨-, q⟩
      · exact absurd q (by decide)
      · exact hdg
      · exact absurd q (by decide)
    replace h := ck_ob_some h; rcases h with ⟨v, M1, hev, h⟩ | ⟨j, M1, hev, h⟩
    · refine ck_snd_ret hP hT hst hau hfit hev (ck_ev_grow T f _ _ _ _ _ _ _ h) hrc hrz (hcont _ _ _ _ h) fun H locs ls hR hls hf hmL hM => ?_
      rw [hr] at hM
      rcases hM with ⟨-, hcode, hM⟩ | ⟨hh, -⟩
      · exact ck_runIN cx hM hcode hmL h1 h2 h4 hy h5 h6 h7 rfl rfl hal hcat hR hls hf hdg
      · exact absurd (hnil _ (mh (by decide)).1 (mh (by decide)).2) hh
    · cases h
  · -- 7: Object's constructor
    subst q
    obtain ⟨hna, h1, h2, h3⟩ := m7 rfl
    replace h := ck_rcv_some h; obtain ⟨i, as', rfl, h⟩ := h
    have hdg : decode y.2.1 pc = .ok (.invokespecial k, 3) := by
      rcases hins with ⟨-, q⟩ | ⟨rfl, -⟩ | ⟨-, q⟩
      · exact absurd q (by decide)
      · exact hdg
      · exact absurd q (by decide)
    rw [hna] at hal
    have has : as' = [] := List.eq_nil_of_length_eq_zero (by simpa using hal)
    subst has
    exact ck_s_objInit cx h1 h2 h3 hcat hdg (hcont _ _ _ _ h)
  · -- 20: arraycopy
    subst q
    obtain ⟨hna, h1, h2, h3, h4⟩ := m20 rfl
    replace h := ck_cpA_some h; obtain ⟨i, sp, j, dp, n, rfl, h⟩ := h
    replace h := ck_oq_some h; obtain ⟨hc, h⟩ := h
    have hdg : decode y.2.1 pc = .ok (.invokestatic k, 3) := by
      rcases hins with ⟨-, q⟩ | ⟨-, q⟩ | ⟨rfl, -⟩
      · exact absurd q (by decide)
      · exact absurd q (by decide)
      · exact hdg
    exact ck_s_copy cx h1 h2 h3 h4 hc hcat hdg (hcont _ _ _ _ h)
  · -- 21: getClass
    subst q
    obtain ⟨hna, h1, h2, h3, h4, h5⟩ := m21 rfl
    replace h := ck_rcv_some h; obtain ⟨i, as', rfl, h⟩ := h
    replace h := ck_oq_some h; obtain ⟨hc, h⟩ := h
    have hdg : decode y.2.1 pc = .ok (.invokevirtual k, 3) := by
      rcases hins with ⟨rfl, -⟩ | ⟨-, q⟩ | ⟨-, q⟩
      · exact hdg
      · exact absurd q (by decide)
      · exact absurd q (by decide)
    rw [hna] at hal
    have has : as' = [] := List.eq_nil_of_length_eq_zero (by simpa using hal)
    subst has
    exact ck_s_getClass cx h1 h2 h3 h4 h5 hc.1 hc.2 hcat hdg (hcont _ _ _ _ h)
  · -- 22: the constructor of Wrong
    subst q
    obtain ⟨hna, hown, hk⟩ := m22 rfl
    replace h := ck_rcv_some h; obtain ⟨i, as', rfl, h⟩ := h
    replace h := ck_oq_some h; obtain ⟨hc, h⟩ := h
    have hdg : decode y.2.1 pc = .ok (.invokespecial k, 3) := by
      rcases hins with ⟨-, q⟩ | ⟨rfl, -⟩ | ⟨-, q⟩
      · exact absurd q (by decide)
      · exact hdg
      · exact absurd q (by decide)
    rw [hna] at hal
    have has : as' = [] := List.eq_nil_of_length_eq_zero (by simpa using hal)
    subst has
    subst hk
    rw [hown] at cx
    exact ck_s_wrong cx hst hc.1 hc.2.1 hc.2.2 hcat hdg (hcont _ _ _ _ h)
  · -- 23: Math.max
    subst q
    obtain ⟨hna, h1, h2, h3, h4⟩ := m23 rfl
    replace h := ck_mm_some h; obtain ⟨x, y', rfl, h⟩ := h
    replace h := ck_oq_some h; obtain ⟨hc, h⟩ := h
    have hdg : decode y.2.1 pc = .ok (.invokestatic k, 3) := by
      rcases hins with ⟨-, q⟩ | ⟨-, q⟩ | ⟨rfl, -⟩
      · exact absurd q (by decide)
      · exact absurd q (by decide)
      · exact hdg
    have hgr : M.n ≤ Mf.n ∧ M.z ≤ Mf.z := ck_ev_grow T f _ _ _ _ _ _ _ h
    exact ck_s_max cx h1 h2 h3 h4 hc hcat hdg (ck_rmc hgr.1 hrc) (ck_rmc hgr.2 hrz) (hcont _ _ _ _ h)
  · -- 24: Math.min
    subst q
    obtain ⟨hna, h1, h2, h3, h4⟩ := m24 rfl
    replace h := ck_mm_some h; obtain ⟨x, y', rfl, h⟩ := h
    replace h := ck_oq_some h; obtain ⟨hc, h⟩ := h
    have hdg : decode y.2.1 pc = .ok (.invokestatic k, 3) := by
      rcases hins with ⟨-, q⟩ | ⟨-, q⟩ | ⟨rfl, -⟩
      · exact absurd q (by decide)
      · exact absurd q (by decide)
      · exact hdg
    have hgr : M.n ≤ Mf.n ∧ M.z ≤ Mf.z := ck_ev_grow T f _ _ _ _ _ _ _ h
    exact ck_s_min cx h1 h2 h3 h4 hc hcat hdg (ck_rmc hgr.1 hrc) (ck_rmc hgr.2 hrz) (hcont _ _ _ _ h)
  · -- the rest
    rw [ck_cal_else _ _ _ _ _ _ _ _ _ _ _ _ _ _ q] at h
    replace h := ck_dn_some h; obtain ⟨d', ⟨rfl, hfit⟩, h⟩ := h
    replace h := ck_ob_some h; rcases h with ⟨v, M1, hev, h⟩ | ⟨j, M1, hev, h⟩
    · refine ck_snd_ret hP hT hst hau hfit hev (ck_ev_grow T f _ _ _ _ _ _ _ h) hrc hrz (hcont _ _ _ _ h) fun H locs ls hR hls hf hmL hM => ?_
      have hn := hnil _ (mh q.1).1 (mh q.1).2
      obtain ⟨-, hcode, hM⟩ := hM.resolve_right (fun q => q.1 hn)
      have hk : kind = 1 ∨ kind = 4 := ck_k14 q mk
      rcases hk with rfl | rfl
      · obtain ⟨h1, h2, h4, h5, h7⟩ := m1 rfl
        have hdg : decode y.2.1 pc = .ok (.invokestatic k, 3) := by
          rcases hins with ⟨-, q⟩ | ⟨-, q⟩ | ⟨rfl, -⟩
          · exact absurd q (by decide)
          · exact absurd q (by decide)
          · exact hdg
        exact ck_runS cx hM hcode hmL h1 h2 h4 h5 h7 rfl hal hcat hR hls hf hdg
      · obtain ⟨host, h1, h2, h4, h5, h7⟩ := m4 rfl
        have hdg : decode y.2.1 pc = .ok (.invokestatic k, 3) := by
          rcases hins with ⟨-, q⟩ | ⟨-, q⟩ | ⟨rfl, -⟩
          · exact absurd q (by decide)
          · exact absurd q (by decide)
          · exact hdg
        exact ck_runSN cx hM hcode hmL h1 h2 h4 h5 h7 rfl hal hcat hR hls hf hdg
    · cases h
/-- WHAT THE EVALUATOR COMPUTES, THE MACHINE DOES -/
theorem ck_snd (g : ck_G0 s0 D dA sa SM a0) (hT : ck_TT my T) : ∀ f, ck_P s0 D dA sa SM my T f := by
  intro f
  induction f with
  | zero =>
    intro p lc e R s m args below meth c Q n0 z0 d Dm y o Mf _ _ _ _ _ _ _ _ _ _ _ _ _ _ _ _ _ pc l st M h
    cases h
  | succ f ih =>
    intro p lc e R s m args below meth c Q n0 z0 d Dm y o Mf hok hx hb hml hown hts hW hr1 hr2 hsh hnm hhk hst hrc hrz hE hX pc l st M h
    unfold ck_ev at h
    cases hp : Dm.1 pc with
    | none => rw [hp] at h; cases h
    | some q =>
      obtain ⟨ins, nx, tg⟩ := q
      rw [hp] at h
      obtain ⟨hio, hrow⟩ := hok.1 _ _ _ _ hp
      have hcont := ih hok hx hb hml hown hts hW hr1 hr2 hsh hnm hhk hst hrc hrz hE hX
      refine ck_step1 hx hb g hW hts hown hok.2.1 hnm hio ?_ ?_ hrc hrz hcont (fun pc l st M h => ck_ev_grow T f d Dm pc l st M _ h) ?_ ?_ ?_ h
      · rintro k rfl f1 ty c1 z hk
        unfold ck_row2 at hrow
        dsimp only at hrow
        rw [hk] at hrow
        cases hrow
      · rintro k rfl a b d1 z rfl hk
        unfold ck_row2 at hrow
        dsimp only at hrow
        rw [hk] at hrow
        cases hrow
      · intro ins' k en as st' hins hdg he h3 hal hau hcat h
        exact ck_snd_cal g hT ih hst ⟨hx, hb, hml, hown, hts, g, hW, hr1, hr2, hsh⟩ hhk hrc hrz hcont hok.2.1 hX hins hdg he h3 hal hau hcat h
      · intro v hrt h
        cases h
        intro H locs ls hR hq hL hlen hn hz
        exact hE v rfl H locs ls pc hrt hR hq
      · intro i st' hdg hk h50 h
        refine ck_s_athrow hx hb hdg fun H locs ls hR hq hL hlen hn hz => ?_
        replace h := ck_ot_some h; rcases h with ⟨t, ht, h⟩ | ⟨ht, h⟩
        · exact ck_caught ⟨hx, hb, hml, hown, hts, g, hW, hr1, hr2, hsh⟩ hhk ht hk (hcont _ _ _ _ h) hR hq hL hlen hn hz
        · cases h
          exact hX i rfl ht hk H locs ls pc _ hR hq
end CkMain3
