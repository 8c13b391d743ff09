/-! WHAT THE EVALUATOR COMPUTES, THE MACHINE DOES -/
section CkMain2
theorem ck_sl_len (ad : Nat → Nat) : ∀ as : List ck_A, (lg_sl (as.map (ck_sv ad))).length = ck_cat as
  | [] => rfl
  | .inl x :: as => by
    have := ck_sl_len ad as
    show (lg_sl (ck_sv ad (vi x) :: as.map (ck_sv ad))).length = 1 + ck_cat as
    rw [← this, show lg_sl (ck_sv ad (vi x) :: as.map (ck_sv ad)) = .val (ck_sv ad (vi x)) :: lg_sl (as.map (ck_sv ad)) from rfl, List.length_cons]; omega
  | .inr (.inl x) :: as => by
    have := ck_sl_len ad as
    show (lg_sl (ck_sv ad (vl x) :: as.map (ck_sv ad))).length = 2 + ck_cat as
    rw [← this, show lg_sl (ck_sv ad (vl x) :: as.map (ck_sv ad)) = .val (ck_sv ad (vl x)) :: .second :: lg_sl (as.map (ck_sv ad)) from rfl, List.length_cons, List.length_cons]; omega
  | .inr (.inr (.inl x)) :: as => by
    have := ck_sl_len ad as
    show (lg_sl (ck_sv ad (vr x) :: as.map (ck_sv ad))).length = 1 + ck_cat as
    rw [← this]
    cases x <;> (rw [show ∀ v : Value, v.category = 1 → lg_sl (v :: as.map (ck_sv ad)) = .val v :: lg_sl (as.map (ck_sv ad)) from fun v hv => by simp [lg_sl, hv]] <;> first | (rw [List.length_cons]; omega) | rfl)
  | .inr (.inr (.inr x)) :: as => by
    have := ck_sl_len ad as
    show (lg_sl (ck_sv ad vu :: as.map (ck_sv ad))).length = 1 + ck_cat as
    rw [← this, show lg_sl (ck_sv ad vu :: as.map (ck_sv ad)) = .val (ck_sv ad vu) :: lg_sl (as.map (ck_sv ad)) from rfl, List.length_cons]; omega
theorem ck_nc_k {x : Int} (h : 0 ≤ x ∧ x < 65536) : narrow .char (.int (Int32.ofInt x)) = .int (Int32.ofInt x) := by
  show Value.int _ = Value.int _
  congr 1
  have h1 : (Int32.ofInt x).toInt = x := ck_i_toInt ⟨by omega, by omega⟩
  have h3 : (Int32.ofInt x).toUInt32.toNat = x.toNat := by
    have h2 : ((Int32.ofInt x).toUInt32.toBitVec.toInt) = x := h1
    have h4 : (Int32.ofInt x).toUInt32.toBitVec.toNat = x.toNat := by
      rw [BitVec.toInt_eq_toNat_cond] at h2
      split at h2 <;> omega
    exact h4
  have h5 : (Int32.ofInt x).toUInt32.toUInt16.toUInt32 = (Int32.ofInt x).toUInt32 := by
    apply UInt32.toNat_inj.mp
    rw [UInt16.toNat_toUInt32, UInt32.toNat_toUInt16, h3]
    omega
  rw [h5]; rfl
/-- the tables hold: of no code, or as the claim's words say -/
def ck_TT (my : Nat → ck_Y) (T : Nat → ck_D) : Prop := ∀ mid, ((my mid).2.1 = ByteArray.empty → ∀ pc, (T mid).1 pc = none) ∧ ((∀ pc, (T mid).1 pc = none) ∨ (ck_MOk my (T mid) (my mid) ∧ ck_MCd (T mid) (my mid))) ∧ ((T mid).2.2.2.2.2 = [] ∨ mid = 91 ∨ mid = 102)
variable {s0 : State} {D : va_G} {dA : Nat → ClassId} {sa : Nat → Nat} {SM : ck_M} {a0 : Array Value} {my : Nat → ck_Y} {T : Nat → ck_D}
theorem ck_TT.at (hT : ck_TT my T) {f d mid : Nat} {l st : List ck_A} {M : ck_M} {r : ck_O × ck_M} (h : ck_ev T f d (T mid) 0 l st M = some r) : (my mid).2.1 ≠ ByteArray.empty ∧ ck_MOk my (T mid) (my mid) ∧ ck_MCd (T mid) (my mid) := by
  have key : ¬ ∀ pc, (T mid).1 pc = none := by
    intro hn
    cases f with
    | zero => cases h
    | succ f => unfold ck_ev at h; rw [hn 0] at h; cases h
  obtain ⟨h1, h2, -⟩ := hT mid
  refine ⟨fun q => key (h1 q), ?_⟩
  rcases h2 with q | q
  · exact absurd q key
  · exact q
/-- a run of a method, from any place, up to its end -/
def ck_P (s0 : State) (D : va_G) (dA : Nat → ClassId) (sa : Nat → Nat) (SM : ck_M) (my : Nat → ck_Y) (T : Nat → ck_D) (f : Nat) : Prop :=
  ∀ {p : Program} {lc : Launch} {e : Env} {R : Room} {s : State} {m : MethodId} {args : Array Value} {below : List Frame} {meth : Method} {c : Code} {Q : State → Prop} {n0 z0 d : Nat} {Dm : ck_D} {y : ck_Y} {o : ck_O} {Mf : ck_M},
    ck_MOk my Dm y → p.tables.exec = Jvm.exec → c.code = y.2.1 → c.maxLocals = Dm.2.2.1 → s.vm.findClass y.1.cls = some m.cls → (∀ w ∈ lw_all, w.before args s = true) → s0.WarmedH s.vm → d + 8 ≤ R.frames → 64 * d + 256 ≤ R.locals → (∀ q : Nat, q < s0.heap.size → s.heap[q]? = s0.heap[q]?) → (Dm.2.2.2.2.1 = true → meth.name = "<init>") → ck_hok Dm y c → lc.stackTraces = false →
    Mf.n - n0 ≤ R.cells → Mf.z - z0 ≤ R.slots →
    (∀ v, o = .inl v → ∀ (H : Heap) (locs : List Loc) (ls : Array Slot) (pc : Nat), ck_rt Dm y.2.1 pc v → ck_Rl s0 D dA sa SM Mf H → (∀ q ∈ locs, s0.heap.size ≤ q.base) → W p lc e R s m args below meth c H locs (Mf.n - n0) (Mf.z - z0) Q (F0 m pc ls (v.toList.map (ck_sv (ck_ad s0 sa))))) →
    (∀ i, o = .inr i → Dm.2.2.2.2.2 = [] → (Mf.K i).1 = 4 → ∀ (H : Heap) (locs : List Loc) (ls : Array Slot) (pc : Nat) (rest : List Value), ck_Rl s0 D dA sa SM Mf H → (∀ q ∈ locs, s0.heap.size ≤ q.base) → vy_W p lc e R s m args below meth c H locs (Mf.n - n0) (Mf.z - z0) Q (F0 m pc ls rest) (ck_ad s0 sa i)) →
    ∀ (pc : Nat) (l st : List ck_A) (M : ck_M), ck_ev T f d Dm pc l st M = some (o, Mf) → ck_WW p lc e R s m args below meth c Q s0 D dA sa SM n0 z0 Dm.2.2.1 pc l st M
/-- the end of a method -/
theorem ck_end {p : Program} {lc : Launch} {e : Env} {R : Room} {s : State} {m : MethodId} {args : Array Value} {below : List Frame} {meth : Method} {c : Code} {cc : ByteArray} {Dm : ck_D} {rt : Option FieldType} {Mf : ck_M} {mc ms : Nat} {v : Option ck_A} {H : Heap} {locs : List Loc} {ls : Array Slot} {pc : Nat}
    (hx : p.tables.exec = Jvm.exec) (hb : c.code = cc) (hr : meth.sig.returnType = rt) (hlocks : meth.locks = false) (hrok : ck_rok Dm.2.2.2.1 rt) (h : ck_rt Dm cc pc v) (hR : ck_Rl s0 D dA sa SM Mf H) (hq : ∀ q ∈ locs, s0.heap.size ≤ q.base) :
    W p lc e R s m args below meth c H locs mc ms (MQ below (ck_Qc s0 D dA sa SM v Mf) args s mc ms (ck_Ab s0)) (F0 m pc ls (v.toList.map (ck_sv (ck_ad s0 sa)))) := by
  obtain ⟨r0, r1, r2, r3, r4, r5, r6⟩ := hrok
  have hQ : ∀ t : State, t.heap = H → s.WarmedH t.vm → ck_Qc s0 D dA sa SM v Mf args s (.returned (v.map (ck_sv (ck_ad s0 sa)))) t := fun t ht _ => ⟨rfl, by rw [ht]; exact hR⟩
  rcases h with ⟨rfl, hd, h⟩ | ⟨x, rfl, hd, h | ⟨h, h2⟩ | ⟨h, h2⟩ | ⟨h, h2⟩⟩ | ⟨x, rfl, hd, h⟩ | ⟨x, rfl, hd, h⟩
  · exact W.vret hx hb (hr.trans (r0 h)) hQ hq hd hlocks
  · exact W.iret hx hb (hr.trans (r1 h)) hQ hq hd hlocks
  · exact W.zret (ty := .boolean) hx hb (hr.trans (r2 h)) (ck_nz h2) hQ hq hd hlocks
  · exact W.zret (ty := .byte) hx hb (hr.trans (r3 h)) (ck_nb h2) hQ hq hd hlocks
  · exact W.zret (ty := .char) hx hb (hr.trans (r4 h)) (ck_nc_k h2) hQ hq hd hlocks
  · exact W.lret hx hb (hr.trans (r5 h)) hQ hq hd hlocks
  · obtain ⟨u, hu, hu2⟩ := r6 h
    refine W.aret hx hb (hr.trans hu) hu2 ?_ hQ hq hd hlocks
    cases x with
    | none => exact Or.inl rfl
    | some i => exact Or.inr ⟨_, rfl⟩
theorem ck_entry {ad : Nat → Nat} {mL : Nat} {as : List ck_A} (hau : ∀ a ∈ as, a ≠ vu) (hfit : ck_cat as ≤ mL) (m : MethodId) : ∃ ls : Array Slot, entryFrame m (as.map (ck_sv ad)).toArray mL = F0 m 0 ls [] ∧ lv_has ls mL (ck_el ad (ck_ent mL as)) := by
  refine ⟨_, lg_entry_eq m _ _, ck_el_weak (lv_entry (as.map (ck_sv ad)) (n := mL) (by rw [ck_sl_len]; exact hfit)) fun q hq => ?_⟩
  obtain ⟨j, w⟩ := q
  obtain ⟨v, h1, h2⟩ := ck_el_mem.mp hq
  have := ck_ent_args ad mL as 0 j v w hau h1 h2
  rw [Nat.zero_add] at this
  exact this
/-- a method's contract, from its evaluation -/
theorem ck_met {f : Nat} {lc : Launch} (hP : ck_P s0 D dA sa SM my T f) (hst : lc.stackTraces = false) {mid d : Nat} {as : List ck_A} {M M1 : ck_M} {v : Option ck_A} (h : ck_ev T f d (T mid) 0 (ck_ent (T mid).2.2.1 as) [] M = some (.inl v, M1)) (hau : ∀ a ∈ as, a ≠ vu) (hfit : ck_cat as ≤ (T mid).2.2.1) (hok : ck_MOk my (T mid) (my mid)) (hcd : ck_MCd (T mid) (my mid)) :
    ((T mid).2.2.2.2.2 = [] ∧ Cond.code (my mid).1 (my mid).2.1 (T mid).2.2.1 (my mid).2.2 ∈ lw_all ∧ Met lc (my mid).1 (ws_ (my mid).1 (my mid).2.1 (T mid).2.2.1 (my mid).2.2) (ck_rm d (M1.n - M.n) (M1.z - M.z)) (ck_Pc s0 D dA sa SM as M) (ck_Qc s0 D dA sa SM v M1) (M1.n - M.n) (M1.z - M.z) (ck_Ab s0)) ∨
    ((T mid).2.2.2.2.2 ≠ [] ∧ ∃ hh, Cond.codeWith (my mid).1 (my mid).2.1 (T mid).2.2.1 (my mid).2.2 hh ∈ lw_all ∧ Met lc (my mid).1 (wsW_ (my mid).1 (my mid).2.1 (T mid).2.2.1 (my mid).2.2 hh) (ck_rm d (M1.n - M.n) (M1.z - M.z)) (ck_Pc s0 D dA sa SM as M) (ck_Qc s0 D dA sa SM v M1) (M1.n - M.n) (M1.z - M.z) (ck_Ab s0)) := by
  obtain ⟨hpl, hc⟩ := hcd
  rcases hc with ⟨hh, hcode⟩ | ⟨a, b, t, k, hh', h1, hcode, h3, h4⟩
  · refine Or.inl ⟨hh, hcode, ?_⟩
    refine Met.ofW hpl rfl ?_
    intro p e s m args below meth c s₁ B hml hPc
    obtain ⟨rfl, hW, hR⟩ := hPc
    have hpre := atoms_spec (ws := ws_ (my mid).1 (my mid).2.1 (T mid).2.2.1 (my mid).2.2) B.pre
    have ht : ∀ x ∈ c.exceptionTable.toList, False := by
      obtain ⟨meth9, c9, e1, e2, -, -, -, -, e7, -⟩ := Cond.code_spec B.named (hpre _ List.mem_cons_self)
      cases Option.some.inj (e1.symm.trans B.method)
      cases Option.some.inj (e2.symm.trans (Stand.of_body B).code)
      intro x hx
      rw [Array.isEmpty_iff.mp e7] at hx
      cases hx
    obtain ⟨ls, hent, hL⟩ := ck_entry (ad := ck_ad s0 sa) hau hfit m
    rw [hent]
    have w := hP (p := p) (lc := lc) (e := e) (R := ck_rm d (M1.n - M.n) (M1.z - M.z)) (s := s) (m := m) (args := (as.map (ck_sv (ck_ad s0 sa))).toArray) (below := below) (meth := meth) (c := c) (Q := MQ below (ck_Qc s0 D dA sa SM v M1) (as.map (ck_sv (ck_ad s0 sa))).toArray s (M1.n - M.n) (M1.z - M.z) (ck_Ab s0)) (n0 := M.n) (z0 := M.z) hok B.exec B.bytes hml (findClass_of_methodNamed B.named) (fun w hw => hpre w (List.mem_cons_of_mem _ hw)) hW (Nat.le_refl _) (Nat.le_refl _) hR.2.2.1 (fun q => (name_of_methodNamed B.named B.method).1.trans (hok.2.2.2.1 q)) (Or.inl hh) hst (Nat.le_refl _) (Nat.le_refl _)
      (fun v' hv' H locs ls pc hrt hR' hq => by cases hv'; exact ck_end B.exec B.bytes B.returns B.notSynchronized hok.2.2.1 hrt hR' hq) (fun i hi => by cases hi) 0 _ [] M h s.heap [] ls hR (fun q hq => by cases hq) hL (ck_ent_len _ _) (Nat.le_refl _) (Nat.le_refl _)
    rw [Nat.sub_self, Nat.sub_self] at w
    exact w
  · refine Or.inr ⟨by rw [h1]; simp, _, hcode, ?_⟩
    refine va_MetW hpl rfl ?_
    intro p e s m args below meth c s₁ B hml hPc
    obtain ⟨rfl, hW, hR⟩ := hPc
    have hpre := atoms_spec (ws := wsW_ (my mid).1 (my mid).2.1 (T mid).2.2.1 (my mid).2.2 ((a, b, t, k) :: hh')) B.pre
    have ht := vy_table (x := (my mid).1) B (hpre _ List.mem_cons_self)
    obtain ⟨ls, hent, hL⟩ := ck_entry (ad := ck_ad s0 sa) hau hfit m
    rw [hent]
    have w := hP (p := p) (lc := lc) (e := e) (R := ck_rm d (M1.n - M.n) (M1.z - M.z)) (s := s) (m := m) (args := (as.map (ck_sv (ck_ad s0 sa))).toArray) (below := below) (meth := meth) (c := c) (Q := MQ below (ck_Qc s0 D dA sa SM v M1) (as.map (ck_sv (ck_ad s0 sa))).toArray s (M1.n - M.n) (M1.z - M.z) (ck_Ab s0)) (n0 := M.n) (z0 := M.z) hok B.exec B.bytes hml (findClass_of_methodNamed B.named) (fun w hw => hpre w (List.mem_cons_of_mem _ hw)) hW (Nat.le_refl _) (Nat.le_refl _) hR.2.2.1 (fun q => (name_of_methodNamed B.named B.method).1.trans (hok.2.2.2.1 q)) (Or.inr ⟨a, b, t, k, hh', h1, ht, h3, h4⟩) hst (Nat.le_refl _) (Nat.le_refl _)
      (fun v' hv' H locs ls pc hrt hR' hq => by cases hv'; exact ck_end B.exec B.bytes B.returns B.notSynchronized hok.2.2.1 hrt hR' hq) (fun i hi => by cases hi) 0 _ [] M h s.heap [] ls hR (fun q hq => by cases hq) hL (ck_ent_len _ _) (Nat.le_refl _) (Nat.le_refl _)
    rw [Nat.sub_self, Nat.sub_self] at w
    exact w
/-- a contract of a method that throws -/
theorem ck_metX {f : Nat} {lc : Launch} (g : ck_G0 s0 D dA sa SM a0) (hP : ck_P s0 D dA sa SM my T f) (hst : lc.stackTraces = false) {mid d i : Nat} {as : List ck_A} {M M1 : ck_M} (h : ck_ev T f d (T mid) 0 (ck_ent (T mid).2.2.1 as) [] M = some (.inr i, M1)) (hau : ∀ a ∈ as, a ≠ vu) (hfit : ck_cat as ≤ (T mid).2.2.1) (hok : ck_MOk my (T mid) (my mid)) (hpl : plainName (my mid).1.cls = true) (hh : (T mid).2.2.2.2.2 = []) :
    vy_Met lc (my mid).1 (ws_ (my mid).1 (my mid).2.1 (T mid).2.2.1 (my mid).2.2) (ck_rm d (M1.n - M.n) (M1.z - M.z)) (ck_Pc s0 D dA sa SM as M) (fun _ _ _ _ => False) (ck_Xc s0 D dA sa SM i M1) (M1.n - M.n) (M1.z - M.z) (ck_Ab s0) := by
  refine vy_ofW hpl rfl ?_
  intro p e s m args below meth c s₁ B hml ht hPc
  obtain ⟨rfl, hW, hR⟩ := hPc
  have hpre := atoms_spec (ws := ws_ (my mid).1 (my mid).2.1 (T mid).2.2.1 (my mid).2.2) B.pre
  obtain ⟨ls, hent, hL⟩ := ck_entry (ad := ck_ad s0 sa) hau hfit m
  rw [hent]
  have w := hP (p := p) (lc := lc) (e := e) (R := ck_rm d (M1.n - M.n) (M1.z - M.z)) (s := s) (m := m) (args := (as.map (ck_sv (ck_ad s0 sa))).toArray) (below := below) (meth := meth) (c := c) (Q := vy_MQ below (fun _ _ _ _ => False) (ck_Xc s0 D dA sa SM i M1) (as.map (ck_sv (ck_ad s0 sa))).toArray s (M1.n - M.n) (M1.z - M.z) (ck_Ab s0)) (n0 := M.n) (z0 := M.z) hok B.exec B.bytes hml (findClass_of_methodNamed B.named) (fun w hw => hpre w (List.mem_cons_of_mem _ hw)) hW (Nat.le_refl _) (Nat.le_refl _) hR.2.2.1 (fun q => (name_of_methodNamed B.named B.method).1.trans (hok.2.2.2.1 q)) (Or.inl hh) hst (Nat.le_refl _) (Nat.le_refl _)
    (fun v' hv' => by cases hv') (fun i' hi' _ hk H locs ls pc rest hR' hq => by
      cases hi'
      obtain ⟨cell, u1, u2, u3⟩ := ck_recv (C := RX3) (T := TX3) (N := 7) (cn := 4) hR' g hW rfl hk
      obtain ⟨h50, hin, r, q1, cell2, q2, q3, q4, q5⟩ := ck_obj (i := i) hR' g (by omega)
      cases Option.some.inj (u1.symm.trans q2)
      exact vy_out (E := "ConkerYard$Wrong") (fun x hx => (ht x hx).elim) B.notSynchronized u1 q4 u3 (fun t ht' _ => ⟨rfl, rfl, by rw [ht']; exact hR', hk⟩) hq (Nat.le_refl _) (Nat.le_refl _))
    0 _ [] M h s.heap [] ls hR (fun q hq => by cases hq) hL (ck_ent_len _ _) (Nat.le_refl _) (Nat.le_refl _)
  rw [Nat.sub_self, Nat.sub_self] at w
  exact w
end CkMain2
