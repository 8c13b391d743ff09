theorem ck_aty_ref {t : Nat} (h : 104 ≤ t) : (ck_aty t).isReference = true := by
  unfold ck_aty
  split <;> first | omega | rfl
theorem ck_nb_k : ∀ k : Fin 256, (Int32.ofInt ((k.val : Int) - 128)).toInt8.toInt32 = Int32.ofInt ((k.val : Int) - 128) := by decide +kernel
theorem ck_nb {v : Int} (h : -128 ≤ v ∧ v < 128) : narrow .byte (.int (Int32.ofInt v)) = .int (Int32.ofInt v) := by
  show Value.int (Int32.ofInt v).toInt8.toInt32 = _
  have := ck_nb_k ⟨(v + 128).toNat, by omega⟩
  rw [show (((⟨(v + 128).toNat, by omega⟩ : Fin 256).val : Nat) : Int) - 128 = v by show ((v + 128).toNat : Int) - 128 = v; omega] at this
  rw [this]
theorem ck_nz {v : Int} (h : 0 ≤ v ∧ v < 2) : narrow .boolean (.int (Int32.ofInt v)) = .int (Int32.ofInt v) := by
  have : v = 0 ∨ v = 1 := by omega
  rcases this with rfl | rfl <;> rfl
theorem ck_str50 {s0 : State} {D : va_G} {dA : Nat → ClassId} {sa : Nat → Nat} {SM M : ck_M} {H : Heap} (hR : ck_Rl s0 D dA sa SM M H) {i : Nat} (hi : (M.K i).1 = 50) : i < 50 := by
  obtain ⟨r1, r2, r3, r4, r5, r6⟩ := hR
  rcases Nat.lt_or_ge i 50 with q | q
  · exact q
  · rcases Nat.lt_or_ge i M.n with q2 | q2
    · have := (r6 i q q2).1; omega
    · rw [r5 i q2] at hi; omega
/-! ONE INSTRUCTION THAT READS OR WRITES MEMORY (printed by gen/steps2.py) -/
section CkSteps2
variable {p : Program} {lc : Launch} {e : Env} {R : Room} {s : State} {m : MethodId} {args : Array Value} {below : List Frame} {meth : Method} {c : Code} {Q : State → Prop}
variable {s0 : State} {D : va_G} {dA : Nat → ClassId} {sa : Nat → Nat} {SM : ck_M} {n0 z0 nL : Nat} {a0 : Array Value} {own : String}
variable {cc : ByteArray} {pc : Nat} {l st : List ck_A} {M : ck_M}
theorem ck_sameF {own ref o n d : String} (hts : ∀ w ∈ lw_all, w.before args s = true) (h : ref = o ∨ Cond.sameField ref o n d ∈ lw_all) : ∀ x, s.fieldFound? o n d = some x → s.fieldFound? ref n d = some x := by
  rcases h with h | h
  · subst h; exact fun x h => h
  · exact u_same (hts _ h)
theorem ck_s_getf (hx : p.tables.exec = Jvm.exec) (hb : c.code = cc) (g : ck_G0 s0 D dA sa SM a0) (hW : s0.WarmedH s.vm) (hts : ∀ w ∈ lw_all, w.before args s = true) (hown : s.vm.findClass own = some m.cls) {k i cn f ty t : Nat} (hF : ck_FL own k cn f ty t) (hi : (M.K i).1 = cn) (hc : cn < 17) (hdg : decode cc pc = .ok (.getfield k, 3)) (k1 : ck_WW p lc e R s m args below meth c Q s0 D dA sa SM n0 z0 nL  (pc + 3) l (ck_ty ty (vi (M.V i f)) (vl (M.V i f)) (vr (M.R i f)) :: st) M) : ck_WW p lc e R s m args below meth c Q s0 D dA sa SM n0 z0 nL  (pc) l (vr (some i) :: st) M := by
  intro H locs ls hR hq hL hlen hn hz
  have k2 := k1 H locs ls hR hq hL hlen hn hz
  obtain ⟨C, T, N, tf, ⟨c1, c2, c3, c4, c5, c6, c7⟩, hf, rfl, hl, -⟩ := hF
  subst hi
  obtain ⟨h50, hin, r, q1, cell, q2, q3, q4, q5⟩ := ck_obj hR g hc
  have hr : r = (C, T, N) := Option.some.inj (q1.symm.trans c1)
  subst hr
  obtain ⟨hS, hfc, kC, hkC, hkind⟩ := (g.K hW).1 _ _ c1
  obtain ⟨cf, kf, fi, fd, hfd, hsl⟩ := hS f hf
  have hst := (u_facts hfc hkC (u_lays hts c2 hf) hfd).1
  have hv : cell.slots[fd.slot]? = some (ck_sv (ck_ad s0 sa) (ck_ty (ck_ft (M.K i).1 f) (vi (M.V i f)) (vl (M.V i f)) (vr (M.R i f)))) := by rw [hsl, ck_fv_ty]; exact q5 f hf
  rcases hl with ⟨ref, h1, h2⟩ | ⟨host, h1⟩
  · exact W.getf hx hb hown (hts _ h1) (ck_sameF (own := own) hts h2 _ hfd) hst q2 (by rw [q4]; exact fun h => by cases h) hv rfl rfl hdg k2
  · exact va_Wgetf hx hb hown (va_Nw.use rfl (va_Nw.warmF hW (va_Nw.of rfl (g.2.1 _ h1)))) hfd hst q2 (by rw [q4]; exact fun h => by cases h) hv rfl rfl hdg k2
theorem ck_s_get_value (hx : p.tables.exec = Jvm.exec) (hb : c.code = cc) (g : ck_G0 s0 D dA sa SM a0) (hW : s0.WarmedH s.vm) (hts : ∀ w ∈ lw_all, w.before args s = true) (hown : s.vm.findClass own = some m.cls) {k i : Nat} (hl : Cond.fieldLink own k "java/lang/String" "value" "[B" ∈ lw_all) (hi : (M.K i).1 = 50) (hdg : decode cc pc = .ok (.getfield k, 3)) (k1 : ck_WW p lc e R s m args below meth c Q s0 D dA sa SM n0 z0 nL  (pc + 3) l (vr (M.R i 0) :: st) M) : ck_WW p lc e R s m args below meth c Q s0 D dA sa SM n0 z0 nL  (pc) l (vr (some i) :: st) M := by
  intro H locs ls hR hq hL hlen hn hz
  have k2 := k1 H locs ls hR hq hL hlen hn hz
  have h50 : i < 50 := ck_str50 hR hi
  obtain ⟨r1, r2, r3, r4, r5, r6⟩ := hR
  obtain ⟨e1, e2, e3⟩ := r4 i h50
  obtain ⟨cf, kk, fi, fd, cell, b1, b2, b3, b4, b5, b6⟩ := (va_OF.moved hW.alike (g.2.2.2.1 i h50 (by rw [← e3]; exact hi)).2.1).kept (H1 := H) (fun a ha _ => r3 a ha)
  rw [← e2] at b5
  exact W.getf hx hb hown (hts _ hl) b1 b2 (by rw [ck_ad_lt h50]; exact b3) b4 b5 rfl rfl hdg k2
theorem ck_s_get_coder (hx : p.tables.exec = Jvm.exec) (hb : c.code = cc) (g : ck_G0 s0 D dA sa SM a0) (hW : s0.WarmedH s.vm) (hts : ∀ w ∈ lw_all, w.before args s = true) (hown : s.vm.findClass own = some m.cls) {k i : Nat} (hl : Cond.fieldLink own k "java/lang/String" "coder" "B" ∈ lw_all) (hi : (M.K i).1 = 50) (hdg : decode cc pc = .ok (.getfield k, 3)) (k1 : ck_WW p lc e R s m args below meth c Q s0 D dA sa SM n0 z0 nL  (pc + 3) l (vi (M.V i 1) :: st) M) : ck_WW p lc e R s m args below meth c Q s0 D dA sa SM n0 z0 nL  (pc) l (vr (some i) :: st) M := by
  intro H locs ls hR hq hL hlen hn hz
  have k2 := k1 H locs ls hR hq hL hlen hn hz
  have h50 : i < 50 := ck_str50 hR hi
  obtain ⟨r1, r2, r3, r4, r5, r6⟩ := hR
  obtain ⟨e1, e2, e3⟩ := r4 i h50
  obtain ⟨cf, kk, fi, fd, cell, b1, b2, b3, b4, b5, b6⟩ := (va_OF.moved hW.alike (g.2.2.2.1 i h50 (by rw [← e3]; exact hi)).2.2).kept (H1 := H) (fun a ha _ => r3 a ha)
  rw [← e1] at b5
  exact W.getf hx hb hown (hts _ hl) b1 b2 (by rw [ck_ad_lt h50]; exact b3) b4 b5 rfl rfl hdg k2
theorem ck_s_gets_COMPACT (hx : p.tables.exec = Jvm.exec) (hb : c.code = cc) (g : ck_G0 s0 D dA sa SM a0) (hW : s0.WarmedH s.vm) (hts : ∀ w ∈ lw_all, w.before args s = true) (hown : s.vm.findClass own = some m.cls) {k : Nat} (hl : Cond.fieldLink own k "java/lang/String" "COMPACT_STRINGS" "Z" ∈ lw_all) (hdg : decode cc pc = .ok (.getstatic k, 3)) (k1 : ck_WW p lc e R s m args below meth c Q s0 D dA sa SM n0 z0 nL  (pc + 3) l (vi (M.V 0 0) :: st) M) : ck_WW p lc e R s m args below meth c Q s0 D dA sa SM n0 z0 nL  (pc) l st M := by
  intro H locs ls hR hq hL hlen hn hz
  have k2 := k1 H locs ls hR hq hL hlen hn hz
  obtain ⟨r1, r2, r3, r4, r5, r6⟩ := hR
  obtain ⟨e1, e2, e3⟩ := r4 0 (by omega)
  obtain ⟨cf, kf, fi, f, a, cell, h1, h2, h3, h4, h5, h6, h7, h8⟩ := (va_Z.moved hW.alike g.2.2.2.2.2.2.1.1).kept (H1 := H) (fun a ha _ => r3 a ha)
  rw [← e1] at h7
  exact W.gets hx hb hown (hts _ hl) h1 h2 h3 h4 h5 (fun e => by rw [e] at h6; cases h6) h7 rfl hdg k2
theorem ck_s_gets_NAMES (hx : p.tables.exec = Jvm.exec) (hb : c.code = cc) (g : ck_G0 s0 D dA sa SM a0) (hW : s0.WarmedH s.vm) (hts : ∀ w ∈ lw_all, w.before args s = true) (hown : s.vm.findClass own = some m.cls) {k : Nat} (hl : Cond.fieldLink own k "ConkerYard" "NAMES" "[Ljava/lang/String;" ∈ lw_all) (hdg : decode cc pc = .ok (.getstatic k, 3)) (k1 : ck_WW p lc e R s m args below meth c Q s0 D dA sa SM n0 z0 nL  (pc + 3) l (vr (M.R 0 1) :: st) M) : ck_WW p lc e R s m args below meth c Q s0 D dA sa SM n0 z0 nL  (pc) l st M := by
  intro H locs ls hR hq hL hlen hn hz
  have k2 := k1 H locs ls hR hq hL hlen hn hz
  obtain ⟨r1, r2, r3, r4, r5, r6⟩ := hR
  obtain ⟨e1, e2, e3⟩ := r4 0 (by omega)
  obtain ⟨cf, kf, fi, f, a, cell, h1, h2, h3, h4, h5, h6, h7, h8⟩ := (va_Z.moved hW.alike g.2.2.2.2.2.2.1.2.1).kept (H1 := H) (fun a ha _ => r3 a ha)
  rw [← e2] at h7
  exact W.gets hx hb hown (hts _ hl) h1 h2 h3 h4 h5 (fun e => by rw [e] at h6; cases h6) h7 rfl hdg k2
theorem ck_s_gets_SIOOBE (hx : p.tables.exec = Jvm.exec) (hb : c.code = cc) (g : ck_G0 s0 D dA sa SM a0) (hW : s0.WarmedH s.vm) (hts : ∀ w ∈ lw_all, w.before args s = true) (hown : s.vm.findClass own = some m.cls) {k : Nat} (hl : Cond.fieldLink own k "jdk/internal/util/Preconditions" "SIOOBE_FORMATTER" "Ljava/util/function/BiFunction;" ∈ lw_all) (hdg : decode cc pc = .ok (.getstatic k, 3)) (k1 : ck_WW p lc e R s m args below meth c Q s0 D dA sa SM n0 z0 nL  (pc + 3) l (vr (M.R 0 4) :: st) M) : ck_WW p lc e R s m args below meth c Q s0 D dA sa SM n0 z0 nL  (pc) l st M := by
  intro H locs ls hR hq hL hlen hn hz
  have k2 := k1 H locs ls hR hq hL hlen hn hz
  obtain ⟨r1, r2, r3, r4, r5, r6⟩ := hR
  obtain ⟨e1, e2, e3⟩ := r4 0 (by omega)
  obtain ⟨cf, kf, fi, f, a, cell, h1, h2, h3, h4, h5, h6, h7, h8⟩ := (va_Z.moved hW.alike g.2.2.2.2.2.2.1.2.2).kept (H1 := H) (fun a ha _ => r3 a ha)
  rw [← e2] at h7
  exact W.gets hx hb hown (hts _ hl) h1 h2 h3 h4 h5 (fun e => by rw [e] at h6; cases h6) h7 rfl hdg k2
theorem ck_s_ldcI (hx : p.tables.exec = Jvm.exec) (hb : c.code = cc) (g : ck_G0 s0 D dA sa SM a0) (hW : s0.WarmedH s.vm) (hts : ∀ w ∈ lw_all, w.before args s = true) (hown : s.vm.findClass own = some m.cls) {k : Nat} {n : Int} (hl : Cond.constant own k (Int32.ofInt n) ∈ lw_all) (hdg : decode cc pc = .ok (.ldc k, 2)) (k1 : ck_WW p lc e R s m args below meth c Q s0 D dA sa SM n0 z0 nL  (pc + 2) l (vi n :: st) M) : ck_WW p lc e R s m args below meth c Q s0 D dA sa SM n0 z0 nL  (pc) l st M := by
  intro H locs ls hR hq hL hlen hn hz
  exact lv_ldc hx hb hown (hts _ hl) hdg (k1 H locs ls hR hq hL hlen hn hz)
theorem ck_s_ldcwI (hx : p.tables.exec = Jvm.exec) (hb : c.code = cc) (g : ck_G0 s0 D dA sa SM a0) (hW : s0.WarmedH s.vm) (hts : ∀ w ∈ lw_all, w.before args s = true) (hown : s.vm.findClass own = some m.cls) {k : Nat} {n : Int} (hl : Cond.constant own k (Int32.ofInt n) ∈ lw_all) (hdg : decode cc pc = .ok (.ldc_w k, 3)) (k1 : ck_WW p lc e R s m args below meth c Q s0 D dA sa SM n0 z0 nL  (pc + 3) l (vi n :: st) M) : ck_WW p lc e R s m args below meth c Q s0 D dA sa SM n0 z0 nL  (pc) l st M := by
  intro H locs ls hR hq hL hlen hn hz
  exact lv_ldcw hx hb hown (hts _ hl) hdg (k1 H locs ls hR hq hL hlen hn hz)
theorem ck_s_ldc2 (hx : p.tables.exec = Jvm.exec) (hb : c.code = cc) (g : ck_G0 s0 D dA sa SM a0) (hW : s0.WarmedH s.vm) (hts : ∀ w ∈ lw_all, w.before args s = true) (hown : s.vm.findClass own = some m.cls) {k : Nat} {n : Int} (hl : Cond.constantLong own k (Int64.ofInt n) ∈ lw_all) (hdg : decode cc pc = .ok (.ldc2_w k, 3)) (k1 : ck_WW p lc e R s m args below meth c Q s0 D dA sa SM n0 z0 nL  (pc + 3) l (vl n :: st) M) : ck_WW p lc e R s m args below meth c Q s0 D dA sa SM n0 z0 nL  (pc) l st M := by
  intro H locs ls hR hq hL hlen hn hz
  exact lv_ldc2 hx hb hown (hts _ hl) hdg (k1 H locs ls hR hq hL hlen hn hz)
theorem ck_s_ldcS (hx : p.tables.exec = Jvm.exec) (hb : c.code = cc) (g : ck_G0 s0 D dA sa SM a0) (hW : s0.WarmedH s.vm) (hts : ∀ w ∈ lw_all, w.before args s = true) (hown : s.vm.findClass own = some m.cls) {k i : Nat} {tx : String} (hi : i < 50) (hl : (own, k, tx, i) ∈ ck_strs) (hdg : decode cc pc = .ok (.ldc k, 2)) (k1 : ck_WW p lc e R s m args below meth c Q s0 D dA sa SM n0 z0 nL  (pc + 2) l (vr (some i) :: st) M) : ck_WW p lc e R s m args below meth c Q s0 D dA sa SM n0 z0 nL  (pc) l st M := by
  intro H locs ls hR hq hL hlen hn hz
  exact va_ldcS (q := ck_ad s0 sa i) hx hb hown (by rw [ck_ad_lt hi]; exact vk_R.warm hW (g.2.2.2.2.1 _ hl)) hdg (k1 H locs ls hR hq hL hlen hn hz)
theorem ck_s_ldcM (hx : p.tables.exec = Jvm.exec) (hb : c.code = cc) (g : ck_G0 s0 D dA sa SM a0) (hW : s0.WarmedH s.vm) (hts : ∀ w ∈ lw_all, w.before args s = true) (hown : s.vm.findClass own = some m.cls) {k : Nat} (hl : Cond.classLink own k "[Ljava/lang/Object;" ∈ lw_all) (hdg : decode cc pc = .ok (.ldc k, 2)) (k1 : ck_WW p lc e R s m args below meth c Q s0 D dA sa SM n0 z0 nL  (pc + 2) l (vr (some 3) :: st) M) : ck_WW p lc e R s m args below meth c Q s0 D dA sa SM n0 z0 nL  (pc) l st M := by
  intro H locs ls hR hq hL hlen hn hz
  exact va_ldcM (mi := ck_ad s0 sa 3) hx hb hown (hts _ hl) (by rw [ck_ad_lt (by omega)]; exact va_Mi.moved hW.alike g.2.2.2.2.2.1) hdg (k1 H locs ls hR hq hL hlen hn hz)
theorem ck_s_putf (hx : p.tables.exec = Jvm.exec) (hb : c.code = cc) (g : ck_G0 s0 D dA sa SM a0) (hW : s0.WarmedH s.vm) (hts : ∀ w ∈ lw_all, w.before args s = true) (hown : s.vm.findClass own = some m.cls) {k i cn f ty t : Nat} {v : ck_A} {x : Int} {q : Option Nat} (hF : ck_FL own k cn f ty t) (hi : (M.K i).1 = cn) (hc : cn < 17) (ht : t = 1 ∨ t = 11 ∧ meth.name = "<init>") (hdg : decode cc pc = .ok (.putfield k, 3))
    {M' : ck_M} (hM : M'.n = M.n ∧ M'.z = M.z ∧ M'.K = M.K ∧ (∀ j, j ≠ i → M'.V j = M.V j ∧ M'.R j = M.R j) ∧ (∀ j, j ≠ f → M'.V i j = M.V i j ∧ M'.R i j = M.R i j))
    (hv : ck_sv (ck_ad s0 sa) v = ck_fv (ck_ad s0 sa) ty (M'.V i f) (M'.R i f)) (hvt : ∀ u, ck_tk ty u → narrow u (ck_sv (ck_ad s0 sa) v) = ck_sv (ck_ad s0 sa) v ∧ fits u (ck_sv (ck_ad s0 sa) v) = true)
    (k1 : ck_WW p lc e R s m args below meth c Q s0 D dA sa SM n0 z0 nL  (pc + 3) l st M') : ck_WW p lc e R s m args below meth c Q s0 D dA sa SM n0 z0 nL  (pc) l (v :: vr (some i) :: st) M := by
  intro H locs ls hR hq hL hlen hn hz
  obtain ⟨C, T, N, tf, ⟨c1, c2, c3, c4, c5, c6, c7⟩, hf, rfl, hl, ht1, ht2⟩ := hF
  subst hi
  obtain ⟨h50, hin, r, q1, cell, q2, q3, q4, q5⟩ := ck_obj hR g hc
  have hr : r = (C, T, N) := Option.some.inj (q1.symm.trans c1)
  subst hr
  have hK := g.K hW
  obtain ⟨hS, hfc, kC, hkC, hkind⟩ := hK.1 _ _ c1
  obtain ⟨cf, kf, fi, fd, hfd, hsl⟩ := hS f hf
  have hst := (u_facts hfc hkC (u_lays hts c2 hf) hfd).1
  have hap := va_apart (own := own) hts c2 tf c3 c4 hK c1
  obtain ⟨hnr, hft⟩ := hvt _ (c5 f hf)
  have hlt : fd.slot < cell.slots.size := by rw [hsl]; exact k2_hasslot (q5 f hf)
  have hsl0 : (D.2 (M.K i).1) f = fd.slot := hsl.symm
  have fin : ∀ H1 : Heap, H1[ck_ad s0 sa i]? = some (cell.setSlot fd.slot (ck_sv (ck_ad s0 sa) v)) → H1.size = H.size → (∀ q, q ≠ ck_ad s0 sa i → H1[q]? = H[q]?) → W p lc e R s m args below meth c H1 (locs ++ [⟨ck_ad s0 sa i, fd.slot⟩]) (M.n - n0) (M.z - z0) Q (F0 m (pc + 3) ls (st.map (ck_sv (ck_ad s0 sa)))) := by
    intro H1 e1 e2 e3
    obtain ⟨m1, m2, m3, m4, m5⟩ := hM
    have k2 := k1 H1 (locs ++ [⟨ck_ad s0 sa i, fd.slot⟩]) ls (hR.upd h50 hin m1 m3 m4 e2 e3 ?_) ?_ hL hlen (by rw [m1]; exact hn) (by rw [m2]; exact hz)
    · rw [m1, m2] at k2; exact k2
    · unfold ck_at1
      rw [m3, if_pos hc]
      obtain ⟨cm, hcm, hmo⟩ := ck_objm hR g hc
      cases Option.some.inj (q2.symm.trans hcm)
      refine ⟨⟨_, c1, _, e1, q3, q4, ?_⟩, _, e1, hmo⟩
      rw [← hsl0]
      have q6 := t_set q5 hap hf (ck_sv (ck_ad s0 sa) v)
      intro j hj
      rw [q6 j hj]
      unfold updV
      by_cases hjf : j = f
      · subst hjf; rw [if_pos rfl, hv]
      · rw [if_neg hjf]
        show some (ck_fv (ck_ad s0 sa) (ck_ft (M.K i).1 j) (M.V i j) (M.R i j)) = some (ck_fv (ck_ad s0 sa) (ck_ft (M.K i).1 j) (M'.V i j) (M'.R i j))
        rw [(m5 j hjf).1, (m5 j hjf).2]
    · intro z hz
      rcases List.mem_append.mp hz with h | h
      · exact hq z h
      · rw [List.mem_singleton.mp h]
        show s0.heap.size ≤ ck_ad s0 sa i
        rw [ck_ad_ge h50]; omega
  have hlay := hts _ (c2 _ (u_in_lay hf))
  unfold u_lay at hlay
  rcases ht with ht | ⟨ht, hin2⟩
  · have hfin := ht1 ht
    rw [if_neg (by rw [hfin]; decide)] at hlay
    have h6 := u_store hfc hkC hkind hlay hfd (c3 f hf) hnr hft
    rcases hl with ⟨ref, h1, h2⟩ | ⟨host, h1⟩
    · exact W.putK hx hb (f := fd) ⟨hown, hts _ h1, ⟨_, _, _, ck_sameF (own := own) hts h2 _ hfd⟩, hst⟩ (by rw [q3]; exact h6) q2 q4 hlt rfl rfl hdg fin
    · exact va_WputK hx hb hown (va_Nw.use rfl (va_Nw.warmF hW (va_Nw.of rfl (g.2.1 _ h1)))) hfd hst (by rw [q3]; exact h6) q2 q4 hlt rfl rfl hdg fin
  · obtain ⟨hfin, hdecl, h1⟩ := ht2 ht
    rw [if_pos hfin] at hlay
    have hcf : m.cls = cf := by
      obtain ⟨_, _, c', _, _, _, -, -, hf', -, -, -, hown2, -⟩ := Cond.laysFinal_spec hlay
      have e1 : c' = cf := by have := hfd.symm.trans hf'; simp at this; exact this.1.symm
      rw [hdecl] at hown2
      rw [← e1]; exact Option.some.inj (hown.symm.trans hown2)
    have h6 := u_fits hfc hkC hkind (Or.inr hlay) hfd (c3 f hf) hnr hft
    refine W.putFinK hx hb hown (hts _ h1) (by rw [← hdecl]; exact hfd) hst hcf hin2 (by rw [q3]; exact h6) q2 q4 hlt rfl rfl hdg fin
theorem ck_s_new (hx : p.tables.exec = Jvm.exec) (hb : c.code = cc) (g : ck_G0 s0 D dA sa SM a0) (hW : s0.WarmedH s.vm) (hts : ∀ w ∈ lw_all, w.before args s = true) (hown : s.vm.findClass own = some m.cls) {k cn N : Nat} {C : String} {T : u_T} {tf : Nat → FieldType} (hC : ck_Cls cn C T N tf) (hl : Cond.classLink own k C ∈ lw_all) (hc : cn < 17) (hdg : decode cc pc = .ok (.new k, 3)) (hrc : M.n + 1 - n0 ≤ R.cells) (hrz : M.z + N - z0 ≤ R.slots) (k1 : ck_WW p lc e R s m args below meth c Q s0 D dA sa SM n0 z0 nL  (pc + 3) l (vr (some M.n) :: st) (M.mk cn N)) : ck_WW p lc e R s m args below meth c Q s0 D dA sa SM n0 z0 nL  (pc) l st M := by
  intro H locs ls hR hq hL hlen hn hz
  obtain ⟨c1, c2, c3, c4, c5, c6, c7⟩ := hC
  have hKn := (g.K hW).1 _ _ c1
  have hR0 := hR
  obtain ⟨r1, r2, r3, r4, r5, r6⟩ := hR0
  have hH : H.size = ck_ad s0 sa M.n := by rw [ck_ad_ge r1, r2]
  refine W.newcK hx hb hown (hts _ hl) (hts _ c6) (hts _ c7) rfl hdg (by omega) (by omega) hKn.2.1 hH fun H1 kC hkC e1 z1 o1 => ?_
  have k2 := k1 H1 locs ls (hR.mk (Or.inl hc) (by omega) (fun q h => o1 q (by omega)) ?_) hq hL hlen (by show n0 ≤ M.n + 1; omega) (by show z0 ≤ M.z + N; omega)
  · rw [show (M.mk cn N).n - n0 = M.n - n0 + 1 by show M.n + 1 - n0 = _; omega, show (M.mk cn N).z - z0 = M.z - z0 + N by show M.z + N - z0 = _; omega] at k2
    exact k2
  · have eK0 : (M.mk cn N).K M.n = (cn, N) := if_pos rfl
    have eV : (M.mk cn N).V M.n = fun _ => 0 := if_pos rfl
    have eR : (M.mk cn N).R M.n = fun _ => none := if_pos rfl
    unfold ck_at1
    rw [eK0, eV, eR, if_pos hc]
    refine ⟨⟨_, c1, (u_born tf hts c2 hKn hkC e1 c3).to fun j hj => ?_⟩, _, e1, rfl, rfl⟩
    obtain ⟨t0, t1, t3, t4, t5⟩ := c5 j hj
    rcases t5 with h | h | h | h
    · rw [t0 h]; show _ = ck_fv _ (ck_ft cn j) _ _; rw [h]; rfl
    · rw [t1 h]; show _ = ck_fv _ (ck_ft cn j) _ _; rw [h]; rfl
    · rw [t3 h]; show _ = ck_fv _ (ck_ft cn j) _ _; rw [h]; rfl
    · show _ = ck_fv _ (ck_ft cn j) _ _
      rw [h]
      obtain ⟨C', h9 | ⟨u, h9⟩⟩ := t4 h <;> rw [h9] <;> rfl
theorem ck_s_newa_int (hx : p.tables.exec = Jvm.exec) (hb : c.code = cc) (g : ck_G0 s0 D dA sa SM a0) (hW : s0.WarmedH s.vm) (hts : ∀ w ∈ lw_all, w.before args s = true) (hown : s.vm.findClass own = some m.cls) {x : Int} (h : 0 ≤ x ∧ x < 65536) (hl : Cond.arrayClass .int ∈ lw_all) (hdg : decode cc pc = .ok (.newarray .int, 2)) (hrc : M.n + 1 - n0 ≤ R.cells) (hrz : M.z + x.toNat - z0 ≤ R.slots) (k1 : ck_WW p lc e R s m args below meth c Q s0 D dA sa SM n0 z0 nL  (pc + 2) l (vr (some M.n) :: st) (M.mk 100 x.toNat)) : ck_WW p lc e R s m args below meth c Q s0 D dA sa SM n0 z0 nL  (pc) l (vi x :: st) M := by
  intro H locs ls hR hq hL hlen hn hz
  have hR0 := hR
  obtain ⟨r1, r2, r3, r4, r5, r6⟩ := hR0
  have hH : H.size = ck_ad s0 sa M.n := by rw [ck_ad_ge r1, r2]
  obtain ⟨w1, w2⟩ := ck_i_clamp (x := x) (j := x.toNat) (n := 65536) (by omega) (by omega) (by omega)
  have hnm : s.vm.findClass ("[" ++ (.int : FieldType).toString) = some (dA 100) := ((g.K hW).2 0 _ rfl).2
  refine va_newaK hx hb (atype := .int) (hts _ hl) rfl hdg rfl (fun q => w1 (Or.inl q)) w2 (by show _ * _ ≤ _; simp only [newarray.typeOf, componentBytes]; omega) (by omega) (by omega) hH fun H1 cA e1 z1 o1 hAr hNm => ?_
  have hcA : cA = dA 100 := Option.some.inj (hNm.symm.trans hnm)
  subst hcA
  have k2 := k1 H1 locs ls (hR.mk (Or.inr ⟨by omega, by omega, by omega⟩) (by omega) (fun q h => o1 q (by omega)) ?_) hq hL hlen (by show n0 ≤ M.n + 1; omega) (by show z0 ≤ M.z + x.toNat; omega)
  · rw [show (M.mk 100 x.toNat).n - n0 = M.n - n0 + 1 by show M.n + 1 - n0 = _; omega, show (M.mk 100 x.toNat).z - z0 = M.z - z0 + x.toNat by show M.z + x.toNat - z0 = _; omega] at k2
    exact k2
  · have eK0 : (M.mk 100 x.toNat).K M.n = (100, x.toNat) := if_pos rfl
    have eV : (M.mk 100 x.toNat).V M.n = fun _ => 0 := if_pos rfl
    have eR : (M.mk 100 x.toNat).R M.n = fun _ => none := if_pos rfl
    unfold ck_at1
    rw [eK0, eV, eR, if_neg (by show ¬ 100 < 17; omega)]
    exact e1
theorem ck_s_newa_byte (hx : p.tables.exec = Jvm.exec) (hb : c.code = cc) (g : ck_G0 s0 D dA sa SM a0) (hW : s0.WarmedH s.vm) (hts : ∀ w ∈ lw_all, w.before args s = true) (hown : s.vm.findClass own = some m.cls) {x : Int} (h : 0 ≤ x ∧ x < 65536) (hl : Cond.arrayClass .byte ∈ lw_all) (hdg : decode cc pc = .ok (.newarray .byte, 2)) (hrc : M.n + 1 - n0 ≤ R.cells) (hrz : M.z + x.toNat - z0 ≤ R.slots) (k1 : ck_WW p lc e R s m args below meth c Q s0 D dA sa SM n0 z0 nL  (pc + 2) l (vr (some M.n) :: st) (M.mk 101 x.toNat)) : ck_WW p lc e R s m args below meth c Q s0 D dA sa SM n0 z0 nL  (pc) l (vi x :: st) M := by
  intro H locs ls hR hq hL hlen hn hz
  have hR0 := hR
  obtain ⟨r1, r2, r3, r4, r5, r6⟩ := hR0
  have hH : H.size = ck_ad s0 sa M.n := by rw [ck_ad_ge r1, r2]
  obtain ⟨w1, w2⟩ := ck_i_clamp (x := x) (j := x.toNat) (n := 65536) (by omega) (by omega) (by omega)
  have hnm : s.vm.findClass ("[" ++ (.byte : FieldType).toString) = some (dA 101) := ((g.K hW).2 1 _ rfl).2
  refine va_newaK hx hb (atype := .byte) (hts _ hl) rfl hdg rfl (fun q => w1 (Or.inl q)) w2 (by show _ * _ ≤ _; simp only [newarray.typeOf, componentBytes]; omega) (by omega) (by omega) hH fun H1 cA e1 z1 o1 hAr hNm => ?_
  have hcA : cA = dA 101 := Option.some.inj (hNm.symm.trans hnm)
  subst hcA
  have k2 := k1 H1 locs ls (hR.mk (Or.inr ⟨by omega, by omega, by omega⟩) (by omega) (fun q h => o1 q (by omega)) ?_) hq hL hlen (by show n0 ≤ M.n + 1; omega) (by show z0 ≤ M.z + x.toNat; omega)
  · rw [show (M.mk 101 x.toNat).n - n0 = M.n - n0 + 1 by show M.n + 1 - n0 = _; omega, show (M.mk 101 x.toNat).z - z0 = M.z - z0 + x.toNat by show M.z + x.toNat - z0 = _; omega] at k2
    exact k2
  · have eK0 : (M.mk 101 x.toNat).K M.n = (101, x.toNat) := if_pos rfl
    have eV : (M.mk 101 x.toNat).V M.n = fun _ => 0 := if_pos rfl
    have eR : (M.mk 101 x.toNat).R M.n = fun _ => none := if_pos rfl
    unfold ck_at1
    rw [eK0, eV, eR, if_neg (by show ¬ 101 < 17; omega)]
    exact e1
theorem ck_s_newa_boolean (hx : p.tables.exec = Jvm.exec) (hb : c.code = cc) (g : ck_G0 s0 D dA sa SM a0) (hW : s0.WarmedH s.vm) (hts : ∀ w ∈ lw_all, w.before args s = true) (hown : s.vm.findClass own = some m.cls) {x : Int} (h : 0 ≤ x ∧ x < 65536) (hl : Cond.arrayClass .boolean ∈ lw_all) (hdg : decode cc pc = .ok (.newarray .boolean, 2)) (hrc : M.n + 1 - n0 ≤ R.cells) (hrz : M.z + x.toNat - z0 ≤ R.slots) (k1 : ck_WW p lc e R s m args below meth c Q s0 D dA sa SM n0 z0 nL  (pc + 2) l (vr (some M.n) :: st) (M.mk 102 x.toNat)) : ck_WW p lc e R s m args below meth c Q s0 D dA sa SM n0 z0 nL  (pc) l (vi x :: st) M := by
  intro H locs ls hR hq hL hlen hn hz
  have hR0 := hR
  obtain ⟨r1, r2, r3, r4, r5, r6⟩ := hR0
  have hH : H.size = ck_ad s0 sa M.n := by rw [ck_ad_ge r1, r2]
  obtain ⟨w1, w2⟩ := ck_i_clamp (x := x) (j := x.toNat) (n := 65536) (by omega) (by omega) (by omega)
  have hnm : s.vm.findClass ("[" ++ (.boolean : FieldType).toString) = some (dA 102) := ((g.K hW).2 2 _ rfl).2
  refine va_newaK hx hb (atype := .boolean) (hts _ hl) rfl hdg rfl (fun q => w1 (Or.inl q)) w2 (by show _ * _ ≤ _; simp only [newarray.typeOf, componentBytes]; omega) (by omega) (by omega) hH fun H1 cA e1 z1 o1 hAr hNm => ?_
  have hcA : cA = dA 102 := Option.some.inj (hNm.symm.trans hnm)
  subst hcA
  have k2 := k1 H1 locs ls (hR.mk (Or.inr ⟨by omega, by omega, by omega⟩) (by omega) (fun q h => o1 q (by omega)) ?_) hq hL hlen (by show n0 ≤ M.n + 1; omega) (by show z0 ≤ M.z + x.toNat; omega)
  · rw [show (M.mk 102 x.toNat).n - n0 = M.n - n0 + 1 by show M.n + 1 - n0 = _; omega, show (M.mk 102 x.toNat).z - z0 = M.z - z0 + x.toNat by show M.z + x.toNat - z0 = _; omega] at k2
    exact k2
  · have eK0 : (M.mk 102 x.toNat).K M.n = (102, x.toNat) := if_pos rfl
    have eV : (M.mk 102 x.toNat).V M.n = fun _ => 0 := if_pos rfl
    have eR : (M.mk 102 x.toNat).R M.n = fun _ => none := if_pos rfl
    unfold ck_at1
    rw [eK0, eV, eR, if_neg (by show ¬ 102 < 17; omega)]
    exact e1
theorem ck_s_newa_long (hx : p.tables.exec = Jvm.exec) (hb : c.code = cc) (g : ck_G0 s0 D dA sa SM a0) (hW : s0.WarmedH s.vm) (hts : ∀ w ∈ lw_all, w.before args s = true) (hown : s.vm.findClass own = some m.cls) {x : Int} (h : 0 ≤ x ∧ x < 65536) (hl : Cond.arrayClass .long ∈ lw_all) (hdg : decode cc pc = .ok (.newarray .long, 2)) (hrc : M.n + 1 - n0 ≤ R.cells) (hrz : M.z + x.toNat - z0 ≤ R.slots) (k1 : ck_WW p lc e R s m args below meth c Q s0 D dA sa SM n0 z0 nL  (pc + 2) l (vr (some M.n) :: st) (M.mk 103 x.toNat)) : ck_WW p lc e R s m args below meth c Q s0 D dA sa SM n0 z0 nL  (pc) l (vi x :: st) M := by
  intro H locs ls hR hq hL hlen hn hz
  have hR0 := hR
  obtain ⟨r1, r2, r3, r4, r5, r6⟩ := hR0
  have hH : H.size = ck_ad s0 sa M.n := by rw [ck_ad_ge r1, r2]
  obtain ⟨w1, w2⟩ := ck_i_clamp (x := x) (j := x.toNat) (n := 65536) (by omega) (by omega) (by omega)
  have hnm : s.vm.findClass ("[" ++ (.long : FieldType).toString) = some (dA 103) := ((g.K hW).2 3 _ rfl).2
  refine va_newaK hx hb (atype := .long) (hts _ hl) rfl hdg rfl (fun q => w1 (Or.inl q)) w2 (by show _ * _ ≤ _; simp only [newarray.typeOf, componentBytes]; omega) (by omega) (by omega) hH fun H1 cA e1 z1 o1 hAr hNm => ?_
  have hcA : cA = dA 103 := Option.some.inj (hNm.symm.trans hnm)
  subst hcA
  have k2 := k1 H1 locs ls (hR.mk (Or.inr ⟨by omega, by omega, by omega⟩) (by omega) (fun q h => o1 q (by omega)) ?_) hq hL hlen (by show n0 ≤ M.n + 1; omega) (by show z0 ≤ M.z + x.toNat; omega)
  · rw [show (M.mk 103 x.toNat).n - n0 = M.n - n0 + 1 by show M.n + 1 - n0 = _; omega, show (M.mk 103 x.toNat).z - z0 = M.z - z0 + x.toNat by show M.z + x.toNat - z0 = _; omega] at k2
    exact k2
  · have eK0 : (M.mk 103 x.toNat).K M.n = (103, x.toNat) := if_pos rfl
    have eV : (M.mk 103 x.toNat).V M.n = fun _ => 0 := if_pos rfl
    have eR : (M.mk 103 x.toNat).R M.n = fun _ => none := if_pos rfl
    unfold ck_at1
    rw [eK0, eV, eR, if_neg (by show ¬ 103 < 17; omega)]
    exact e1
theorem ck_s_anew (hx : p.tables.exec = Jvm.exec) (hb : c.code = cc) (g : ck_G0 s0 D dA sa SM a0) (hW : s0.WarmedH s.vm) (hts : ∀ w ∈ lw_all, w.before args s = true) (hown : s.vm.findClass own = some m.cls) {x : Int} {k t : Nat} {C : String} (h : 0 ≤ x ∧ x < 65536) (ht : 104 ≤ t ∧ t ≤ 106) (hC : ck_aty t = .object C) (hl : Cond.classLink own k C ∈ lw_all) (ho : Cond.arrayOver (.object C) ∈ lw_tbl) (hdg : decode cc pc = .ok (.anewarray k, 3)) (hrc : M.n + 1 - n0 ≤ R.cells) (hrz : M.z + x.toNat - z0 ≤ R.slots) (k1 : ck_WW p lc e R s m args below meth c Q s0 D dA sa SM n0 z0 nL  (pc + 3) l (vr (some M.n) :: st) (M.mk t x.toNat)) : ck_WW p lc e R s m args below meth c Q s0 D dA sa SM n0 z0 nL  (pc) l (vi x :: st) M := by
  intro H locs ls hR hq hL hlen hn hz
  have hR0 := hR
  obtain ⟨r1, r2, r3, r4, r5, r6⟩ := hR0
  have hH : H.size = ck_ad s0 sa M.n := by rw [ck_ad_ge r1, r2]
  obtain ⟨w1, w2⟩ := ck_i_clamp (x := x) (j := x.toNat) (n := 65536) (by omega) (by omega) (by omega)
  have hov : va_AO C s := va_AO.moved hW.alike (va_AO.of (g.2.1 _ ho))
  obtain ⟨k9, hk9⟩ := ck_tys_ok (dA := dA) (t := t) (by omega) (by omega)
  have hRA := ((g.K hW).2 k9 _ hk9).2
  rw [show (dA t, ck_aty t).2 = FieldType.object C from hC] at hRA
  obtain ⟨kA9, comp9, a1, a2, a3, a4⟩ := hRA
  refine W.anew hx hb hown (hts _ hl) (va_AO.use hov) rfl hdg rfl (fun q => w1 (Or.inl q)) (by rw [w2]; omega) (by omega) (by rw [w2]; omega) fun cA kA comp f1 f2 f3 f4 => ?_
  have hcA : cA = dA t := Option.some.inj (f1.symm.trans a4)
  subst hcA
  rw [w2, hH]
  generalize hH1 : H.push ({ cls := dA t, slots := Array.replicate x.toNat .null, vm := .none } : Cell) = H1
  have z1 : H1.size = H.size + 1 := by rw [← hH1, Array.size_push]
  have e1 : H1[ck_ad s0 sa M.n]? = some (arrV (dA t) x.toNat (fun _ => .null)) := by rw [← hH1, ← hH, Array.getElem?_push_size, ← arrV_new]
  have o1 : ∀ q : Nat, q < H.size → H1[q]? = H[q]? := fun q hq => by rw [← hH1, Array.getElem?_push, if_neg (Nat.ne_of_lt hq)]
  have k2 := k1 H1 locs ls (hR.mk (Or.inr ⟨by omega, by omega, by omega⟩) (by omega) o1 ?_) hq hL hlen (by show n0 ≤ M.n + 1; omega) (by show z0 ≤ M.z + x.toNat; omega)
  · rw [show (M.mk t x.toNat).n - n0 = M.n - n0 + 1 by show M.n + 1 - n0 = _; omega, show (M.mk t x.toNat).z - z0 = M.z - z0 + x.toNat by show M.z + x.toNat - z0 = _; omega] at k2
    exact k2
  · have eK0 : (M.mk t x.toNat).K M.n = (t, x.toNat) := if_pos rfl
    have eV : (M.mk t x.toNat).V M.n = fun _ => 0 := if_pos rfl
    have eR : (M.mk t x.toNat).R M.n = fun _ => none := if_pos rfl
    unfold ck_at1
    rw [eK0, eV, eR, if_neg (by show ¬ t < 17; omega)]
    have het : ck_et t = 4 := by rcases ck_et_of (t := t) (n := 0) (by omega) with ⟨h, -⟩ | ⟨-, h⟩ | ⟨h, -⟩ <;> first | exact h | omega
    show H1[_]? = some (arrV (dA t) x.toNat fun k => ck_fv _ (ck_et t) 0 none)
    rw [het]
    exact e1
theorem ck_s_alen (hx : p.tables.exec = Jvm.exec) (hb : c.code = cc) (g : ck_G0 s0 D dA sa SM a0) (hW : s0.WarmedH s.vm) (hts : ∀ w ∈ lw_all, w.before args s = true) (hown : s.vm.findClass own = some m.cls) {i : Nat} (hi : 100 ≤ (M.K i).1) (hi2 : (M.K i).1 ≠ 999) (hdg : decode cc pc = .ok (.arraylength, 1)) (k1 : ck_WW p lc e R s m args below meth c Q s0 D dA sa SM n0 z0 nL  (pc + 1) l (vi ((M.K i).2 : Int) :: st) M) : ck_WW p lc e R s m args below meth c Q s0 D dA sa SM n0 z0 nL  (pc) l (vr (some i) :: st) M := by
  intro H locs ls hR hq hL hlen hn hz
  obtain ⟨cell, b1, b2, b3, b4, b5, b6, b7, b8⟩ := ck_arr g hW hR hi hi2
  exact W.alen (n := Int32.ofInt ((M.K i).2 : Int)) hx hb b1 b2 (by rw [b5]; rfl) rfl rfl hdg (k1 H locs ls hR hq hL hlen hn hz)
theorem ck_s_iald (hx : p.tables.exec = Jvm.exec) (hb : c.code = cc) (g : ck_G0 s0 D dA sa SM a0) (hW : s0.WarmedH s.vm) (hts : ∀ w ∈ lw_all, w.before args s = true) (hown : s.vm.findClass own = some m.cls) {i j : Nat} {x : Int} (hi : (M.K i).1 = 100) (hxj : x = (j : Int)) (hj : j < (M.K i).2) (hdg : decode cc pc = .ok (.iaload, 1)) (k1 : ck_WW p lc e R s m args below meth c Q s0 D dA sa SM n0 z0 nL  (pc + 1) l (vi (M.V i j) :: st) M) : ck_WW p lc e R s m args below meth c Q s0 D dA sa SM n0 z0 nL  (pc) l (vi x :: vr (some i) :: st) M := by
  intro H locs ls hR hq hL hlen hn hz
  obtain ⟨cell, b1, b2, b3, b4, b5, b6, b7, b8⟩ := ck_arr g hW hR (i := i) (by omega) (by omega)
  rw [hi] at b2 b7
  obtain ⟨w1, w2⟩ := ck_i_clamp hxj hj b6
  exact W.iald hx hb b1 b2 b3 (by rw [w2]; intro q; rcases q with q | q; exact w1 (Or.inl q); omega) (by rw [w2]; exact b7 j hj) rfl rfl hdg (k1 H locs ls hR hq hL hlen hn hz)
theorem ck_s_bald (hx : p.tables.exec = Jvm.exec) (hb : c.code = cc) (g : ck_G0 s0 D dA sa SM a0) (hW : s0.WarmedH s.vm) (hts : ∀ w ∈ lw_all, w.before args s = true) (hown : s.vm.findClass own = some m.cls) {i j : Nat} {x : Int} (hi : (M.K i).1 = 101) (hxj : x = (j : Int)) (hj : j < (M.K i).2) (hdg : decode cc pc = .ok (.baload, 1)) (k1 : ck_WW p lc e R s m args below meth c Q s0 D dA sa SM n0 z0 nL  (pc + 1) l (vi (M.V i j) :: st) M) : ck_WW p lc e R s m args below meth c Q s0 D dA sa SM n0 z0 nL  (pc) l (vi x :: vr (some i) :: st) M := by
  intro H locs ls hR hq hL hlen hn hz
  obtain ⟨cell, b1, b2, b3, b4, b5, b6, b7, b8⟩ := ck_arr g hW hR (i := i) (by omega) (by omega)
  rw [hi] at b2 b7
  obtain ⟨w1, w2⟩ := ck_i_clamp hxj hj b6
  exact W.bald hx hb b1 b2 b3 (by rw [w2]; intro q; rcases q with q | q; exact w1 (Or.inl q); omega) (by rw [w2]; exact b7 j hj) rfl rfl hdg (k1 H locs ls hR hq hL hlen hn hz)
theorem ck_s_zald (hx : p.tables.exec = Jvm.exec) (hb : c.code = cc) (g : ck_G0 s0 D dA sa SM a0) (hW : s0.WarmedH s.vm) (hts : ∀ w ∈ lw_all, w.before args s = true) (hown : s.vm.findClass own = some m.cls) {i j : Nat} {x : Int} (hi : (M.K i).1 = 102) (hxj : x = (j : Int)) (hj : j < (M.K i).2) (hdg : decode cc pc = .ok (.baload, 1)) (k1 : ck_WW p lc e R s m args below meth c Q s0 D dA sa SM n0 z0 nL  (pc + 1) l (vi (M.V i j) :: st) M) : ck_WW p lc e R s m args below meth c Q s0 D dA sa SM n0 z0 nL  (pc) l (vi x :: vr (some i) :: st) M := by
  intro H locs ls hR hq hL hlen hn hz
  obtain ⟨cell, b1, b2, b3, b4, b5, b6, b7, b8⟩ := ck_arr g hW hR (i := i) (by omega) (by omega)
  rw [hi] at b2 b7
  obtain ⟨w1, w2⟩ := ck_i_clamp hxj hj b6
  exact W.zald hx hb b1 b2 b3 (by rw [w2]; intro q; rcases q with q | q; exact w1 (Or.inl q); omega) (by rw [w2]; exact b7 j hj) rfl rfl hdg (k1 H locs ls hR hq hL hlen hn hz)
theorem ck_s_lald (hx : p.tables.exec = Jvm.exec) (hb : c.code = cc) (g : ck_G0 s0 D dA sa SM a0) (hW : s0.WarmedH s.vm) (hts : ∀ w ∈ lw_all, w.before args s = true) (hown : s.vm.findClass own = some m.cls) {i j : Nat} {x : Int} (hi : (M.K i).1 = 103) (hxj : x = (j : Int)) (hj : j < (M.K i).2) (hdg : decode cc pc = .ok (.laload, 1)) (k1 : ck_WW p lc e R s m args below meth c Q s0 D dA sa SM n0 z0 nL  (pc + 1) l (vl (M.V i j) :: st) M) : ck_WW p lc e R s m args below meth c Q s0 D dA sa SM n0 z0 nL  (pc) l (vi x :: vr (some i) :: st) M := by
  intro H locs ls hR hq hL hlen hn hz
  obtain ⟨cell, b1, b2, b3, b4, b5, b6, b7, b8⟩ := ck_arr g hW hR (i := i) (by omega) (by omega)
  rw [hi] at b2 b7
  obtain ⟨w1, w2⟩ := ck_i_clamp hxj hj b6
  exact W.lald hx hb b1 b2 b3 (by rw [w2]; intro q; rcases q with q | q; exact w1 (Or.inl q); omega) (by rw [w2]; exact b7 j hj) rfl rfl hdg (k1 H locs ls hR hq hL hlen hn hz)
theorem ck_s_aald (hx : p.tables.exec = Jvm.exec) (hb : c.code = cc) (g : ck_G0 s0 D dA sa SM a0) (hW : s0.WarmedH s.vm) (hts : ∀ w ∈ lw_all, w.before args s = true) (hown : s.vm.findClass own = some m.cls) {i j : Nat} {x : Int} (hi : 104 ≤ (M.K i).1) (hi2 : (M.K i).1 ≠ 999) (hxj : x = (j : Int)) (hj : j < (M.K i).2) (hdg : decode cc pc = .ok (.aaload, 1)) (k1 : ck_WW p lc e R s m args below meth c Q s0 D dA sa SM n0 z0 nL  (pc + 1) l (vr (M.R i j) :: st) M) : ck_WW p lc e R s m args below meth c Q s0 D dA sa SM n0 z0 nL  (pc) l (vi x :: vr (some i) :: st) M := by
  intro H locs ls hR hq hL hlen hn hz
  obtain ⟨cell, b1, b2, b3, b4, b5, b6, b7, b8⟩ := ck_arr g hW hR (i := i) (by omega) hi2
  obtain ⟨w1, w2⟩ := ck_i_clamp hxj hj b6
  have het : ck_et (M.K i).1 = 4 := by rcases ck_et_of (t := (M.K i).1) (n := 0) (by omega) with ⟨h, -⟩ | ⟨-, h⟩ | ⟨h, -⟩ <;> first | exact h | omega
  rw [het] at b7
  exact W.aald hx hb b1 b2 (ck_aty_ref hi) b3 (by rw [w2]; intro q; rcases q with q | q; exact w1 (Or.inl q); omega) (by rw [w2]; exact b7 j hj) rfl rfl hdg (k1 H locs ls hR hq hL hlen hn hz)
theorem ck_u2_self {α : Type} (f : Nat → Nat → α) (i k : Nat) (v : α) : ck_u2 f i k v i k = v := by unfold ck_u2; rw [if_pos rfl, if_pos rfl]
theorem ck_u2_ne {α : Type} (f : Nat → Nat → α) (i k j : Nat) (v : α) (h : j ≠ k) : ck_u2 f i k v i j = f i j := by unfold ck_u2; rw [if_pos rfl, if_neg h]
theorem ck_u2_row {α : Type} (f : Nat → Nat → α) (i k j : Nat) (v : α) (h : j ≠ i) : ck_u2 f i k v j = f j := by funext b; unfold ck_u2; rw [if_neg h]
theorem ck_s_iast (hx : p.tables.exec = Jvm.exec) (hb : c.code = cc) (g : ck_G0 s0 D dA sa SM a0) (hW : s0.WarmedH s.vm) (hts : ∀ w ∈ lw_all, w.before args s = true) (hown : s.vm.findClass own = some m.cls) {i j : Nat} {x v : Int} (hi : (M.K i).1 = 100) (h50 : 50 ≤ i) (hxj : x = (j : Int)) (hj : j < (M.K i).2) (hdg : decode cc pc = .ok (.iastore, 1)) (k1 : ck_WW p lc e R s m args below meth c Q s0 D dA sa SM n0 z0 nL  (pc + 1) l st (M.sV i j v)) : ck_WW p lc e R s m args below meth c Q s0 D dA sa SM n0 z0 nL  (pc) l (vi v :: vi x :: vr (some i) :: st) M := by
  intro H locs ls hR hq hL hlen hn hz
  obtain ⟨cell, b1, b2, b3, b4, b5, b6, b7, b8⟩ := ck_arr g hW hR (i := i) (by omega) (by omega)
  obtain ⟨c1, c2, c3⟩ := b8 h50
  rw [hi] at b2 b7 c3
  obtain ⟨w1, w2⟩ := ck_i_clamp hxj hj b6
  have fin : ∀ H1 : Heap, H1[ck_ad s0 sa i]? = some (cell.setSlot (Int32.ofInt x).toNatClampNeg (.int (Int32.ofInt v))) → H1.size = H.size → (∀ q, q ≠ ck_ad s0 sa i → H1[q]? = H[q]?) → W p lc e R s m args below meth c H1 (locs ++ [⟨ck_ad s0 sa i, (Int32.ofInt x).toNatClampNeg⟩]) (M.n - n0) (M.z - z0) Q (F0 m (pc + 1) ls (st.map (ck_sv (ck_ad s0 sa)))) := by
    intro H1 e1 e2 e3
    refine k1 H1 _ ls (hR.upd h50 c1 rfl rfl (fun j hj => ⟨ck_u2_row _ _ _ _ _ hj, rfl⟩) e2 e3 ?_) ?_ hL hlen hn hz
    · unfold ck_at1
      rw [show (M.sV i j v).K = M.K from rfl, hi, if_neg (by omega), e1, w2, c3, arrV_store]
      congr 2
      funext q
      unfold updV
      by_cases hqj : q = j
      · subst hqj
        rw [if_pos rfl]
        show _ = ck_fv _ _ (ck_u2 M.V i q v i q) _
        rw [ck_u2_self]
        rfl
      · rw [if_neg hqj]
        show _ = ck_fv _ _ (ck_u2 M.V i j v i q) _
        rw [ck_u2_ne _ _ _ _ _ hqj]
        rfl
    · intro z hz
      rcases List.mem_append.mp hz with h | h
      · exact hq z h
      · rw [List.mem_singleton.mp h]
        show s0.heap.size ≤ ck_ad s0 sa i
        rw [ck_ad_ge h50]; omega
  exact W.iast hx hb b1 b2 b3 (by rw [w2]; intro q; rcases q with q | q; exact w1 (Or.inl q); omega) rfl rfl hdg fin
theorem ck_s_bast (hx : p.tables.exec = Jvm.exec) (hb : c.code = cc) (g : ck_G0 s0 D dA sa SM a0) (hW : s0.WarmedH s.vm) (hts : ∀ w ∈ lw_all, w.before args s = true) (hown : s.vm.findClass own = some m.cls) {i j : Nat} {x v : Int} (hv : -128 ≤ v ∧ v < 128) (hi : (M.K i).1 = 101) (h50 : 50 ≤ i) (hxj : x = (j : Int)) (hj : j < (M.K i).2) (hdg : decode cc pc = .ok (.bastore, 1)) (k1 : ck_WW p lc e R s m args below meth c Q s0 D dA sa SM n0 z0 nL  (pc + 1) l st (M.sV i j v)) : ck_WW p lc e R s m args below meth c Q s0 D dA sa SM n0 z0 nL  (pc) l (vi v :: vi x :: vr (some i) :: st) M := by
  intro H locs ls hR hq hL hlen hn hz
  obtain ⟨cell, b1, b2, b3, b4, b5, b6, b7, b8⟩ := ck_arr g hW hR (i := i) (by omega) (by omega)
  obtain ⟨c1, c2, c3⟩ := b8 h50
  rw [hi] at b2 b7 c3
  obtain ⟨w1, w2⟩ := ck_i_clamp hxj hj b6
  have fin : ∀ H1 : Heap, H1[ck_ad s0 sa i]? = some (cell.setSlot (Int32.ofInt x).toNatClampNeg (.int (Int32.ofInt v))) → H1.size = H.size → (∀ q, q ≠ ck_ad s0 sa i → H1[q]? = H[q]?) → W p lc e R s m args below meth c H1 (locs ++ [⟨ck_ad s0 sa i, (Int32.ofInt x).toNatClampNeg⟩]) (M.n - n0) (M.z - z0) Q (F0 m (pc + 1) ls (st.map (ck_sv (ck_ad s0 sa)))) := by
    intro H1 e1 e2 e3
    refine k1 H1 _ ls (hR.upd h50 c1 rfl rfl (fun j hj => ⟨ck_u2_row _ _ _ _ _ hj, rfl⟩) e2 e3 ?_) ?_ hL hlen hn hz
    · unfold ck_at1
      rw [show (M.sV i j v).K = M.K from rfl, hi, if_neg (by omega), e1, w2, c3, arrV_store]
      congr 2
      funext q
      unfold updV
      by_cases hqj : q = j
      · subst hqj
        rw [if_pos rfl]
        show _ = ck_fv _ _ (ck_u2 M.V i q v i q) _
        rw [ck_u2_self]
        rfl
      · rw [if_neg hqj]
        show _ = ck_fv _ _ (ck_u2 M.V i j v i q) _
        rw [ck_u2_ne _ _ _ _ _ hqj]
        rfl
    · intro z hz
      rcases List.mem_append.mp hz with h | h
      · exact hq z h
      · rw [List.mem_singleton.mp h]
        show s0.heap.size ≤ ck_ad s0 sa i
        rw [ck_ad_ge h50]; omega
  rw [← ck_nb hv] at fin
  exact W.bast hx hb b1 b2 b3 (by rw [w2]; intro q; rcases q with q | q; exact w1 (Or.inl q); omega) rfl rfl hdg fin
theorem ck_s_zast (hx : p.tables.exec = Jvm.exec) (hb : c.code = cc) (g : ck_G0 s0 D dA sa SM a0) (hW : s0.WarmedH s.vm) (hts : ∀ w ∈ lw_all, w.before args s = true) (hown : s.vm.findClass own = some m.cls) {i j : Nat} {x v : Int} (hv : 0 ≤ v ∧ v < 2) (hi : (M.K i).1 = 102) (h50 : 50 ≤ i) (hxj : x = (j : Int)) (hj : j < (M.K i).2) (hdg : decode cc pc = .ok (.bastore, 1)) (k1 : ck_WW p lc e R s m args below meth c Q s0 D dA sa SM n0 z0 nL  (pc + 1) l st (M.sV i j v)) : ck_WW p lc e R s m args below meth c Q s0 D dA sa SM n0 z0 nL  (pc) l (vi v :: vi x :: vr (some i) :: st) M := by
  intro H locs ls hR hq hL hlen hn hz
  obtain ⟨cell, b1, b2, b3, b4, b5, b6, b7, b8⟩ := ck_arr g hW hR (i := i) (by omega) (by omega)
  obtain ⟨c1, c2, c3⟩ := b8 h50
  rw [hi] at b2 b7 c3
  obtain ⟨w1, w2⟩ := ck_i_clamp hxj hj b6
  have fin : ∀ H1 : Heap, H1[ck_ad s0 sa i]? = some (cell.setSlot (Int32.ofInt x).toNatClampNeg (.int (Int32.ofInt v))) → H1.size = H.size → (∀ q, q ≠ ck_ad s0 sa i → H1[q]? = H[q]?) → W p lc e R s m args below meth c H1 (locs ++ [⟨ck_ad s0 sa i, (Int32.ofInt x).toNatClampNeg⟩]) (M.n - n0) (M.z - z0) Q (F0 m (pc + 1) ls (st.map (ck_sv (ck_ad s0 sa)))) := by
    intro H1 e1 e2 e3
    refine k1 H1 _ ls (hR.upd h50 c1 rfl rfl (fun j hj => ⟨ck_u2_row _ _ _ _ _ hj, rfl⟩) e2 e3 ?_) ?_ hL hlen hn hz
    · unfold ck_at1
      rw [show (M.sV i j v).K = M.K from rfl, hi, if_neg (by omega), e1, w2, c3, arrV_store]
      congr 2
      funext q
      unfold updV
      by_cases hqj : q = j
      · subst hqj
        rw [if_pos rfl]
        show _ = ck_fv _ _ (ck_u2 M.V i q v i q) _
        rw [ck_u2_self]
        rfl
      · rw [if_neg hqj]
        show _ = ck_fv _ _ (ck_u2 M.V i j v i q) _
        rw [ck_u2_ne _ _ _ _ _ hqj]
        rfl
    · intro z hz
      rcases List.mem_append.mp hz with h | h
      · exact hq z h
      · rw [List.mem_singleton.mp h]
        show s0.heap.size ≤ ck_ad s0 sa i
        rw [ck_ad_ge h50]; omega
  rw [← ck_nz hv] at fin
  exact W.zast hx hb b1 b2 b3 (by rw [w2]; intro q; rcases q with q | q; exact w1 (Or.inl q); omega) rfl rfl hdg fin
theorem ck_s_last (hx : p.tables.exec = Jvm.exec) (hb : c.code = cc) (g : ck_G0 s0 D dA sa SM a0) (hW : s0.WarmedH s.vm) (hts : ∀ w ∈ lw_all, w.before args s = true) (hown : s.vm.findClass own = some m.cls) {i j : Nat} {x v : Int} (hi : (M.K i).1 = 103) (h50 : 50 ≤ i) (hxj : x = (j : Int)) (hj : j < (M.K i).2) (hdg : decode cc pc = .ok (.lastore, 1)) (k1 : ck_WW p lc e R s m args below meth c Q s0 D dA sa SM n0 z0 nL  (pc + 1) l st (M.sV i j v)) : ck_WW p lc e R s m args below meth c Q s0 D dA sa SM n0 z0 nL  (pc) l (vl v :: vi x :: vr (some i) :: st) M := by
  intro H locs ls hR hq hL hlen hn hz
  obtain ⟨cell, b1, b2, b3, b4, b5, b6, b7, b8⟩ := ck_arr g hW hR (i := i) (by omega) (by omega)
  obtain ⟨c1, c2, c3⟩ := b8 h50
  rw [hi] at b2 b7 c3
  obtain ⟨w1, w2⟩ := ck_i_clamp hxj hj b6
  have fin : ∀ H1 : Heap, H1[ck_ad s0 sa i]? = some (cell.setSlot (Int32.ofInt x).toNatClampNeg (.long (Int64.ofInt v))) → H1.size = H.size → (∀ q, q ≠ ck_ad s0 sa i → H1[q]? = H[q]?) → W p lc e R s m args below meth c H1 (locs ++ [⟨ck_ad s0 sa i, (Int32.ofInt x).toNatClampNeg⟩]) (M.n - n0) (M.z - z0) Q (F0 m (pc + 1) ls (st.map (ck_sv (ck_ad s0 sa)))) := by
    intro H1 e1 e2 e3
    refine k1 H1 _ ls (hR.upd h50 c1 rfl rfl (fun j hj => ⟨ck_u2_row _ _ _ _ _ hj, rfl⟩) e2 e3 ?_) ?_ hL hlen hn hz
    · unfold ck_at1
      rw [show (M.sV i j v).K = M.K from rfl, hi, if_neg (by omega), e1, w2, c3, arrV_store]
      congr 2
      funext q
      unfold updV
      by_cases hqj : q = j
      · subst hqj
        rw [if_pos rfl]
        show _ = ck_fv _ _ (ck_u2 M.V i q v i q) _
        rw [ck_u2_self]
        rfl
      · rw [if_neg hqj]
        show _ = ck_fv _ _ (ck_u2 M.V i j v i q) _
        rw [ck_u2_ne _ _ _ _ _ hqj]
        rfl
    · intro z hz
      rcases List.mem_append.mp hz with h | h
      · exact hq z h
      · rw [List.mem_singleton.mp h]
        show s0.heap.size ≤ ck_ad s0 sa i
        rw [ck_ad_ge h50]; omega
  exact W.last hx hb b1 b2 b3 (by rw [w2]; intro q; rcases q with q | q; exact w1 (Or.inl q); omega) rfl rfl hdg fin
theorem ck_s_aast (hx : p.tables.exec = Jvm.exec) (hb : c.code = cc) (g : ck_G0 s0 D dA sa SM a0) (hW : s0.WarmedH s.vm) (hts : ∀ w ∈ lw_all, w.before args s = true) (hown : s.vm.findClass own = some m.cls) {i j w : Nat} {x : Int} {C : String} (hi : 104 ≤ (M.K i).1) (hi6 : (M.K i).1 ≤ 106) (h50 : 50 ≤ i) (hxj : x = (j : Int)) (hj : j < (M.K i).2) (hw : (M.K w).1 < 17) (hC : ck_aty (M.K i).1 = .object C) (hca : ∀ r : vw_C, ck_CL[(M.K w).1]? = some r → r.1 = C ∨ Cond.castable r.1 C ∈ lw_tbl) (hdg : decode cc pc = .ok (.aastore, 1)) (k1 : ck_WW p lc e R s m args below meth c Q s0 D dA sa SM n0 z0 nL  (pc + 1) l st (M.sR i j (some w))) : ck_WW p lc e R s m args below meth c Q s0 D dA sa SM n0 z0 nL  (pc) l (vr (some w) :: vi x :: vr (some i) :: st) M := by
  intro H locs ls hR hq hL hlen hn hz
  obtain ⟨cell, b1, b2, b3, b4, b5, b6, b7, b8⟩ := ck_arr g hW hR (i := i) (by omega) (by omega)
  obtain ⟨c1, c2, c3⟩ := b8 h50
  obtain ⟨w1, w2⟩ := ck_i_clamp hxj hj b6
  obtain ⟨hw50, hwn, r, u1, cellV, u2, u3, u4, -⟩ := ck_obj hR g hw
  have hK := g.K hW
  have hcls := (hK.1 _ r u1).2
  obtain ⟨k9, hk9⟩ := ck_tys_ok (dA := dA) (t := (M.K i).1) (by omega) (by omega)
  have hRA := (hK.2 k9 _ hk9).2
  rw [show (dA (M.K i).1, ck_aty (M.K i).1).2 = FieldType.object C from hC] at hRA
  obtain ⟨kA, comp, a1, a2, a3, a4⟩ := hRA
  obtain ⟨kC, hkC, hkind⟩ := hcls.2
  have hasg : s.vm.assignable (D.1 (M.K w).1) comp = true := by
    rcases hca r u1 with h | h
    · rw [h] at hcls
      have : comp = D.1 (M.K w).1 := Option.some.inj (a3.symm.trans hcls.1)
      rw [this]; exact va_assign hcls
    · obtain ⟨q1, q2, z1, z2, z3⟩ := Cond.castable_spec (va_Nw.use (A := args) rfl (va_Nw.warmC hW (va_Nw.of rfl (g.2.1 _ h))))
      have e1 : q1 = D.1 (M.K w).1 := Option.some.inj (z1.symm.trans hcls.1)
      have e2 : q2 = comp := Option.some.inj (z2.symm.trans a3)
      rw [← e1, ← e2]; exact z3
  have hcomp : ∃ kcomp, s.vm.classes[comp]? = some kcomp := by
    obtain ⟨k9, h9, -⟩ := Vm.findClass_spec a3; exact ⟨k9, h9⟩
  obtain ⟨kcomp, hkcomp⟩ := hcomp
  have het : ck_et (M.K i).1 = 4 := by rcases ck_et_of (t := (M.K i).1) (n := 0) (by omega) with ⟨h, -⟩ | ⟨-, h⟩ | ⟨h, -⟩ <;> first | exact h | omega
  refine W.aast hx hb b1 (by rw [c3]; exact fun q h => by cases h) b3 (by rw [c3]; exact a1) a2 rfl hkcomp ⟨fun q => w1 (Or.inl q), by rw [w2]; omega⟩ u2 (fun q h => by rw [u4] at h; cases h) (by rw [u3]; exact hkC) (by rw [u3]; exact hasg) rfl rfl hdg fun H1 e1 e2 e3 => ?_
  refine k1 H1 _ ls (hR.upd h50 c1 rfl rfl (fun j hj => ⟨rfl, ck_u2_row _ _ _ _ _ hj⟩) e2 e3 ?_) ?_ hL hlen hn hz
  · unfold ck_at1
    rw [show (M.sR i j (some w)).K = M.K from rfl, if_neg (by omega), e1, w2, c3, arrV_store, het]
    congr 2
    funext q
    unfold updV
    by_cases hqj : q = j
    · subst hqj
      rw [if_pos rfl]
      show _ = ck_fv _ _ _ (ck_u2 M.R i q (some w) i q)
      rw [ck_u2_self]
      rfl
    · rw [if_neg hqj]
      show _ = ck_fv _ _ _ (ck_u2 M.R i j (some w) i q)
      rw [ck_u2_ne _ _ _ _ _ hqj]
      rfl
  · intro z hz
    rcases List.mem_append.mp hz with h | h
    · exact hq z h
    · rw [List.mem_singleton.mp h]
      show s0.heap.size ≤ ck_ad s0 sa i
      rw [ck_ad_ge h50]; omega
theorem ck_s_cast (hx : p.tables.exec = Jvm.exec) (hb : c.code = cc) (g : ck_G0 s0 D dA sa SM a0) (hW : s0.WarmedH s.vm) (hts : ∀ w ∈ lw_all, w.before args s = true) (hown : s.vm.findClass own = some m.cls) {k i cn N : Nat} {C : String} {T : u_T} {tf : Nat → FieldType} (hC : ck_Cls cn C T N tf) (hl : Cond.classLink own k C ∈ lw_all) (hi : (M.K i).1 = cn) (hc : cn < 17) (hdg : decode cc pc = .ok (.checkcast k, 3)) (k1 : ck_WW p lc e R s m args below meth c Q s0 D dA sa SM n0 z0 nL  (pc + 3) l (vr (some i) :: st) M) : ck_WW p lc e R s m args below meth c Q s0 D dA sa SM n0 z0 nL  (pc) l (vr (some i) :: st) M := by
  intro H locs ls hR hq hL hlen hn hz
  obtain ⟨c1, -⟩ := hC
  subst hi
  obtain ⟨h50, hin, r, q1, cell, q2, q3, q4, q5⟩ := ck_obj hR g hc
  have hr : r = (C, T, N) := Option.some.inj (q1.symm.trans c1)
  subst hr
  exact va_castE hx hb hown (hts _ hl) ⟨cell, q2, by rw [q4]; rfl, by rw [q3]; exact ((g.K hW).1 _ _ c1).2.1⟩ hdg (k1 H locs ls hR hq hL hlen hn hz)
end CkSteps2
