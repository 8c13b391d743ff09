/-! FROM A RUN OF THE EVALUATOR TO THE LAW'S END -/
theorem ck_nots {l : Launch} (hf : l.flags = flags0) : l.stackTraces = false := by
  show l.stackTraces = false
  unfold Launch.stackTraces
  rw [hf]
  decide +kernel
theorem ck_whole {p : Program} {e : Env} {s : State} {m : MethodId} {below : List Frame} {meth : Method} {c : Code} (l : Launch) (hflags : l.flags = flags0) {b L : Nat} {xs : Nat → Int32} (C0 : lw_At p s m meth c b L xs)
    {D : va_G} {dA : Nat → ClassId} {sa : Nat → Nat} {SM : ck_M} (g : ck_G0 s D dA sa SM #[Value.ref b]) (hsb : sa 2 = b) (hn : SM.n = 50) (hz : SM.z = 0) (hR : ck_Rl s D dA sa SM SM s.heap)
    {f d : Nat} {Mf : ck_M} (hd : d ≤ 1500) (hev : ck_ev ck_mt f d m_L_law 0 (ck_ent 4 [vr (some 2)]) [] SM = some (.inl (some (vi 1)), Mf)) (hc : Mf.n ≤ 1200178) (hs : Mf.z ≤ 5501098) :
    W p l e room_1 s m #[Value.ref b] below meth c s.heap [] 0 0 (lw_Z below #[Value.ref b] s) (entryFrame m ([Value.ref b] : List Value).toArray 4) := by
  obtain ⟨hx, hb, hr, hml, hown, hts, hX, hbl, hlocks, hgv⟩ := C0
  have had : ck_ad s sa 2 = b := by rw [ck_ad_lt (by decide)]; exact hsb
  obtain ⟨ls, hent, hL⟩ := ck_entry (ad := ck_ad s sa) (mL := 4) (as := [vr (some 2)]) (fun a ha => by rw [List.mem_singleton.mp ha]; simp) (by decide) m
  have hargs : ([vr (some 2)].map (ck_sv (ck_ad s sa))) = [Value.ref b] := by
    show [Value.ref (ck_ad s sa 2)] = _
    rw [had]
  rw [hargs] at hent
  rw [hent]
  have w := ck_snd g ck_tt f (p := p) (lc := l) (e := e) (R := room_1) (s := s) (m := m) (args := #[Value.ref b]) (below := below) (meth := meth) (c := c) (Q := lw_Z below #[Value.ref b] s) (n0 := 50) (z0 := 0) mok_L_law hx hb hml hown
    (fun w hw => hts w (lw_all_tbl hw)) (State.WarmedH.refl s) (d := d) (by show d + 8 ≤ 8192; omega) (by show 64 * d + 256 ≤ 100000; omega) (fun q _ => rfl) (fun q => by cases q) (Or.inl rfl) (ck_nots hflags) (o := .inl (some (vi 1))) (Mf := Mf) (by show Mf.n - 50 ≤ 1200128; omega) (by show Mf.z - 0 ≤ 5501098; omega)
    (fun v hv H locs ls pc hrt hR' hq => by
      cases hv
      refine va_forget hq (W.widen (k := 1200128) (n := 5501098) (by omega) (by omega) ?_)
      rcases hrt with ⟨h, -⟩ | ⟨x, h, hdg, -⟩ | ⟨x, h, -⟩ | ⟨x, h, -⟩
      · cases h
      · cases h
        exact lw_ret hx hb hr hlocks hdg
      · cases h
      · cases h)
    (fun i hi => by cases hi) 0 _ [] SM hev s.heap [] ls hR (fun q hq => by cases hq) hL rfl (by rw [hn]; exact Nat.le_refl _) (by omega)
  rw [hn, hz] at w
  exact w
