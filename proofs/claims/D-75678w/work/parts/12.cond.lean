/-! THE CONDITIONS SUFFICE -/
section CkVc
variable (T : Nat → ck_D)
abbrev ck_F : Type := Nat → ck_Z
abbrev ck_fi (c : Prop) (h : Decidable c) (a b : ck_F) : ck_F := fun f => ck_oi c h (a f) (b f)
abbrev ck_fq (c : Prop) (h : Decidable c) (a : ck_F) : ck_F := fun f => ck_oq c h (a f)
abbrev ck_fx (x : Int) (n : Nat) (k : Nat → ck_F) : ck_F := fun f => ck_ox x n (fun j => k j f)
abbrev ck_fd (r : Option Nat) (k : Nat → ck_F) : ck_F := fun f => ck_od r (fun i => k i f)
theorem ck_g_nxt {d : Nat} {D : ck_D} {Q : ck_O → ck_M → Prop} {p : Prop} {pc : Nat} {l st : List ck_A} {M : ck_M} (h : p → ck_W T d D Q pc l st M) : ck_g Q p (fun f => ck_ev T f d D pc l st M) := fun hp => ck_W.ev T (h hp)
theorem ck_g_thr {d : Nat} {D : ck_D} {Q : ck_O → ck_M → Prop} {k : Nat → List ck_A → List ck_A → ck_M → Prop} (h : ∀ pc l st M, k pc l st M → ck_W T d D Q pc l st M) (pc i : Nat) (l : List ck_A) (M : ck_M) :
    ck_g Q (ck_pt k Q D pc i l M) (fun f => ck_ot (fun pc l st M => ck_ev T f d D pc l st M) D pc i l M) := by
  intro hp
  unfold ck_pt at hp
  unfold ck_ot
  cases e : ck_hd D.2.2.2.2.2 pc with
  | none =>
    rw [e] at hp
    cases e2 : D.2.2.2.2.2 with
    | nil => rw [e2] at hp; exact ⟨0, _, fun _ _ => rfl, hp⟩
    | cons a b => rw [e2] at hp; exact hp.elim
  | some t => rw [e] at hp; exact ck_W.ev T (h _ _ _ _ hp)
theorem ck_g_cal {d : Nat} {D : ck_D} {Q : ck_O → ck_M → Prop} {k : Nat → List ck_A → List ck_A → ck_M → Prop} (h : ∀ pc l st M, k pc l st M → ck_W T d D Q pc l st M) (pc nx : Nat) (e : ck_E) (as l st : List ck_A) (M : ck_M) :
    ck_g Q (ck_cal False ck_pq ck_pn ck_pd (fun y as M => ck_C T d (T y) as M (fun v M => k nx l (ck_push v st) M) (fun i M => ck_pt k Q D pc i l M)) (fun y as M => ck_C T d (T y) as M (fun v M => k nx l (ck_push v st) M) (fun _ _ => False)) e as M (fun v M => k nx l (ck_push v st) M))
      (fun f => ck_cal none ck_oq (fun x k => k x) ck_od (fun y as M => ck_dn (T y).2.2.1 as d fun d' => ck_ob (ck_ev T f d' (T y) 0 (ck_ent (T y).2.2.1 as) [] M) (fun v M => ck_ev T f d D nx l (ck_push v st) M) (fun i M => ck_ot (fun pc l st M => ck_ev T f d D pc l st M) D pc i l M)) (fun y as M => ck_dn (T y).2.2.1 as d fun d' => ck_ob (ck_ev T f d' (T y) 0 (ck_ent (T y).2.2.1 as) [] M) (fun v M => ck_ev T f d D nx l (ck_push v st) M) (fun _ _ => none)) e as M (fun v M => ck_ev T f d D nx l (ck_push v st) M)) := by
  have h1 : (fun f => ck_cal none ck_oq (fun x k => k x) ck_od (fun y as M => ck_dn (T y).2.2.1 as d fun d' => ck_ob (ck_ev T f d' (T y) 0 (ck_ent (T y).2.2.1 as) [] M) (fun v M => ck_ev T f d D nx l (ck_push v st) M) (fun i M => ck_ot (fun pc l st M => ck_ev T f d D pc l st M) D pc i l M)) (fun y as M => ck_dn (T y).2.2.1 as d fun d' => ck_ob (ck_ev T f d' (T y) 0 (ck_ent (T y).2.2.1 as) [] M) (fun v M => ck_ev T f d D nx l (ck_push v st) M) (fun _ _ => none)) e as M (fun v M => ck_ev T f d D nx l (ck_push v st) M)) =
      (ck_cal (α := ck_F) (fun _ => none) ck_fq (fun x k => k x) ck_fd (fun y as M f => ck_dn (T y).2.2.1 as d fun d' => ck_ob (ck_ev T f d' (T y) 0 (ck_ent (T y).2.2.1 as) [] M) (fun v M => ck_ev T f d D nx l (ck_push v st) M) (fun i M => ck_ot (fun pc l st M => ck_ev T f d D pc l st M) D pc i l M)) (fun y as M f => ck_dn (T y).2.2.1 as d fun d' => ck_ob (ck_ev T f d' (T y) 0 (ck_ent (T y).2.2.1 as) [] M) (fun v M => ck_ev T f d D nx l (ck_push v st) M) (fun _ _ => none)) e as M (fun v M f => ck_ev T f d D nx l (ck_push v st) M)) := by
    funext f
    refine ck_cal_rel (fun (a : ck_Z) (b : ck_F) => a = b f) (req := ck_oq) (req' := ck_fq) (nmm := fun x k => k x) (nmm' := fun x k => k x) (der := ck_od) (der' := ck_fd) (bad := (none : ck_Z)) (bad' := fun _ => none) (k' := fun v M f => ck_ev T f d D nx l (ck_push v st) M) rfl (fun c h a a' q => ?_) (fun x k k' q => q x rfl) (fun r k k' q => ?_) ?_ ?_ e as M ?_
    · by_cases hc : c
      · show ite c a none = ite c (a' f) none
        rw [if_pos hc, if_pos hc]; exact q hc
      · show ite c a none = ite c (a' f) none
        rw [if_neg hc, if_neg hc]
    · cases r with
      | none => rfl
      | some i => exact q i rfl
    · intro y as M; rfl
    · intro y as M; rfl
    · intro v M; rfl
  rw [h1]
  refine ck_cal_rel (ck_g Q) (req := ck_pq) (req' := ck_fq) (nmm := ck_pn) (nmm' := fun x k => k x) (der := ck_pd) (der' := ck_fd) (fun h => h.elim) (fun c h a a' q => ?_) (fun x k k' q => ?_) (fun r k k' q => ?_) (fun y as M => ?_) (fun y as M => ?_) e as M (fun v M => ck_g_nxt T (h _ _ _ _))
  · rintro ⟨hc, ha⟩
    obtain ⟨f0, r, h2, h3⟩ := q hc ha
    exact ⟨f0, r, fun f hf => by show ite c (a' f) none = _; rw [if_pos hc]; exact h2 f hf, h3⟩
  · exact fun hp => q x rfl hp
  · rintro ⟨i, hi, hp⟩
    subst hi
    exact q i rfl hp
  · rintro ⟨d', hd, hfit, hp⟩
    subst hd
    obtain ⟨f1, r1, h2, h3⟩ := ck_W.ev T hp
    obtain ⟨o, M'⟩ := r1
    rcases o with v | i
    · obtain ⟨f2, r2, h4, h5⟩ := ck_W.ev T (h _ _ _ _ h3)
      exact ⟨max f1 f2, r2, fun f hf => by show ck_dn _ _ _ _ = _; rw [ck_dn_at hfit, h2 f (by omega)]; exact h4 f (by omega), h5⟩
    · obtain ⟨f2, r2, h4, h5⟩ := ck_g_thr T h pc i l M' h3
      exact ⟨max f1 f2, r2, fun f hf => by show ck_dn _ _ _ _ = _; rw [ck_dn_at hfit, h2 f (by omega)]; exact h4 f (by omega), h5⟩
  · rintro ⟨d', hd, hfit, hp⟩
    subst hd
    obtain ⟨f1, r1, h2, h3⟩ := ck_W.ev T hp
    obtain ⟨o, M'⟩ := r1
    rcases o with v | i
    · obtain ⟨f2, r2, h4, h5⟩ := ck_W.ev T (h _ _ _ _ h3)
      exact ⟨max f1 f2, r2, fun f hf => by show ck_dn _ _ _ _ = _; rw [ck_dn_at hfit, h2 f (by omega)]; exact h4 f (by omega), h5⟩
    · exact h3.elim
theorem ck_g_stp {d : Nat} {D : ck_D} {Q : ck_O → ck_M → Prop} {k : Nat → List ck_A → List ck_A → ck_M → Prop} (h : ∀ pc l st M, k pc l st M → ck_W T d D Q pc l st M) (ins : Instr) (pc nx tg : Nat) (l st : List ck_A) (M : ck_M) :
    ck_g Q (ck_stp False ck_pi ck_pq ck_pn ck_pn ck_pn ck_px ck_pd k (fun e as nx l st M => ck_cal False ck_pq ck_pn ck_pd (fun y as M => ck_C T d (T y) as M (fun v M => k nx l (ck_push v st) M) (fun i M => ck_pt k Q D pc i l M)) (fun y as M => ck_C T d (T y) as M (fun v M => k nx l (ck_push v st) M) (fun _ _ => False)) e as M (fun v M => k nx l (ck_push v st) M)) (fun v M => Q (.inl v) M) (fun i l M => ck_pt k Q D pc i l M) D ins pc nx tg l st M)
      (fun f => ck_stp none ck_oi ck_oq (fun x k => k x) (fun x k => k x) (fun x k => k x) ck_ox ck_od (fun pc l st M => ck_ev T f d D pc l st M)
        (fun e as nx l st M => ck_cal none ck_oq (fun x k => k x) ck_od
          (fun y as M => ck_dn (T y).2.2.1 as d fun d' => ck_ob (ck_ev T f d' (T y) 0 (ck_ent (T y).2.2.1 as) [] M) (fun v M => ck_ev T f d D nx l (ck_push v st) M) (fun i M => ck_ot (fun pc l st M => ck_ev T f d D pc l st M) D pc i l M)) (fun y as M => ck_dn (T y).2.2.1 as d fun d' => ck_ob (ck_ev T f d' (T y) 0 (ck_ent (T y).2.2.1 as) [] M) (fun v M => ck_ev T f d D nx l (ck_push v st) M) (fun _ _ => none))
          e as M (fun v M => ck_ev T f d D nx l (ck_push v st) M))
        (fun v M => some (.inl v, M)) (fun i l M => ck_ot (fun pc l st M => ck_ev T f d D pc l st M) D pc i l M) D ins pc nx tg l st M) := by
  have h1 : (fun f => ck_stp none ck_oi ck_oq (fun x k => k x) (fun x k => k x) (fun x k => k x) ck_ox ck_od (fun pc l st M => ck_ev T f d D pc l st M)
        (fun e as nx l st M => ck_cal none ck_oq (fun x k => k x) ck_od
          (fun y as M => ck_dn (T y).2.2.1 as d fun d' => ck_ob (ck_ev T f d' (T y) 0 (ck_ent (T y).2.2.1 as) [] M) (fun v M => ck_ev T f d D nx l (ck_push v st) M) (fun i M => ck_ot (fun pc l st M => ck_ev T f d D pc l st M) D pc i l M)) (fun y as M => ck_dn (T y).2.2.1 as d fun d' => ck_ob (ck_ev T f d' (T y) 0 (ck_ent (T y).2.2.1 as) [] M) (fun v M => ck_ev T f d D nx l (ck_push v st) M) (fun _ _ => none))
          e as M (fun v M => ck_ev T f d D nx l (ck_push v st) M))
        (fun v M => some (.inl v, M)) (fun i l M => ck_ot (fun pc l st M => ck_ev T f d D pc l st M) D pc i l M) D ins pc nx tg l st M) =
      ck_stp (α := ck_F) (fun _ => none) ck_fi ck_fq (fun x k => k x) (fun x k => k x) (fun x k => k x) ck_fx ck_fd (fun pc l st M f => ck_ev T f d D pc l st M)
        (fun e as nx l st M f => ck_cal none ck_oq (fun x k => k x) ck_od
          (fun y as M => ck_dn (T y).2.2.1 as d fun d' => ck_ob (ck_ev T f d' (T y) 0 (ck_ent (T y).2.2.1 as) [] M) (fun v M => ck_ev T f d D nx l (ck_push v st) M) (fun i M => ck_ot (fun pc l st M => ck_ev T f d D pc l st M) D pc i l M)) (fun y as M => ck_dn (T y).2.2.1 as d fun d' => ck_ob (ck_ev T f d' (T y) 0 (ck_ent (T y).2.2.1 as) [] M) (fun v M => ck_ev T f d D nx l (ck_push v st) M) (fun _ _ => none))
          e as M (fun v M => ck_ev T f d D nx l (ck_push v st) M))
        (fun v M _ => some (.inl v, M)) (fun i l M f => ck_ot (fun pc l st M => ck_ev T f d D pc l st M) D pc i l M) D ins pc nx tg l st M := by
    funext f
    refine ck_stp_rel (fun (a : ck_Z) (b : ck_F) => a = b f) (ite := ck_oi) (ite' := ck_fi) (req := ck_oq) (req' := ck_fq) (nam := fun x k => k x) (nam' := fun x k => k x) (nar := fun x k => k x) (nar' := fun x k => k x) (nmm := fun x k => k x) (nmm' := fun x k => k x) (idx := ck_ox) (idx' := ck_fx) (der := ck_od) (der' := ck_fd)
      (bad := (none : ck_Z)) (bad' := fun _ => none) rfl (fun c h a b a' b' q1 q2 => ?_) (fun c h a a' q => ?_) (fun x k k' q => q x rfl) (fun x k k' q => q x rfl) (fun x k k' q => q x rfl) (fun x n k k' q => ?_) (fun r k k' q => ?_) ?_ ?_ ?_ ?_ D ins pc nx tg l st M
    · show ite c a b = ite c (a' f) (b' f)
      by_cases hc : c
      · rw [if_pos hc, if_pos hc]; exact q1 hc
      · rw [if_neg hc, if_neg hc]; exact q2 hc
    · show ite c a none = ite c (a' f) none
      by_cases hc : c
      · rw [if_pos hc, if_pos hc]; exact q hc
      · rw [if_neg hc, if_neg hc]
    · show ite (0 ≤ x ∧ x < n) (k x.toNat) none = ite (0 ≤ x ∧ x < n) (k' x.toNat f) none
      by_cases hc : 0 ≤ x ∧ x < n
      · rw [if_pos hc, if_pos hc]; exact q _ (by omega) (by omega)
      · rw [if_neg hc, if_neg hc]
    · cases r with
      | none => rfl
      | some i => exact q i rfl
    · intro pc l st M; rfl
    · intro e as nx l st M; rfl
    · intro v M; rfl
    · intro i l M; rfl
  rw [h1]
  refine ck_stp_rel (ck_g Q) (ite := ck_pi) (ite' := ck_fi) (req := ck_pq) (req' := ck_fq) (nam := ck_pn) (nam' := fun x k => k x) (nar := ck_pn) (nar' := fun x k => k x) (nmm := ck_pn) (nmm' := fun x k => k x) (idx := ck_px) (idx' := ck_fx) (der := ck_pd) (der' := ck_fd)
      (fun h => h.elim) (fun c h a b a' b' q1 q2 => ?_) (fun c h a a' q => ?_) (fun x k k' q => ?_) (fun x k k' q => ?_) (fun x k k' q => ?_) (fun x n k k' q => ?_) (fun r k k' q => ?_) (fun pc l st M => ck_g_nxt T (h _ _ _ _)) (fun e as nx l st M => ck_g_cal T h pc nx e as l st M) (fun v M => ?_) (fun i l M => ck_g_thr T h pc i l M) D ins pc nx tg l st M
  · rintro ⟨g1, g2⟩
    by_cases hc : c
    · obtain ⟨f0, r, h2, h3⟩ := q1 hc (g1 hc)
      exact ⟨f0, r, fun f hf => by show ite c (a' f) (b' f) = _; rw [if_pos hc]; exact h2 f hf, h3⟩
    · obtain ⟨f0, r, h2, h3⟩ := q2 hc (g2 hc)
      exact ⟨f0, r, fun f hf => by show ite c (a' f) (b' f) = _; rw [if_neg hc]; exact h2 f hf, h3⟩
  · rintro ⟨hc, ha⟩
    obtain ⟨f0, r, h2, h3⟩ := q hc ha
    exact ⟨f0, r, fun f hf => by show ite c (a' f) none = _; rw [if_pos hc]; exact h2 f hf, h3⟩
  · exact fun hp => q x rfl hp
  · exact fun hp => q x rfl hp
  · exact fun hp => q x rfl hp
  · rintro ⟨j, hj, hn, hp⟩
    obtain ⟨f0, r, h2, h3⟩ := q j hj hn hp
    refine ⟨f0, r, fun f hf => ?_, h3⟩
    show ite (0 ≤ x ∧ x < n) (k' x.toNat f) none = _
    rw [if_pos (by omega), show x.toNat = j by omega]
    exact h2 f hf
  · rintro ⟨i, hi, hp⟩
    subst hi
    exact q i rfl hp
  · exact fun hp => ⟨0, _, fun _ _ => rfl, hp⟩
/-- THE CONDITIONS SUFFICE -/
theorem ck_vc_ok {d : Nat} {D : ck_D} {Q : ck_O → ck_M → Prop} (stops : List Nat) {K : Nat → List ck_A → List ck_A → ck_M → Prop} (hK : ∀ pc l st M, K pc l st M → ck_W T d D Q pc l st M) :
    ∀ (n pc : Nat) (l st : List ck_A) (M : ck_M), ck_vc T d D Q stops K n pc l st M → ck_W T d D Q pc l st M
  | 0, pc, l, st, M, h => hK _ _ _ _ h
  | n + 1, pc, l, st, M, h => by
    unfold ck_vc at h
    cases e : D.1 pc with
    | none => rw [e] at h; exact h.elim
    | some q =>
      obtain ⟨ins, nx, tg⟩ := q
      rw [e] at h
      have hk : ∀ (pc : Nat) (l st : List ck_A) (M : ck_M), (bif stops.elem pc then K pc l st M else ck_vc T d D Q stops K n pc l st M) → ck_W T d D Q pc l st M := by
        intro pc l st M hh
        cases e2 : stops.elem pc with
        | true => rw [e2] at hh; exact hK _ _ _ _ hh
        | false => rw [e2] at hh; exact ck_vc_ok stops hK n pc l st M hh
      obtain ⟨f0, r, h2, h3⟩ := ck_g_stp T hk ins pc nx tg l st M h
      refine ⟨f0 + 1, r.1, r.2, ?_, h3⟩
      have h4 := h2 f0 (Nat.le_refl _)
      unfold ck_ev
      rw [e]
      exact h4
/-- the usual way: at the places of 'stops' what is shown is the end itself -/
theorem ck_go {d : Nat} {D : ck_D} {Q : ck_O → ck_M → Prop} (n : Nat) (stops : List Nat) {pc : Nat} {l st : List ck_A} {M : ck_M} (h : ck_vc T d D Q stops (ck_W T d D Q) n pc l st M) : ck_W T d D Q pc l st M := ck_vc_ok T stops (fun _ _ _ _ h => h) n pc l st M h
theorem ck_run {d : Nat} {D : ck_D} {Q : ck_O → ck_M → Prop} (n : Nat) (stops : List Nat) {as : List ck_A} {M : ck_M} (h : ck_vc T d D Q stops (ck_W T d D Q) n 0 (ck_ent D.2.2.1 as) [] M) : ck_R T d D as M Q := ck_go T n stops h
/-- a call by its contract -/
theorem ck_use {d k : Nat} {D : ck_D} {as : List ck_A} {M : ck_M} {P : ck_O → ck_M → Prop} {K : Option ck_A → ck_M → Prop} {Kx : Nat → ck_M → Prop} (h : ∀ d, k ≤ d → ck_R T d D as M P) (hd : k + 1 ≤ d) (hf : ck_cat as ≤ D.2.2.1) (hk : ∀ v M', P (.inl v) M' → K v M') (hx : ∀ i M', P (.inr i) M' → Kx i M') : ck_C T d D as M K Kx :=
  ⟨d - 1, by omega, hf, (h (d - 1) (by omega)).mono T fun o M' q => by
    rcases o with v | i
    · exact hk v M' q
    · exact hx i M' q⟩
end CkVc
