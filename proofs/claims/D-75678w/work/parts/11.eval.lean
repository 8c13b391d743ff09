/-! EVALUATION -/
abbrev ck_O : Type := Option ck_A ⊕ Nat
/-- what is copied are objects of ours, or null -/
def ck_elm (M : ck_M) (i n : Nat) : Bool := (List.range n).all fun k => match M.R i k with | none => true | some w => decide ((M.K w).1 < 17)
section CkCal
variable {α : Type} (bad : α) (req : (c : Prop) → Decidable c → α → α) (nmm : ck_M → (ck_M → α) → α) (der : Option Nat → (Nat → α) → α) (run run1 : Nat → List ck_A → ck_M → α)
/-- the first argument, a reference -/
def ck_rcv (as : List ck_A) (k : Nat → α) : α := match as with | .inr (.inr (.inl r)) :: _ => der r k | _ => bad
def ck_cpA (as : List ck_A) (k : Nat → Int → Nat → Int → Int → α) : α := match as with | [.inr (.inr (.inl r)), .inl sp, .inr (.inr (.inl q)), .inl dp, .inl n] => der r fun i => der q fun j => k i sp j dp n | _ => bad
/-- two ints -/
def ck_mm (as : List ck_A) (k : Int → Int → α) : α := match as with | [.inl x, .inl y] => k x y | _ => bad
/-- a call, by its kind: 0 a virtual method of the receiver's own class, 3 the same of a nest mate, 6 by the receiver's class, 7 Object's constructor, 20 arraycopy, 21 getClass, 22 the constructor of Wrong; else as the entry says -/
def ck_cal (e : ck_E) (as : List ck_A) (M : ck_M) (k : Option ck_A → ck_M → α) : α :=
  match e.2.1 with
  | 0 => ck_rcv bad der as fun i => req ((M.K i).1 = e.2.2.2.2.toNat ∧ ck_NS ≤ i) inferInstance (run e.2.2.1 as M)
  | 3 => ck_rcv bad der as fun i => req ((M.K i).1 = e.2.2.2.2.toNat ∧ ck_NS ≤ i) inferInstance (run1 e.2.2.1 as M)
  | 8 => ck_rcv bad der as fun i => req ((M.K i).1 = 50) inferInstance (run1 e.2.2.1 as M)
  | 6 => ck_rcv bad der as fun i => req (((M.K i).1 = 8 ∨ (M.K i).1 = 9 ∨ (M.K i).1 = 10 ∨ (M.K i).1 = 12 ∨ (M.K i).1 = 13 ∨ (M.K i).1 = 14) ∧ ck_NS ≤ i) inferInstance (run1 (e.2.2.1 + (M.K i).1) as M)
  | 2 => ck_rcv bad der as fun _ => run1 e.2.2.1 as M
  | 5 => ck_rcv bad der as fun _ => run1 e.2.2.1 as M
  | 7 => ck_rcv bad der as fun _ => k none M
  | 20 => ck_cpA bad der as fun i sp j dp n => req ((M.K i).1 = 104 ∧ (M.K j).1 = 104 ∧ sp = 0 ∧ dp = 0 ∧ 0 ≤ n ∧ n ≤ (M.K i).2 ∧ n ≤ (M.K j).2 ∧ i ≠ j ∧ ck_NS ≤ i ∧ ck_NS ≤ j ∧ ck_elm M i n.toNat = true) inferInstance (nmm (M.cp i j n.toNat) fun M => k none M)
  | 21 => ck_rcv bad der as fun i => req ((M.K i).1 = 104 ∧ ck_NS ≤ i) inferInstance (k (some (vr (some 3))) M)
  | 22 => ck_rcv bad der as fun i => req ((M.K i).1 = 4 ∧ ck_NS ≤ i ∧ M.R i 4 = none) inferInstance (nmm (((M.sR i 0 (some i)).sR i 1 (M.R 0 2)).sR i 2 (M.R 0 3)) fun M => k none M)
  | 23 => ck_mm bad as fun x y => req (ck_i32 x ∧ ck_i32 y) inferInstance (k (some (vi (max x y))) M)
  | 24 => ck_mm bad as fun x y => req (ck_i32 x ∧ ck_i32 y) inferInstance (k (some (vi (min x y))) M)
  | _ => run1 e.2.2.1 as M
end CkCal
theorem ck_rel_rcv {α β : Type} (Rl : α → β → Prop) {bad : α} {bad' : β} {der : Option Nat → (Nat → α) → α} {der' : Option Nat → (Nat → β) → β} (hb : Rl bad bad') (hder : ∀ r k k', (∀ i, r = some i → Rl (k i) (k' i)) → Rl (der r k) (der' r k')) {as : List ck_A} {k : Nat → α} {k' : Nat → β} (h : ∀ i, Rl (k i) (k' i)) : Rl (ck_rcv bad der as k) (ck_rcv bad' der' as k') := by
  rcases as with _ | ⟨x | x | x | x, as⟩ <;> first | exact hb | exact hder _ _ _ fun i _ => h i
theorem ck_rel_cpA {α β : Type} (Rl : α → β → Prop) {bad : α} {bad' : β} {der : Option Nat → (Nat → α) → α} {der' : Option Nat → (Nat → β) → β} (hb : Rl bad bad') (hder : ∀ r k k', (∀ i, r = some i → Rl (k i) (k' i)) → Rl (der r k) (der' r k')) {as : List ck_A} {k : Nat → Int → Nat → Int → Int → α} {k' : Nat → Int → Nat → Int → Int → β} (h : ∀ a b c d e, Rl (k a b c d e) (k' a b c d e)) : Rl (ck_cpA bad der as k) (ck_cpA bad' der' as k') := by
  rcases as with _ | ⟨x | x | x | x, as⟩ <;> try exact hb
  rcases as with _ | ⟨y | y | y | y, as⟩ <;> try exact hb
  rcases as with _ | ⟨z | z | z | z, as⟩ <;> try exact hb
  rcases as with _ | ⟨u | u | u | u, as⟩ <;> try exact hb
  rcases as with _ | ⟨v | v | v | v, as⟩ <;> try exact hb
  rcases as with _ | ⟨w, as⟩ <;> try exact hb
  exact hder _ _ _ fun i _ => hder _ _ _ fun j _ => h _ _ _ _ _
theorem ck_rel_mm {α β : Type} (Rl : α → β → Prop) {bad : α} {bad' : β} (hb : Rl bad bad') {as : List ck_A} {k : Int → Int → α} {k' : Int → Int → β} (h : ∀ a b, Rl (k a b) (k' a b)) : Rl (ck_mm bad as k) (ck_mm bad' as k') := by
  rcases as with _ | ⟨x | x | x | x, as⟩ <;> try exact hb
  rcases as with _ | ⟨y | y | y | y, as⟩ <;> try exact hb
  rcases as with _ | ⟨w, as⟩ <;> try exact hb
  exact h _ _
theorem ck_cal_kinds (n : Nat) : n = 0 ∨ n = 3 ∨ n = 8 ∨ n = 6 ∨ n = 2 ∨ n = 5 ∨ n = 7 ∨ n = 20 ∨ n = 21 ∨ n = 22 ∨ n = 23 ∨ n = 24 ∨ (n ≠ 0 ∧ n ≠ 3 ∧ n ≠ 8 ∧ n ≠ 6 ∧ n ≠ 2 ∧ n ≠ 5 ∧ n ≠ 7 ∧ n ≠ 20 ∧ n ≠ 21 ∧ n ≠ 22 ∧ n ≠ 23 ∧ n ≠ 24) := by omega
theorem ck_cal_else {α : Type} (bad : α) (req : (c : Prop) → Decidable c → α → α) (nmm : ck_M → (ck_M → α) → α) (der : Option Nat → (Nat → α) → α) (run run1 : Nat → List ck_A → ck_M → α) (t n a b : Nat) (z : Int) (as : List ck_A) (M : ck_M) (k : Option ck_A → ck_M → α) (h : n ≠ 0 ∧ n ≠ 3 ∧ n ≠ 8 ∧ n ≠ 6 ∧ n ≠ 2 ∧ n ≠ 5 ∧ n ≠ 7 ∧ n ≠ 20 ∧ n ≠ 21 ∧ n ≠ 22 ∧ n ≠ 23 ∧ n ≠ 24) :
    ck_cal bad req nmm der run run1 (t, n, a, b, z) as M k = run1 a as M := by
  obtain ⟨h0, h3, h8, h6, h2, h5, h7, h20, h21, h22, h23, h24⟩ := h
  unfold ck_cal
  split <;> simp_all
theorem ck_cal_rel {α β : Type} (Rl : α → β → Prop) {bad : α} {bad' : β} {req : (c : Prop) → Decidable c → α → α} {req' : (c : Prop) → Decidable c → β → β} {nmm : ck_M → (ck_M → α) → α} {nmm' : ck_M → (ck_M → β) → β} {der : Option Nat → (Nat → α) → α} {der' : Option Nat → (Nat → β) → β} {run run1 : Nat → List ck_A → ck_M → α} {run' run1' : Nat → List ck_A → ck_M → β}
    (hb : Rl bad bad') (hreq : ∀ c h a a', (c → Rl a a') → Rl (req c h a) (req' c h a')) (hnmm : ∀ x k k', (∀ v, v = x → Rl (k v) (k' v)) → Rl (nmm x k) (nmm' x k')) (hder : ∀ r k k', (∀ i, r = some i → Rl (k i) (k' i)) → Rl (der r k) (der' r k')) (hrun : ∀ y as M, Rl (run y as M) (run' y as M)) (hrun1 : ∀ y as M, Rl (run1 y as M) (run1' y as M))
    (e : ck_E) (as : List ck_A) (M : ck_M) {k : Option ck_A → ck_M → α} {k' : Option ck_A → ck_M → β} (hk : ∀ v M, Rl (k v M) (k' v M)) : Rl (ck_cal bad req nmm der run run1 e as M k) (ck_cal bad' req' nmm' der' run' run1' e as M k') := by
  obtain ⟨t, n, a, b, z⟩ := e
  rcases ck_cal_kinds n with h | h | h | h | h | h | h | h | h | h | h | h | h
  · subst h; exact ck_rel_rcv Rl hb hder fun i => hreq _ _ _ _ fun _ => hrun _ _ _
  · subst h; exact ck_rel_rcv Rl hb hder fun i => hreq _ _ _ _ fun _ => hrun1 _ _ _
  · subst h; exact ck_rel_rcv Rl hb hder fun i => hreq _ _ _ _ fun _ => hrun1 _ _ _
  · subst h; exact ck_rel_rcv Rl hb hder fun i => hreq _ _ _ _ fun _ => hrun1 _ _ _
  · subst h; exact ck_rel_rcv Rl hb hder fun i => hrun1 _ _ _
  · subst h; exact ck_rel_rcv Rl hb hder fun i => hrun1 _ _ _
  · subst h; exact ck_rel_rcv Rl hb hder fun i => hk _ _
  · subst h; exact ck_rel_cpA Rl hb hder fun _ _ _ _ _ => hreq _ _ _ _ fun _ => hnmm _ _ _ fun _ _ => hk _ _
  · subst h; exact ck_rel_rcv Rl hb hder fun i => hreq _ _ _ _ fun _ => hk _ _
  · subst h; exact ck_rel_rcv Rl hb hder fun i => hreq _ _ _ _ fun _ => hnmm _ _ _ fun _ _ => hk _ _
  · subst h; exact ck_rel_mm Rl hb fun _ _ => hreq _ _ _ _ fun _ => hk _ _
  · subst h; exact ck_rel_mm Rl hb fun _ _ => hreq _ _ _ _ fun _ => hk _ _
  · rw [ck_cal_else _ _ _ _ _ _ _ _ _ _ _ _ _ _ h, ck_cal_else _ _ _ _ _ _ _ _ _ _ _ _ _ _ h]; exact hrun1 _ _ _
/-- where a throw at pc is caught -/
def ck_hd : List (Nat × Nat × Nat) → Nat → Option Nat
  | [], _ => none
  | (a, b, t) :: hs, pc => bif Nat.ble a pc && Nat.blt pc b then some t else ck_hd hs pc
def ck_push (v : Option ck_A) (st : List ck_A) : List ck_A := match v with | some v => v :: st | none => st
section CkEv
variable (T : Nat → ck_D)
abbrev ck_Z : Type := Option (ck_O × ck_M)
abbrev ck_oi (c : Prop) (h : Decidable c) (a b : ck_Z) : ck_Z := @ite _ c h a b
abbrev ck_oq (c : Prop) (h : Decidable c) (a : ck_Z) : ck_Z := @ite _ c h a none
abbrev ck_ox (x : Int) (n : Nat) (k : Nat → ck_Z) : ck_Z := if 0 ≤ x ∧ x < n then k x.toNat else none
abbrev ck_od (r : Option Nat) (k : Nat → ck_Z) : ck_Z := match r with | some i => k i | none => none
/-- a throw in method D at pc: caught there, or out -/
def ck_ot (ev : Nat → List ck_A → List ck_A → ck_M → ck_Z) (D : ck_D) (pc i : Nat) (l : List ck_A) (M : ck_M) : ck_Z := match ck_hd D.2.2.2.2.2 pc with | some t => ev t l [vr (some i)] M | none => (match D.2.2.2.2.2 with | [] => some (.inr i, M) | _ => none)
/-- a callee's answer -/
def ck_ob (r : ck_Z) (k : Option ck_A → ck_M → ck_Z) (kx : Nat → ck_M → ck_Z) : ck_Z := match r with | some (.inl v, M) => k v M | some (.inr i, M) => kx i M | none => none
/-- one deeper, with arguments that fit -/
def ck_dn (mL : Nat) (as : List ck_A) (d : Nat) (k : Nat → ck_Z) : ck_Z := bif Nat.ble (ck_cat as) mL then (match d with | 0 => none | d + 1 => k d) else none
theorem ck_dn_at {mL : Nat} {as : List ck_A} {d : Nat} {k : Nat → ck_Z} (h : ck_cat as ≤ mL) : ck_dn mL as (d + 1) k = k d := by
  unfold ck_dn
  rw [Nat.ble_eq_true_of_le h]; rfl
def ck_ev : Nat → Nat → ck_D → Nat → List ck_A → List ck_A → ck_M → ck_Z
  | 0, _, _, _, _, _, _ => none
  | f + 1, d, D, pc, l, st, M => match D.1 pc with
    | none => none
    | some (ins, nx, tg) => ck_stp none ck_oi ck_oq (fun x k => k x) (fun x k => k x) (fun x k => k x) ck_ox ck_od (fun pc l st M => ck_ev f d D pc l st M)
        (fun e as nx l st M => ck_cal none ck_oq (fun x k => k x) ck_od
          (fun y as M => ck_dn (T y).2.2.1 as d fun d' => ck_ob (ck_ev f d' (T y) 0 (ck_ent (T y).2.2.1 as) [] M) (fun v M => ck_ev f d D nx l (ck_push v st) M) (fun i M => ck_ot (fun pc l st M => ck_ev f d D pc l st M) D pc i l M))
          (fun y as M => ck_dn (T y).2.2.1 as d fun d' => ck_ob (ck_ev f d' (T y) 0 (ck_ent (T y).2.2.1 as) [] M) (fun v M => ck_ev f d D nx l (ck_push v st) M) (fun _ _ => none))
          e as M (fun v M => ck_ev f d D nx l (ck_push v st) M))
        (fun v M => some (.inl v, M)) (fun i l M => ck_ot (fun pc l st M => ck_ev f d D pc l st M) D pc i l M) D ins pc nx tg l st M
def ck_le (a b : ck_Z) : Prop := ∀ r, a = some r → b = some r
theorem ck_le_none {b : ck_Z} : ck_le none b := fun _ h => by cases h
theorem ck_le_od {r : Option Nat} {k k' : Nat → ck_Z} (h : ∀ i, r = some i → ck_le (k i) (k' i)) : ck_le (ck_od r k) (ck_od r k') := by
  cases r with
  | none => exact ck_le_none
  | some i => exact h i rfl
theorem ck_le_oq {c : Prop} {h : Decidable c} {a a' : ck_Z} (q : c → ck_le a a') : ck_le (ck_oq c h a) (ck_oq c h a') := by
  unfold ck_oq
  by_cases hc : c
  · rw [if_pos hc, if_pos hc]; exact q hc
  · rw [if_neg hc]; exact ck_le_none
theorem ck_le_ot {ev ev' : Nat → List ck_A → List ck_A → ck_M → ck_Z} (h : ∀ pc l st M, ck_le (ev pc l st M) (ev' pc l st M)) (D : ck_D) (pc i : Nat) (l : List ck_A) (M : ck_M) : ck_le (ck_ot ev D pc i l M) (ck_ot ev' D pc i l M) := by
  unfold ck_ot
  split
  · exact h _ _ _ _
  · exact fun _ h => h
theorem ck_le_ob {r r' : ck_Z} {k k' : Option ck_A → ck_M → ck_Z} {kx kx' : Nat → ck_M → ck_Z} (hr : ck_le r r') (hk : ∀ v M, ck_le (k v M) (k' v M)) (hx : ∀ v M, ck_le (kx v M) (kx' v M)) : ck_le (ck_ob r k kx) (ck_ob r' k' kx') := by
  cases e : r with
  | none => exact ck_le_none
  | some q =>
    rw [hr q e]
    rcases q with ⟨v | i, M⟩
    · exact hk v M
    · exact hx i M
theorem ck_le_dn {mL : Nat} {as : List ck_A} {d d' : Nat} {k k' : Nat → ck_Z} (hd : d ≤ d') (h : ∀ i j, d = i + 1 → d' = j + 1 → ck_le (k i) (k' j)) : ck_le (ck_dn mL as d k) (ck_dn mL as d' k') := by
  unfold ck_dn
  cases Nat.ble (ck_cat as) mL with
  | false => exact ck_le_none
  | true =>
    cases d with
    | zero => exact ck_le_none
    | succ d =>
      cases d' with
      | zero => exact absurd hd (by omega)
      | succ d' => exact h d d' rfl rfl
/-- more fuel, and more depth, change no answer -/
theorem ck_ev_mono : ∀ (f f' d d' : Nat) (D : ck_D) (pc : Nat) (l st : List ck_A) (M : ck_M), f ≤ f' → d ≤ d' → ck_le (ck_ev T f d D pc l st M) (ck_ev T f' d' D pc l st M)
  | 0, _, _, _, _, _, _, _, _, _, _ => ck_le_none
  | f + 1, 0, _, _, _, _, _, _, _, h, _ => absurd h (by omega)
  | f + 1, f' + 1, d, d', D, pc, l, st, M, h, hd => by
    have ih : ∀ (d d' : Nat) (D : ck_D) (pc : Nat) (l st : List ck_A) (M : ck_M), d ≤ d' → ck_le (ck_ev T f d D pc l st M) (ck_ev T f' d' D pc l st M) := fun d d' D pc l st M hd => ck_ev_mono f f' d d' D pc l st M (by omega) hd
    unfold ck_ev
    cases D.1 pc with
    | none => exact ck_le_none
    | some q =>
      obtain ⟨ins, nx, tg⟩ := q
      refine ck_stp_rel ck_le (ite := ck_oi) (ite' := ck_oi) (req := ck_oq) (req' := ck_oq) (nam := fun x k => k x) (nam' := fun x k => k x) (nar := fun x k => k x) (nar' := fun x k => k x) (nmm := fun x k => k x) (nmm' := fun x k => k x) (idx := ck_ox) (idx' := ck_ox) (der := ck_od) (der' := ck_od) ck_le_none (fun c h a b a' b' h1 h2 => ?_) (fun c h a a' q => ck_le_oq q) (fun x k k' q => q x rfl) (fun x k k' q => q x rfl) (fun x k k' q => q x rfl) (fun x n k k' q => ?_) (fun r k k' q => @ck_le_od r k k' q) (fun pc l st M => ih _ _ _ _ _ _ _ hd) (fun e as nx l st M => ?_) (fun v M => fun _ h => h) (fun i l M => ck_le_ot (fun pc l st M => ih _ _ _ _ _ _ _ hd) D pc i l M) D ins pc nx tg l st M
      · unfold ck_oi
        by_cases hc : c
        · rw [if_pos hc, if_pos hc]; exact h1 hc
        · rw [if_neg hc, if_neg hc]; exact h2 hc
      · unfold ck_ox
        by_cases hc : 0 ≤ x ∧ x < n
        · rw [if_pos hc, if_pos hc]; exact q x.toNat (by omega) (by omega)
        · rw [if_neg hc]; exact ck_le_none
      · refine ck_cal_rel ck_le (req := ck_oq) (req' := ck_oq) (nmm := fun x k => k x) (nmm' := fun x k => k x) (der := ck_od) (der' := ck_od) ck_le_none (fun c h a a' q => ck_le_oq q) (fun x k k' q => q x rfl) (fun r k k' q => @ck_le_od r k k' q) (fun y as M => ?_) (fun y as M => ?_) e as M (fun v M => ih _ _ _ _ _ _ _ hd)
        · exact ck_le_dn hd fun i j h1 h2 => ck_le_ob (ih _ _ _ _ _ _ _ (by omega)) (fun v M => ih _ _ _ _ _ _ _ hd) (fun i M => ck_le_ot (fun pc l st M => ih _ _ _ _ _ _ _ hd) D pc i l M)
        · exact ck_le_dn hd fun i j h1 h2 => ck_le_ob (ih _ _ _ _ _ _ _ (by omega)) (fun v M => ih _ _ _ _ _ _ _ hd) (fun i M => ck_le_none)
/-- from a place of a method the evaluation ends, with Q -/
def ck_W (d : Nat) (D : ck_D) (Q : ck_O → ck_M → Prop) (pc : Nat) (l st : List ck_A) (M : ck_M) : Prop := ∃ (f : Nat) (o : ck_O) (M' : ck_M), ck_ev T f d D pc l st M = some (o, M') ∧ Q o M'
/-- a method's run -/
def ck_R (d : Nat) (D : ck_D) (as : List ck_A) (M : ck_M) (Q : ck_O → ck_M → Prop) : Prop := ck_W T d D Q 0 (ck_ent D.2.2.1 as) [] M
theorem ck_R.mono {d : Nat} {D : ck_D} {as : List ck_A} {M : ck_M} {Q Q' : ck_O → ck_M → Prop} (h : ck_R T d D as M Q) (hq : ∀ o M', Q o M' → Q' o M') : ck_R T d D as M Q' := by
  obtain ⟨f, o, M', h1, h2⟩ := h
  exact ⟨f, o, M', h1, hq _ _ h2⟩
theorem ck_W.mono {d : Nat} {D : ck_D} {pc : Nat} {l st : List ck_A} {M : ck_M} {Q Q' : ck_O → ck_M → Prop} (h : ck_W T d D Q pc l st M) (hq : ∀ o M', Q o M' → Q' o M') : ck_W T d D Q' pc l st M := by
  obtain ⟨f, o, M', h1, h2⟩ := h
  exact ⟨f, o, M', h1, hq _ _ h2⟩
abbrev ck_pi (c : Prop) (_ : Decidable c) (a b : Prop) : Prop := (c → a) ∧ (¬ c → b)
abbrev ck_pq (c : Prop) (_ : Decidable c) (a : Prop) : Prop := c ∧ a
abbrev ck_pn {α : Type} (x : α) (k : α → Prop) : Prop := k x
abbrev ck_px (x : Int) (n : Nat) (k : Nat → Prop) : Prop := ∃ j : Nat, x = (j : Int) ∧ j < n ∧ k j
abbrev ck_pd (r : Option Nat) (k : Nat → Prop) : Prop := ∃ i, r = some i ∧ k i
def ck_pt (ev : Nat → List ck_A → List ck_A → ck_M → Prop) (Q : ck_O → ck_M → Prop) (D : ck_D) (pc i : Nat) (l : List ck_A) (M : ck_M) : Prop := match ck_hd D.2.2.2.2.2 pc with | some t => ev t l [vr (some i)] M | none => (match D.2.2.2.2.2 with | [] => Q (.inr i) M | _ => False)
/-- a callee's run, and how it goes on -/
def ck_C (d : Nat) (D : ck_D) (as : List ck_A) (M : ck_M) (k : Option ck_A → ck_M → Prop) (kx : Nat → ck_M → Prop) : Prop := ∃ d', d = d' + 1 ∧ ck_cat as ≤ D.2.2.1 ∧ ck_R T d' D as M (fun o M' => match o with | .inl v => k v M' | .inr i => kx i M')
/-- what is to be shown at a place, up to n steps on, as far as the places of 'stops' (K: what is to be shown there) -/
def ck_vc (d : Nat) (D : ck_D) (Q : ck_O → ck_M → Prop) (stops : List Nat) (K : Nat → List ck_A → List ck_A → ck_M → Prop) : Nat → Nat → List ck_A → List ck_A → ck_M → Prop
  | 0, pc, l, st, M => K pc l st M
  | n + 1, pc, l, st, M => match D.1 pc with
    | none => False
    | some (ins, nx, tg) => ck_stp False ck_pi ck_pq ck_pn ck_pn ck_pn ck_px ck_pd (fun pc l st M => bif stops.elem pc then K pc l st M else ck_vc d D Q stops K n pc l st M)
        (fun e as nx l st M => ck_cal False ck_pq ck_pn ck_pd
          (fun y as M => ck_C T d (T y) as M (fun v M => bif stops.elem nx then K nx l (ck_push v st) M else ck_vc d D Q stops K n nx l (ck_push v st) M) (fun i M => ck_pt (fun pc l st M => bif stops.elem pc then K pc l st M else ck_vc d D Q stops K n pc l st M) Q D pc i l M))
          (fun y as M => ck_C T d (T y) as M (fun v M => bif stops.elem nx then K nx l (ck_push v st) M else ck_vc d D Q stops K n nx l (ck_push v st) M) (fun _ _ => False))
          e as M (fun v M => bif stops.elem nx then K nx l (ck_push v st) M else ck_vc d D Q stops K n nx l (ck_push v st) M))
        (fun v M => Q (.inl v) M) (fun i l M => ck_pt (fun pc l st M => bif stops.elem pc then K pc l st M else ck_vc d D Q stops K n pc l st M) Q D pc i l M) D ins pc nx tg l st M
/-- a Prop says that an answer comes, from some fuel on -/
def ck_g (Q : ck_O → ck_M → Prop) (p : Prop) (o : Nat → ck_Z) : Prop := p → ∃ f0 r, (∀ f, f0 ≤ f → o f = some r) ∧ Q r.1 r.2
theorem ck_W.ev {d : Nat} {D : ck_D} {Q : ck_O → ck_M → Prop} {pc : Nat} {l st : List ck_A} {M : ck_M} (h : ck_W T d D Q pc l st M) : ∃ f0 r, (∀ f, f0 ≤ f → ck_ev T f d D pc l st M = some r) ∧ Q r.1 r.2 := by
  obtain ⟨f, o, M', h1, h2⟩ := h
  exact ⟨f, (o, M'), fun f' hf => ck_ev_mono T f f' d d D pc l st M hf (Nat.le_refl _) _ h1, h2⟩
end CkEv
