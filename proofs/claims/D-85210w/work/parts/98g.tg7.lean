/-! ===== PHASE 2: the twin's graph: a sheet is valued: cycles, rounds ===== -/
section TwSheetVal3
variable {N h s q : Nat} {σ σ' σ0 r r' : gMem} {cx : Cx} {l : Fm} {g : Nat → Vl} {nr nc : Nat} {P : Nat → Ct} {V : Int} {T : Nat → Bool}
theorem ThT.add {i : Nat} (t : ThT r h T) (x : Ex (Tq h i) r r') (x1 : mI r' (h + 40) i = 1) (x2 : ∀ j, j < 320 → TH r' h j = (TH r h j || decide (j = i))) : ThT r' h (fun j => T j || decide (j = i)) := by
  intro j hj
  refine ⟨?_, ?_⟩
  · show _ = (if (T j || decide (j = i)) = true then (1 : Int) else 0)
    by_cases e : j = i
    · rw [e, x1, decide_eq_true (show i = i from rfl), Bool.or_true, if_pos rfl]
    · rw [x.rI (by unfold Tq; omega), (t j hj).1, decide_eq_false e, Bool.or_false]
  · have a := x2 j hj
    have b := (t j hj).2
    unfold TH at a
    rw [a, b]
theorem ThT.cg {T' : Nat → Bool} (t : ThT r h T) (e : ∀ j, j < 320 → T j = T' j) : ThT r h T' := fun j hj => by rw [← e j hj]; exact t j hj
theorem ThT.zv {c : Nat} (t : ThT r h T) (x : Ex (Zv h c) r r') : ThT r' h T := fun j hj => ⟨by rw [x.rI (Zv.s38 (by omega))]; exact (t j hj).1, by rw [x.rL (Zv.s38 (by omega))]; exact (t j hj).2⟩
theorem Zv.cp {c a k : Nat} (x : Cp h c a k) : Zv h c a k := Or.inr x
/-- a cell that is through has its value -/
def Gd (cx : Cx) (s nr nc : Nat) (P : Nat → Ct) (T : Nat → Bool) (g : Nat → Vl) (j : Nat) : Prop :=
  ((P j).2 = [] → g j = (P j).1) ∧ ((P j).2 ≠ [] → (Relation.TransGen (LDr cx nr nc P) j j → g j = vErr 6) ∧ (¬ Relation.TransGen (LDr cx nr nc P) j j → (∀ b ∈ leadsF cx (P j).2, T b = true) ∧ g j = fix0 (ev (cxv cx s g) (P j).2)))
theorem ev_new {k : Nat} {v : Vl} {n : Nat} (hV : V ≤ s) (w : Wf n l) (hv : ∀ p ∈ l, pW p < V) (hk : T k = false) (hl : ∀ b ∈ leadsF cx l, T b = true) : ev (cxv cx s (newVl g k v)) l = ev (cxv cx s g) l := by
  refine ev_local (f := cx.1) (g := (cxv cx s (newVl g k v)).2) (g' := (cxv cx s g).2) (V := V) (fun ver h1 h2 => ?_) n l w hv (fun j hj => ?_)
  · unfold cxv
    dsimp only
    have : ¬ shn s ver = s := by unfold shn; rw [if_neg (by omega)]; omega
    rw [if_neg this, if_neg this]
  · unfold cxv
    dsimp only
    have e : shn s (-1) = s := by unfold shn; rw [if_pos (by decide)]
    rw [if_pos e, if_pos e]
    unfold newVl
    have : T j = true := hl j hj
    rw [if_neg (fun z => by rw [z, hk] at this; cases this)]
theorem Gd.step {k j n : Nat} {v : Vl} (hV : V ≤ s) (w : (P j).2 ≠ [] → ∃ n, Wf n (P j).2) (hv : (P j).2 ≠ [] → ∀ p ∈ (P j).2, pW p < V) (hk : T k = false) (hj : j ≠ k) (a : Gd cx s nr nc P T g j) : Gd cx s nr nc P (fun j => T j || decide (j = k)) (newVl g k v) j := by
  have e : newVl g k v j = g j := by unfold newVl; rw [if_neg hj]
  refine ⟨fun z => by rw [e]; exact a.1 z, fun z => ⟨fun y => by rw [e]; exact (a.2 z).1 y, fun y => ?_⟩⟩
  have b := (a.2 z).2 y
  obtain ⟨n, wf⟩ := w z
  refine ⟨fun x hx => by show (T x || decide (x = k)) = true; rw [b.1 x hx]; rfl, ?_⟩
  rw [e, ev_new (T := T) hV wf (hv z) hk b.1]; exact b.2
/-- what holds between rounds -/
def VRnd (σ0 r : gMem) (h s nr nc : Nat) (cx : Cx) (P : Nat → Ct) (T : Nat → Bool) (g : Nat → Vl) : Prop :=
  VS σ0 r h s cx g ∧ (∀ a b, a < 320 → b < 320 → (BT r (h + 38) a b = true ↔ a < 320 ∧ LDr cx nr nc P a b)) ∧ ThT r h T ∧ (∀ j, j < 320 → T j = true → inB nr nc j → Gd cx s nr nc P T g j) ∧
  ∀ j, j < 320 → notF nr nc P j = true ∨ Relation.TransGen (LDr cx nr nc P) j j → T j = true
/-- at least one waits for another -/
def Wt (cx : Cx) (nr nc : Nat) (P : Nat → Ct) (T : Nat → Bool) (j : Nat) : Prop := ∃ b, b < 320 ∧ LDr cx nr nc P j b ∧ T b = false
theorem t_values_e {T0 : Nat → Bool} {K : Int → gMem → Option gMem} {Φ : gMem → Prop} (hN : 400 ≤ N) (hs : s ≤ 40) (hV : V ≤ s) (cs : CtS σ0 h s nr nc cx V P) (hK : ∀ (y : Int) r T g, VRnd σ0 r h s nr nc cx P T g → (∀ j, j < 320 → T0 j = true → T j = true) → ((y = 0 ∧ ∀ j, j < 320 → T j = false → Wt cx nr nc P T j) ∨ (y = 1 ∧ ∃ j, j < 320 ∧ T0 j = false ∧ T j = true)) → Ev (K y r) Φ) : ∀ (m i f : Nat) (y : Int) (r : gMem) (T : Nat → Bool) (g : Nat → Vl), i + m = 320 → m < f → VRnd σ0 r h s nr nc cx P T g → (∀ j, j < 320 → T0 j = true → T j = true) → ((y = 0 ∧ ∀ j, j < i → T j = false → Wt cx nr nc P T j) ∨ (y = 1 ∧ ∃ j, j < 320 ∧ T0 j = false ∧ T j = true)) → Ev (tw_valuesOf_l233 N h s K f y i r) Φ := by
  have cs' := cs
  obtain ⟨cr, cc, hr, hc, ct, cw, c1, c2⟩ := cs'
  have sv : ∀ o k, 1 ≤ o → o ≤ 27 → ¬ Sv h s (h + o) k := fun o k h1 h2 z => by have := z.out; omega
  intro m
  induction m with
  | zero =>
    intro i f y r T g h1 h2 a t0 st
    obtain ⟨f, rfl⟩ : ∃ j, f = j + 1 := ⟨f - 1, by omega⟩
    obtain rfl : i = 320 := by omega
    unfold tw_valuesOf_l233
    exact Ev.g (by decide) (hK y r T g a t0 st)
  | succ m ih =>
    intro i f y r T g h1 h2 a t0 st
    obtain ⟨f, rfl⟩ : ∃ j, f = j + 1 := ⟨f - 1, by omega⟩
    have hi : i < 320 := by omega
    have a' := a
    obtain ⟨vs, bt, th, gd, bs⟩ := a'
    have ei : (320 * (s : Int) + (i : Int)).toNat = 320 * s + i := by omega
    have ew : w32 (320 * (s : Int) + (i : Int)) = ((320 * s + i : Nat) : Int) := by rw [w32_i (by omega) (by omega)]; omega
    have gc : (0 : Int) ≤ 320 * (s : Int) + (i : Int) ∧ 320 * (s : Int) + (i : Int) < ((39040 : Nat) : Int) := by omega
    unfold tw_valuesOf_l233 tw_valuesOf_l233_j288
    rw [tn, (th i hi).1, ei, ew, inc32 (by omega)]
    refine Ev.f (by omega) (Ev.g (by omega) ?_)
    cases hT : T i with
    | true =>
      refine Ev.g (by rw [if_pos rfl]; decide) (ih (i + 1) f y r T g (by omega) (by omega) a t0 ?_)
      rcases st with ⟨y0, st⟩ | st
      · refine Or.inl ⟨y0, fun j hj jt => st j ?_ jt⟩
        by_cases e : j = i
        · rw [e, hT] at jt; cases jt
        · omega
      · exact Or.inr st
    | false =>
      refine Ev.f (by rw [if_neg (show ¬ false = true from fun z => by cases z)]; exact fun z => z rfl) ?_
      obtain ⟨b, eb, hb⟩ := t_isReady (N := N) (by omega) hi th
      refine Ev.e eb ?_
      cases b with
      | false =>
        refine Ev.g rfl (ih (i + 1) f y r T g (by omega) (by omega) a t0 ?_)
        rcases st with ⟨y0, st⟩ | st
        · refine Or.inl ⟨y0, fun j hj jt => ?_⟩
          by_cases e : j = i
          · rw [e]
            by_cases z : Wt cx nr nc P T i
            · exact z
            · exfalso
              have : false = true := hb.mpr (fun b hb2 hbt => by
                cases hTb : T b with
                | true => rfl
                | false => exact absurd ⟨b, hb2, ((bt i b hi hb2).mp hbt).2, hTb⟩ z)
              cases this
          · exact st j (by omega) jt
        · exact Or.inr st
      | true =>
        have rd := hb.mp rfl
        have nf : ¬ (notF nr nc P i = true ∨ Relation.TransGen (LDr cx nr nc P) i i) := fun z => by rw [bs i hi z] at hT; cases hT
        have ib : inB nr nc i := by
          by_cases z : inB nr nc i
          · exact z
          · exact absurd (Or.inl (notF_iff.mpr (Or.inl z))) nf
        have pf : (P i).2 ≠ [] := fun z => nf (Or.inl (notF_iff.mpr (Or.inr z)))
        obtain ⟨⟨n, wf⟩, wv⟩ := cw i ib pf
        have cti := ct i ib
        obtain ⟨-, q, q2, q3⟩ := (cti.isF r).2 pf
        have fm := q3.ex vs.1 (fun o k z1 z2 => sv o k (by omega) (by omega))
        have ld : ∀ b ∈ leadsF cx (P i).2, T b = true := fun b hb2 => by
          have b1 := leads_inB c1 c2 hc n _ wf b hb2
          have b2 : b < 320 := by unfold inB at b1; omega
          exact rd b b2 ((bt i b hi b2).mpr ⟨hi, ib, pf, hb2⟩)
        rw [vs.1.rI (sv 5 _ (by omega) (by omega))]
        refine Ev.f (by decide) (Ev.g gc (Ev.c (t_formulaValue (q := q) (l := (P i).2) hN hs (by omega) q2 vs.2.2 vs.2.1 fm) (fun r2 _ z => Ev.c (t_through hi) (fun r3 _ u => ?_))))
        have vs2 := vs.cell hi z.1 z.2.1 z.2.2
        refine ih (i + 1) f 1 r3 (fun j => T j || decide (j = i)) (newVl g i (fix0 (ev (cxv cx s g) (P i).2))) (by omega) (by omega) ⟨vs2.tq u.1, fun a b ha hb => ?_, (th.zv z.1).add u.1 u.2.1 u.2.2, fun j hj jt jb => ?_, fun j hj jn => ?_⟩ (fun j hj j0 => ?_) (Or.inr ⟨rfl, i, hi, ?_, ?_⟩)
        · rw [BT.lf u.1, BT.ex z.1 (fun _ => Zv.s38 (by omega))]; exact bt a b ha hb
        · by_cases e : j = i
          · subst e
            refine ⟨fun z => absurd z pf, fun _ => ⟨fun z => absurd (Or.inr z) nf, fun _ => ⟨fun x hx => by show (T x || decide (x = j)) = true; rw [ld x hx]; rfl, ?_⟩⟩⟩
            rw [ev_new (T := T) hV wf wv hT ld]
            unfold newVl; rw [if_pos rfl]
          · have jt' : T j = true := by
              have jt2 : (T j || decide (j = i)) = true := jt
              rw [decide_eq_false e, Bool.or_false] at jt2; exact jt2
            exact (gd j hj jt' jb).step (n := 0) hV (fun z => (cw j jb z).1) (fun z => (cw j jb z).2) hT e
        · show (T j || decide (j = i)) = true
          rw [bs j hj jn]; rfl
        · show (T j || decide (j = i)) = true
          rw [t0 j hj j0]; rfl
        · cases e : T0 i with
          | false => rfl
          | true => rw [t0 i hi e] at hT; cases hT
        · show (T i || decide (i = i)) = true
          rw [decide_eq_true (show i = i from rfl), Bool.or_true]
end TwSheetVal3
