/-! ===== PHASE 2: the twin's graph: a sheet is valued ===== -/
section TwSheetVal4
variable {N h s q : Nat} {σ σ' σ0 r r' : gMem} {cx : Cx} {l : Fm} {g : Nat → Vl} {nr nc : Nat} {P : Nat → Ct} {V : Int} {T : Nat → Bool}
/-- how many are not through -/
def cntN (T : Nat → Bool) : Nat → Nat
  | 0 => 0
  | n + 1 => cntN T n + (if T n = true then 0 else 1)
theorem cntN_le {T T' : Nat → Bool} : ∀ n, (∀ j, j < n → T j = true → T' j = true) → cntN T' n ≤ cntN T n := by
  intro n
  induction n with
  | zero => intro _; exact Nat.le_refl _
  | succ n ih =>
    intro a
    have b := ih (fun j hj => a j (by omega))
    have c := a n (by omega)
    unfold cntN
    by_cases e : T n = true
    · rw [if_pos e, if_pos (c e)]; omega
    · rw [if_neg e]; split <;> omega
theorem cntN_lt {T T' : Nat → Bool} : ∀ n, (∀ j, j < n → T j = true → T' j = true) → (∃ j, j < n ∧ T j = false ∧ T' j = true) → cntN T' n < cntN T n := by
  intro n
  induction n with
  | zero => rintro _ ⟨j, h, _⟩; omega
  | succ n ih =>
    rintro a ⟨j, h1, h2, h3⟩
    have c := a n (by omega)
    have b := cntN_le n (fun j hj => a j (by omega))
    unfold cntN
    by_cases e : j = n
    · subst e
      rw [if_pos h3, if_neg (show ¬ T j = true from fun z => by rw [h2] at z; cases z)]; omega
    · have b2 := ih (fun j hj => a j (by omega)) ⟨j, by omega, h2, h3⟩
      by_cases e : T n = true
      · rw [if_pos e, if_pos (c e)]; omega
      · rw [if_neg e]; split <;> omega
theorem cntN_n {T : Nat → Bool} : ∀ n, cntN T n ≤ n := by
  intro n
  induction n with
  | zero => exact Nat.le_refl _
  | succ n ih => unfold cntN; split <;> omega
theorem all_through (a : VRnd σ0 r h s nr nc cx P T g) (w : ∀ j, j < 320 → T j = false → Wt cx nr nc P T j) : ∀ j, j < 320 → T j = true := by
  intro j hj
  cases e : T j with
  | true => rfl
  | false =>
    exfalso
    obtain ⟨i, hi, hc⟩ := cycle (R := LDr cx nr nc P) (n := 320) (D := fun k => k < 320 ∧ T k = false) (k := j) (fun i hi => ⟨hi.1, by
      obtain ⟨b, b1, b2, b3⟩ := w i hi.1 hi.2
      exact ⟨b, ⟨b1, b3⟩, b2⟩⟩) ⟨hj, e⟩
    have := a.2.2.2.2 i hi.1 (Or.inr hc)
    rw [hi.2] at this; cases this
theorem t_values_f {K : gMem → Option gMem} {Φ : gMem → Prop} (hN : 400 ≤ N) (hs : s ≤ 40) (hV : V ≤ s) (cs : CtS σ0 h s nr nc cx V P) (hK : ∀ r T g, VRnd σ0 r h s nr nc cx P T g → (∀ j, j < 320 → T j = true) → Ev (K r) Φ) : ∀ (m f : Nat) (r : gMem) (T : Nat → Bool) (g : Nat → Vl), cntN T 320 ≤ m → m + 1 < f → VRnd σ0 r h s nr nc cx P T g → Ev (tw_valuesOf_l225 N h s K f 1 r) Φ := by
  intro m
  induction m with
  | zero =>
    intro f r T g h1 h2 a
    obtain ⟨f, rfl⟩ : ∃ j, f = j + 2 := ⟨f - 2, by omega⟩
    unfold tw_valuesOf_l225
    refine Ev.f (by decide) (t_values_e (T0 := T) hN hs hV cs (fun y r2 T2 g2 a2 t2 st => ?_) 320 0 N 0 r T g (by omega) (by omega) a (fun _ _ z => z) (Or.inl ⟨rfl, fun j hj => by omega⟩))
    rcases st with ⟨rfl, st⟩ | ⟨_, st⟩
    · unfold tw_valuesOf_l225
      exact Ev.g rfl (hK r2 T2 g2 a2 (all_through a2 st))
    · have := cntN_lt 320 t2 st; omega
  | succ m ih =>
    intro f r T g h1 h2 a
    obtain ⟨f, rfl⟩ : ∃ j, f = j + 2 := ⟨f - 2, by omega⟩
    unfold tw_valuesOf_l225
    refine Ev.f (by decide) (t_values_e (T0 := T) hN hs hV cs (fun y r2 T2 g2 a2 t2 st => ?_) 320 0 N 0 r T g (by omega) (by omega) a (fun _ _ z => z) (Or.inl ⟨rfl, fun j hj => by omega⟩))
    rcases st with ⟨rfl, st⟩ | ⟨rfl, st⟩
    · unfold tw_valuesOf_l225
      exact Ev.g rfl (hK r2 T2 g2 a2 (all_through a2 st))
    · have := cntN_lt 320 t2 st
      exact ih (f + 1) r2 T2 g2 (by omega) (by omega) a2
/-- who is through while cycles are sought -/
def Tc (nr nc : Nat) (P : Nat → Ct) (C : Nat → Bool) (i j : Nat) : Bool := notF nr nc P j || (decide (j < i) && C j)
def V165 (σ0 r : gMem) (h s nr nc : Nat) (cx : Cx) (P : Nat → Ct) (C : Nat → Bool) (i : Nat) (g : Nat → Vl) : Prop :=
  VS σ0 r h s cx g ∧ (∀ a b, a < 320 → b < 320 → (BT r (h + 38) a b = true ↔ a < 320 ∧ LDr cx nr nc P a b)) ∧ (∀ j, j < 320 → BT r (h + 39) j j = C j) ∧ ThT r h (Tc nr nc P C i) ∧
  (∀ j, j < 320 → inB nr nc j → (P j).2 = [] → g j = (P j).1) ∧ (∀ j, j < i → C j = true → notF nr nc P j = false → g j = vErr 6)
theorem t_values_d {C : Nat → Bool} {K : gMem → Option gMem} {Φ : gMem → Prop} (hN : 400 ≤ N) (hs : s ≤ 40) (hT : mT σ0 (h + 39) = 101) (hL : mN σ0 (h + 39) = 1600) (hK : ∀ r g, V165 σ0 r h s nr nc cx P C 320 g → Ev (K r) Φ) : ∀ (m i f : Nat) (r : gMem) (g : Nat → Vl), i + m = 320 → m < f → V165 σ0 r h s nr nc cx P C i g → Ev (tw_valuesOf_l165 N h s K f i r) Φ := by
  intro m
  induction m with
  | zero =>
    intro i f r g h1 h2 a
    obtain ⟨f, rfl⟩ : ∃ j, f = j + 1 := ⟨f - 1, by omega⟩
    obtain rfl : i = 320 := by omega
    unfold tw_valuesOf_l165
    exact Ev.g (by decide) (hK r g a)
  | succ m ih =>
    intro i f r g h1 h2 a
    obtain ⟨f, rfl⟩ : ∃ j, f = j + 1 := ⟨f - 1, by omega⟩
    have hi : i < 320 := by omega
    obtain ⟨vs, bt, bc, th, pv, ce⟩ := a
    have X := vs.1
    have ew : w32 (320 * (s : Int) + (i : Int)) = ((320 * s + i : Nat) : Int) := by rw [w32_i (by omega) (by omega)]; omega
    have ti : Tc nr nc P C i i = notF nr nc P i := by unfold Tc; rw [decide_eq_false (show ¬ i < i by omega), Bool.false_and, Bool.or_false]
    have tj : ∀ j, j ≠ i → Tc nr nc P C (i + 1) j = Tc nr nc P C i j := fun j hj => by
      unfold Tc
      by_cases e : j < i
      · rw [decide_eq_true e, decide_eq_true (show j < i + 1 by omega)]
      · rw [decide_eq_false e, decide_eq_false (show ¬ j < i + 1 by omega)]
    have ti2 : Tc nr nc P C (i + 1) i = (notF nr nc P i || C i) := by unfold Tc; rw [decide_eq_true (show i < i + 1 by omega), Bool.true_and]
    unfold tw_valuesOf_l165 tw_valuesOf_l165_j217
    rw [tn, (th i hi).1, ti, ew, inc32 (by omega)]
    refine Ev.f (by omega) (Ev.g (by omega) ?_)
    have SK : (notF nr nc P i = true ∨ C i = false) → Ev (tw_valuesOf_l165 N h s K f ((i + 1 : Nat) : Int) r) Φ := by
      intro z
      refine ih (i + 1) f r g (by omega) (by omega) ⟨vs, bt, bc, th.cg (fun j hj => ?_), pv, fun j hj c1 c2 => ?_⟩
      · by_cases e : j = i
        · rw [e, ti, ti2]
          rcases z with z | z
          · rw [z]; rfl
          · rw [z, Bool.or_false]
        · rw [tj j e]
      · by_cases e : j = i
        · rw [e] at c1 c2
          rcases z with z | z
          · rw [z] at c2; cases c2
          · rw [z] at c1; cases c1
        · exact ce j (by omega) c1 c2
    cases nf : notF nr nc P i with
    | true => exact Ev.g (by rw [if_pos rfl]; decide) (SK (Or.inl nf))
    | false =>
      refine Ev.f (by rw [if_neg (show ¬ false = true from fun z => by cases z)]; exact fun z => z rfl) ?_
      refine Ev.e (t_bit (by rw [X.rT]; exact hT) (by rw [X.rN]; exact hL) hi hi) ?_
      rw [bc i hi]
      cases hC : C i with
      | false => exact Ev.g rfl (SK (Or.inr hC))
      | true =>
        refine Ev.f (by decide) (Ev.c (t_through hi) (fun r2 _ u => ?_))
        have vs2 := vs.tq u.1
        refine Ev.c (t_error (d := 0) (c := 6) (by omega) (by decide) (by decide)) (fun r3 _ e3 => ?_)
        refine Ev.c (t_store (d := 0) (v := vErr 6) (by omega) (show 320 * s + i < 13120 by omega) (by omega) (e3.2.1 vs2.2.1) e3.2.2) (fun r4 _ e4 => ?_)
        have Z : Ex (Zv h (320 * s + i)) r2 r4 := (e3.1.mono (fun _ _ p => Or.inl (Pv.hp p))).tr (e4.1.mono (fun _ _ p => Or.inr p))
        refine ih (i + 1) f r4 (newVl g i (vErr 6)) (by omega) (by omega) ⟨vs2.cell hi Z e4.2.1 e4.2.2, fun a b ha hb => ?_, fun j hj => ?_, ((th.add u.1 u.2.1 u.2.2).zv Z).cg (fun j hj => ?_), fun j hj jb je => ?_, fun j hj c1 c2 => ?_⟩
        · rw [BT.ex Z (fun _ => Zv.s38 (by omega)), BT.lf u.1]; exact bt a b ha hb
        · rw [BT.ex Z (fun _ => Zv.s38 (by omega)), BT.ex u.1 (fun k => by unfold Tq; omega)]; exact bc j hj
        · show (Tc nr nc P C i j || decide (j = i)) = _
          by_cases e : j = i
          · rw [e, ti2, hC, decide_eq_true (show i = i from rfl), Bool.or_true, Bool.or_true]
          · rw [tj j e, decide_eq_false e, Bool.or_false]
        · unfold newVl
          by_cases e : j = i
          · exfalso
            rw [e] at je
            have := notF_iff (nr := nr) (nc := nc) (P := P) (k := i) |>.mpr (Or.inr je)
            rw [nf] at this; cases this
          · rw [if_neg e]; exact pv j hj jb je
        · unfold newVl
          by_cases e : j = i
          · rw [if_pos e]
          · rw [if_neg e]; exact ce j (by omega) c1 c2
/-- the twin values a sheet as it should be -/
theorem t_valuesOf (hN : 2000 ≤ N) (hs : s ≤ 40) (hV : V ≤ s) (hT : mT σ (h + 39) = 101) (hL : mN σ (h + 39) = 1600) (cs : CtS σ h s nr nc cx V P) (tb : TB σ h) (tc : TCx σ h s (cxv cx s g)) : Ev (tw_valuesOf N h s σ) (fun r => Ex (Sv h s) σ r ∧ TB r h ∧ ∃ g', TCx r h s (cxv cx s g') ∧ IsVal (cxv cx s g') nr nc P) := by
  have wB : ∀ a b, LDr cx nr nc P a b → b < 320 := fun a b z => by
    obtain ⟨-, -, hr, hc, -, cw, c1, c2⟩ := cs
    obtain ⟨⟨n, wf⟩, -⟩ := cw a z.1 z.2.1
    have := leads_inB c1 c2 hc n _ wf b z.2.2
    unfold inB at this; omega
  have aB : ∀ a b, LDr cx nr nc P a b → a < 320 := fun a b z => by
    obtain ⟨-, -, hr, hc, -⟩ := cs
    have := z.1
    unfold inB at this; omega
  unfold tw_valuesOf
  refine t_values_a (σ0 := σ) (fun r1 X1 z1 => ?_) 1600 0 N σ (by omega) (by omega) Ex.rf (fun k hk => by omega)
  refine t_values_b (σ0 := r1) (fun r2 X2 z2 => ?_) 5 0 N r1 (by omega) (by omega) Ex.rf (fun k hk => by omega)
  have vs0 : VS σ σ h s cx g := ⟨Ex.rf, tb, tc⟩
  have vs2 : VS σ r2 h s cx g := (vs0.ex X1 (fun a k p => by unfold Lp at p; omega)).ex X2 (fun a k p => by unfold Mp at p; omega)
  refine t_values_c (σ0 := σ) (by omega) hs cs (fun r3 g3 v3 => ?_) 320 0 N r2 g (by omega) (by omega) ⟨vs2, fun a b ha hb => ?_, fun j hj => by omega, fun j hj => ?_, fun j hj => by omega⟩
  · have X3 := v3.1.1
    refine Ev.c (t_close hN (by rw [X3.rT]; exact hT) (by rw [X3.rN]; exact hL)) (fun r4 _ c4 => ?_)
    have CL : ∀ p q, p < 320 → q < 320 → (BT r4 (h + 39) p q = true ↔ Relation.TransGen (LDr cx nr nc P) p q) := by
      intro p q hp hq
      rw [c4.2 p q hp hq]
      have e : (fun i j => i < 320 ∧ j < 320 ∧ BT r3 (h + 38) i j = true) = LDr cx nr nc P := by
        funext i j
        refine propext ⟨fun z => ((v3.2.1 i j z.1 z.2.1).mp z.2.2).2, fun z => ⟨aB i j z, wB i j z, (v3.2.1 i j (aB i j z) (wB i j z)).mpr ⟨aB i j z, z⟩⟩⟩
      rw [e]
    refine t_values_d (σ0 := σ) (C := fun j => BT r4 (h + 39) j j) (nr := nr) (nc := nc) (cx := cx) (P := P) (by omega) hs hT hL (fun r5 g5 v5 => ?_) 320 0 N r4 g3 (by omega) (by omega) ⟨v3.1.ex c4.1 (fun a k p => by unfold Kp at p; omega), fun a b ha hb => ?_, fun j hj => rfl, fun j hj => ⟨?_, ?_⟩, fun j hj jb je => v3.2.2.2.2 j hj jb je, fun j hj => by omega⟩
    · obtain ⟨vs5, bt5, bc5, th5, pv5, ce5⟩ := v5
      refine t_values_f (σ0 := σ) (by omega) hs hV cs (fun r6 T6 g6 v6 al => Ev.r ⟨v6.1.1, v6.1.2.1, g6, v6.1.2.2, fun k hk => ?_⟩) 320 N r5 (Tc nr nc P (fun j => BT r4 (h + 39) j j) 320) g5 (cntN_n 320) (by omega) ⟨vs5, bt5, th5, fun j hj jt jb => ?_, fun j hj jn => ?_⟩
      · have hk' : k < 320 := by have c := cs.2.2.1; have c' := cs.2.2.2.1; unfold inB at hk; omega
        have G := v6.2.2.2.1 k hk' (al k hk') hk
        have eg : (cxv cx s g6).2 (-1) = g6 := by unfold cxv; dsimp only; rw [if_pos (by unfold shn; rw [if_pos (by decide)])]
        rw [eg]
        exact ⟨G.1, fun z => ⟨(G.2 z).1, fun y => ((G.2 z).2 y).2⟩⟩
      · refine ⟨fun z => pv5 j hj jb z, fun z => ⟨fun y => ?_, fun y => ?_⟩⟩
        · refine ce5 j hj ((CL j j hj hj).mpr y) ?_
          cases e : notF nr nc P j with
          | false => rfl
          | true => exact absurd (notF_iff.mp e) (fun u => u.elim (fun u => u jb) z)
        · exfalso
          unfold Tc at jt
          rw [Bool.or_eq_true, Bool.and_eq_true] at jt
          rcases jt with u | u
          · exact (notF_iff.mp u).elim (fun u => u jb) z
          · exact y ((CL j j hj hj).mp u.2)
      · unfold Tc
        rcases jn with u | u
        · rw [u]; rfl
        · show (notF nr nc P j || (decide (j < 320) && BT r4 (h + 39) j j)) = true
          rw [decide_eq_true hj, (CL j j hj hj).mpr u]; simp
    · rw [BT.ex c4.1 (fun k => by unfold Kp; omega)]; exact v3.2.1 a b ha hb
    · rw [c4.1.rI (by unfold Kp; omega), v3.2.2.1 j hj]
      unfold Tc; rw [decide_eq_false (show ¬ j < 0 by omega), Bool.false_and, Bool.or_false]
    · have := v3.2.2.2.1 j hj
      unfold TH at this
      rw [c4.1.rL (by unfold Kp; omega), this]
      unfold Tc; rw [decide_eq_false (show ¬ j < 0 by omega), Bool.false_and, Bool.or_false, decide_eq_true hj, Bool.true_and]
  · have z0 : BT r2 (h + 38) a b = false := by
      unfold BT
      rw [X2.rL (by unfold Mp; omega), z1 _ (by omega)]
      exact (tb_zero (by decide)).mp rfl _ (by omega)
    rw [z0]
    exact ⟨fun z => (by cases z), fun z => absurd z.1 (by omega)⟩
  · have z0 : TH r2 h j = false := by
      unfold TH
      rw [z2 _ (by omega)]
      exact (tb_zero (by decide)).mp rfl _ (by omega)
    rw [z0, decide_eq_false (show ¬ j < 0 by omega), Bool.false_and]
end TwSheetVal4
