/-! ===== PHASE 2: the twin's graph: a sheet is valued: plain cells, leads ===== -/
section TwSheetVal2
variable {N h s q : Nat} {σ σ' σ0 r r' : gMem} {cx : Cx} {l : Fm} {g : Nat → Vl}
/-- is it no formula of the sheet? -/
def notF (nr nc : Nat) (P : Nat → Ct) (k : Nat) : Bool := !(decide (k / 10 < nr) && decide (k % 10 < nc)) || (P k).2.isEmpty
theorem notF_iff {nr nc : Nat} {P : Nat → Ct} {k : Nat} : notF nr nc P k = true ↔ ¬ inB nr nc k ∨ (P k).2 = [] := by
  unfold notF inB
  rw [Bool.or_eq_true, List.isEmpty_iff]
  by_cases a : k / 10 < nr
  · by_cases b : k % 10 < nc
    · simp [a, b]
    · simp [a, b]
  · simp [a]
/-- what the sheet's contents are, before it is valued -/
def CtS (σ0 : gMem) (h s nr nc : Nat) (cx : Cx) (V : Int) (P : Nat → Ct) : Prop :=
  mI σ0 (h + 1) s = nr ∧ mI σ0 (h + 2) s = nc ∧ nr ≤ 32 ∧ nc ≤ 10 ∧ (∀ k, inB nr nc k → CtT σ0 h (mI σ0 (h + 5) (320 * s + k)) (P k)) ∧
  (∀ k, inB nr nc k → (P k).2 ≠ [] → (∃ n, Wf n (P k).2) ∧ ∀ p ∈ (P k).2, pW p < V) ∧ (cx.1 (-1)).1.length = nr ∧ (cx.1 (-1)).2.length = nc
/-- so far: cells below i are laid -/
def V44 (σ0 r : gMem) (h s nr nc : Nat) (cx : Cx) (P : Nat → Ct) (i : Nat) (g : Nat → Vl) : Prop :=
  VS σ0 r h s cx g ∧ (∀ a b, a < 320 → b < 320 → (BT r (h + 38) a b = true ↔ a < i ∧ LDr cx nr nc P a b)) ∧
  (∀ j, j < i → mI r (h + 40) j = if notF nr nc P j then 1 else 0) ∧ (∀ j, j < 320 → TH r h j = (decide (j < i) && notF nr nc P j)) ∧
  (∀ j, j < i → inB nr nc j → (P j).2 = [] → g j = (P j).1)
theorem BT.lf {a : Nat} (x : Ex (Tq h a) r r') (p k : Nat) : BT r' (h + 38) p k = BT r (h + 38) p k := BT.ex x (fun k => by unfold Tq; omega)
theorem TH.ex {P : Nat → Nat → Prop} {j : Nat} (x : Ex P r r') (n : ∀ k, ¬ P (h + 41) k) : TH r' h j = TH r h j := by unfold TH; rw [x.rL (n _)]
theorem VS.tq {k : Nat} (a : VS σ0 r h s cx g) (x : Ex (Tq h k) r r') : VS σ0 r' h s cx g := a.ex x (fun a k p => by unfold Tq at p; omega)
theorem t_values_c {nr nc : Nat} {P : Nat → Ct} {V : Int} {K : gMem → Option gMem} {Φ : gMem → Prop} (hN : 400 ≤ N) (hs : s ≤ 40) (cs : CtS σ0 h s nr nc cx V P) (hK : ∀ r g, V44 σ0 r h s nr nc cx P 320 g → Ev (K r) Φ) : ∀ (m i f : Nat) (r : gMem) (g : Nat → Vl), i + m = 320 → m < f → V44 σ0 r h s nr nc cx P i g → Ev (tw_valuesOf_l44 N h s K f i r) Φ := by
  obtain ⟨cr, cc, hr, hc, ct, cw, c1, c2⟩ := cs
  have sv : ∀ o k, 1 ≤ o → o ≤ 27 → ¬ Sv h s (h + o) k := fun o k h1 h2 z => by have := z.out; omega
  intro m
  induction m with
  | zero =>
    intro i f r g h1 h2 a
    obtain ⟨f, rfl⟩ : ∃ j, f = j + 1 := ⟨f - 1, by omega⟩
    obtain rfl : i = 320 := by omega
    unfold tw_valuesOf_l44
    exact Ev.g (by decide) (hK r g a)
  | succ m ih =>
    intro i f r g h1 h2 a
    obtain ⟨f, rfl⟩ : ∃ j, f = j + 1 := ⟨f - 1, by omega⟩
    have hi : i < 320 := by omega
    obtain ⟨vs, bt, it, th, pv⟩ := a
    have X := vs.1
    have et : w32 (Int.tdiv (i : Int) 10) = ((i / 10 : Nat) : Int) := by rw [Int.tdiv_eq_ediv_of_nonneg (by omega), w32_i (by omega) (by omega)]; omega
    have em : w32 (Int.tmod (i : Int) 10) = ((i % 10 : Nat) : Int) := by rw [Int.tmod_eq_emod_of_nonneg (by omega), w32_i (by omega) (by omega)]; omega
    have ei : (320 * (s : Int) + (i : Int)).toNat = 320 * s + i := by omega
    have ew : w32 (320 * (s : Int) + (i : Int)) = ((320 * s + i : Nat) : Int) := by rw [w32_i (by omega) (by omega)]; omega
    -- through, without a value
    have TT : ∀ r2 : gMem, Ex (Tq h i) r r2 → mI r2 (h + 40) i = 1 → (∀ j, j < 320 → TH r2 h j = (TH r h j || decide (j = i))) → notF nr nc P i = true →
        (∀ a b, a < 320 → b < 320 → (BT r2 (h + 38) a b = true ↔ a < i + 1 ∧ LDr cx nr nc P a b)) ∧ (∀ j, j < i + 1 → mI r2 (h + 40) j = if notF nr nc P j then 1 else 0) ∧ (∀ j, j < 320 → TH r2 h j = (decide (j < i + 1) && notF nr nc P j)) := by
      intro r2 x x1 x2 nf
      refine ⟨fun a b ha hb => ?_, fun j hj => ?_, fun j hj => ?_⟩
      · rw [BT.lf x, bt a b ha hb]
        constructor
        · intro z; exact ⟨by omega, z.2⟩
        · intro z
          refine ⟨?_, z.2⟩
          by_cases e : a = i
          · exfalso
            rcases notF_iff.mp nf with y | y
            · exact y (by rw [← e]; exact z.2.1)
            · exact z.2.2.1 (by rw [e]; exact y)
          · omega
      · by_cases e : j = i
        · rw [e, x1, nf]; rfl
        · rw [x.rI (by unfold Tq; omega)]; exact it j (by omega)
      · rw [x2 j hj, th j hj]
        by_cases e : j = i
        · rw [e, nf, decide_eq_true (show i = i from rfl), decide_eq_true (show i < i + 1 by omega), Bool.or_true]; rfl
        · rw [decide_eq_false e, Bool.or_false]
          by_cases e2 : j < i
          · rw [decide_eq_true e2, decide_eq_true (show j < i + 1 by omega)]
          · rw [decide_eq_false e2, decide_eq_false (show ¬ j < i + 1 by omega)]
    unfold tw_valuesOf_l44 tw_valuesOf_l44_j81 tw_valuesOf_l44_j82 tw_valuesOf_l44_j121 tw_valuesOf_l44_j153
    rw [tn, X.rI (sv 1 _ (by omega) (by omega)), X.rI (sv 2 _ (by omega) (by omega)), cr, cc, et, em, ei, ew, inc32 (by omega)]
    have gs : (0 : Int) ≤ (s : Int) ∧ (s : Int) < ((122 : Nat) : Int) := by omega
    have gc : (0 : Int) ≤ 320 * (s : Int) + (i : Int) ∧ 320 * (s : Int) + (i : Int) < ((39040 : Nat) : Int) := by omega
    have gi : (0 : Int) ≤ (i : Int) ∧ (i : Int) < ((320 : Nat) : Int) := by omega
    have OUT : ¬ inB nr nc i → Ev ((tw_goesThrough h i r).bind (fun x12 => if (0 : Int) = 0 then tw_valuesOf_l44 N h s K f ((i + 1 : Nat) : Int) x12 else if (0 : Int) ≤ 320 * (s : Int) + (i : Int) ∧ 320 * (s : Int) + (i : Int) < ((39040 : Nat) : Int) then (tw_plainValue N h (mI x12 (h + 5) (320 * s + i)) ((320 * s + i : Nat) : Int) x12).bind (fun x16 => tw_valuesOf_l44 N h s K f ((i + 1 : Nat) : Int) x16) else none)) Φ := by
      intro no
      refine Ev.c (t_through hi) (fun r2 _ y => Ev.g rfl ?_)
      have t := TT r2 y.1 y.2.1 y.2.2 (notF_iff.mpr (Or.inl no))
      refine ih (i + 1) f r2 g (by omega) (by omega) ⟨vs.tq y.1, t.1, t.2.1, t.2.2, fun j hj jb je => ?_⟩
      by_cases e : j = i
      · exact absurd (e ▸ jb) no
      · exact pv j (by omega) jb je
    refine Ev.f (by omega) (Ev.g gs ?_)
    by_cases b1 : i / 10 < nr
    · refine Ev.f (by omega) (Ev.g gs ?_)
      by_cases b2 : i % 10 < nc
      · refine Ev.f (by omega) (Ev.f (by decide) (Ev.g gc ?_))
        have ib : inB nr nc i := ⟨b1, b2⟩
        rw [X.rI (sv 5 _ (by omega) (by omega))]
        have cti := ct i ib
        have isf := cti.isF r
        by_cases cF : (P i).2 = []
        · refine Ev.e (isf.1 cF) (Ev.g rfl (Ev.c (t_through hi) (fun r2 _ y => Ev.f (by decide) (Ev.g gc ?_))))
          have t := TT r2 y.1 y.2.1 y.2.2 (notF_iff.mpr (Or.inr cF))
          have vs2 := vs.tq y.1
          rw [vs2.1.rI (sv 5 _ (by omega) (by omega))]
          have ct2 : CtT r2 h (mI σ0 (h + 5) (320 * s + i)) (P i) := cti.ex vs2.1 (fun o k z1 z2 => sv o k (by omega) (by omega))
          refine Ev.c (t_plainValue hN (by omega) vs2.2.2.1 vs2.2.1 ct2 cF) (fun r3 _ z => ?_)
          refine ih (i + 1) f r3 (newVl g i (P i).1) (by omega) (by omega) ⟨vs2.cell hi z.1 z.2.1 z.2.2, fun a b ha hb => ?_, fun j hj => ?_, fun j hj => ?_, fun j hj jb je => ?_⟩
          · rw [BT.ex z.1 (fun _ => Zv.s38 (by omega))]; exact t.1 a b ha hb
          · rw [z.1.rI (Zv.s38 (by omega))]; exact t.2.1 j hj
          · rw [TH.ex z.1 (fun _ => Zv.s38 (by omega))]; exact t.2.2 j hj
          · unfold newVl
            by_cases e : j = i
            · rw [if_pos e, e]
            · rw [if_neg e]; exact pv j (by omega) jb je
        · obtain ⟨q1, q, q2, q3⟩ := isf.2 cF
          refine Ev.e q1 (Ev.f (by decide) (Ev.g gi (Ev.l ?_)))
          rw [tn]
          have X1 : Ex (fun a k => a = h + 40 ∧ k = i) r (wI r (h + 40) i 0) := Ex.rf.I ⟨rfl, rfl⟩
          have i1 : mI (wI r (h + 40) i 0) (h + 40) i = 0 := by rw [mI_wI, if_pos ⟨rfl, rfl⟩]; rfl
          generalize wI r (h + 40) i 0 = r1 at *
          have vs1 : VS σ0 r1 h s cx g := vs.ex X1 (fun a k p => by omega)
          have c5 : mI r1 (h + 5) (320 * s + i) = ((q + 1 : Nat) : Int) := by rw [vs1.1.rI (sv 5 _ (by omega) (by omega))]; exact q2
          refine Ev.c (t_leadsOf (q := q) (l := (P i).2) (n := (cw i ib cF).1.choose) hN hi hs c5 vs1.2.2 (q3.ex vs1.1 (fun o k z1 z2 => sv o k (by omega) (by omega))) (cw i ib cF).1.choose_spec) (fun r3 _ z => ?_)
          have nf : notF nr nc P i = false := by
            cases e : notF nr nc P i with
            | false => rfl
            | true => exact absurd (notF_iff.mp e) (fun y => y.elim (fun y => y ib) cF)
          refine ih (i + 1) f r3 g (by omega) (by omega) ⟨vs1.ex z.1 (fun a k p => by unfold Lf Ap at p; omega), fun a b ha hb => ?_, fun j hj => ?_, fun j hj => ?_, fun j hj jb je => ?_⟩
          · rw [z.2 a b hb, BT.ex X1 (fun k => by omega), bt a b ha hb]
            constructor
            · rintro (y | ⟨y1, y2⟩)
              · exact ⟨by omega, y.2⟩
              · exact ⟨by omega, by rw [y1]; exact ib, by rw [y1]; exact cF, by rw [y1]; exact y2⟩
            · rintro ⟨y1, y2⟩
              by_cases e : a = i
              · exact Or.inr ⟨e, by rw [← e]; exact y2.2.2⟩
              · exact Or.inl ⟨by omega, y2⟩
          · rw [z.1.rI (by unfold Lf Ap; omega)]
            by_cases e : j = i
            · rw [e, i1, nf]; rfl
            · rw [X1.rI (by omega)]; exact it j (by omega)
          · rw [TH.ex z.1 (fun _ => by unfold Lf Ap; omega), TH.ex X1 (fun _ => by omega), th j hj]
            by_cases e : j = i
            · rw [e, nf, Bool.and_false, Bool.and_false]
            · by_cases e2 : j < i
              · rw [decide_eq_true e2, decide_eq_true (show j < i + 1 by omega)]
              · rw [decide_eq_false e2, decide_eq_false (show ¬ j < i + 1 by omega)]
          · by_cases e : j = i
            · exact absurd (e ▸ je) cF
            · exact pv j (by omega) jb je
      · exact Ev.g (by omega) (Ev.g rfl (OUT (fun z => b2 z.2)))
    · exact Ev.g (by omega) (Ev.g rfl (OUT (fun z => b1 z.1)))
end TwSheetVal2
