/-! ===== PHASE 2: the twin's graph: a sheet is valued, to begin with ===== -/
section TwSheetVal
variable {N h s q : Nat} {σ σ' σ0 r r' : gMem} {cx : Cx} {l : Fm} {g : Nat → Vl}
theorem FmT.ex {P : Nat → Nat → Prop} (x : Ex P σ σ') (hP : ∀ o k, 5 ≤ o → o ≤ 26 → ¬ P (h + o) k) (g : FmT σ h q l) : FmT σ' h q l := by
  obtain ⟨f1, f2, f3, f4, ⟨n, hn, sp⟩, f5, f6⟩ := g
  refine ⟨f1, f2, f3, ?_, ⟨n, hn, SpT.ex x (fun o k hh => hP o k (by omega) (by omega)) _ _ _ sp⟩, f5, fun i hi => ?_⟩
  · rw [x.rI (hP 26 _ (by omega) (by omega))]; exact f4
  · obtain ⟨a, b, c, d⟩ := f6 i hi
    refine ⟨a.ex x (fun o k hh => hP o k (by omega) (by omega)), b, ?_, d⟩
    rw [x.rI (hP 24 _ (by omega) (by omega))]; exact c
theorem VP.ex {P : Nat → Nat → Prop} {v : Vl} (x : Ex P σ σ') (hP : ∀ o k, 5 ≤ o → o ≤ 26 → ¬ P (h + o) k) (g : VP σ h q v) : VP σ' h q v := by
  obtain ⟨a, b, c, d, e1, e2, e3, at', e4, e5, e6⟩ := g
  refine ⟨a, b, c, d, ?_, ?_, ?_, at', ?_, e5, fun i hi => ?_⟩
  · rw [x.rI (hP 10 _ (by omega) (by omega))]; exact e1
  · rw [x.rL (hP 11 _ (by omega) (by omega))]; exact e2
  · rw [x.rI (hP 13 _ (by omega) (by omega))]; exact e3
  · rw [x.rI (hP 12 _ (by omega) (by omega))]; exact e4
  · rw [x.rI (hP 9 _ (by omega) (by omega))]; exact e6 i hi
theorem CtT.ex {P : Nat → Nat → Prop} {c : Int} {ct : Ct} (x : Ex P σ σ') (hP : ∀ o k, 5 ≤ o → o ≤ 26 → ¬ P (h + o) k) (g : CtT σ h c ct) : CtT σ' h c ct := by
  rcases g with g | ⟨q, a, b, c, d⟩ | ⟨q, a, b, c⟩
  · exact Or.inl g
  · exact Or.inr (Or.inl ⟨q, a, b, c, d.ex x hP⟩)
  · exact Or.inr (Or.inr ⟨q, a, b, c.ex x hP⟩)
theorem CtT.isF {c : Int} {ct : Ct} (g : CtT σ h c ct) (τ : gMem) : (ct.2 = [] → tw_isFormula c τ = some 0) ∧ (ct.2 ≠ [] → tw_isFormula c τ = some 1 ∧ ∃ q : Nat, c = ((q + 1 : Nat) : Int) ∧ FmT σ h q ct.2) := by
  unfold tw_isFormula
  rcases g with ⟨rfl, rfl⟩ | ⟨q, rfl, b, -, d⟩ | ⟨q, rfl, b, c⟩
  · exact ⟨fun _ => by rw [if_pos (by omega)], fun z => absurd rfl z⟩
  · refine ⟨fun z => ?_, fun _ => ⟨by rw [if_neg (by omega), if_neg (by omega)], q, rfl, d⟩⟩
    have := d.1; rw [z] at this; simp at this
  · exact ⟨fun _ => by rw [if_neg (by omega), if_pos (by omega)], fun z => absurd b z⟩
/-- what valuing sheet s may change -/
def Sv (h s a k : Nat) : Prop := Pv h 0 a k ∨ (h + 38 ≤ a ∧ a ≤ h + 41) ∨ ((a = h + 28 ∨ a = h + 29 ∨ a = h + 30) ∧ 320 * s ≤ k ∧ k < 320 * s + 320) ∨ (a = h + 31 ∧ 7680 * s ≤ k ∧ k < 7680 * s + 7680)
theorem Sv.out {a k : Nat} (x : Sv h s a k) : h + 28 ≤ a ∨ a = h := by
  rcases x with x | x
  · have := x.out; omega
  · omega
theorem Zv.sv {a k c : Nat} (hc : c < 320) (x : Zv h (320 * s + c) a k) : Sv h s a k := by
  rcases x with x | x
  · exact Or.inl x
  · unfold Cp at x; unfold Sv; omega
theorem Pv.s38 {o k : Nat} (h1 : 38 ≤ o) : ¬ Pv h 0 (h + o) k := by unfold Pv Hg; omega
theorem Zv.s38 {o k c : Nat} (h1 : 38 ≤ o) : ¬ Zv h c (h + o) k := by unfold Zv Pv Hg Cp; omega
/-- own values are g -/
def cxv (cx : Cx) (s : Nat) (g : Nat → Vl) : Cx := (cx.1, fun ver => if shn s ver = s then g else cx.2 ver)
def newVl (g : Nat → Vl) (k : Nat) (v : Vl) : Nat → Vl := fun j => if j = k then v else g j
theorem TCx.cell {k : Nat} {v : Vl} (hk : k < 320) (x : Ex (Zv h (320 * s + k)) r r') (tc : TCx r h s (cxv cx s g)) (vc : VC r' h (320 * s + k) v) : TCx r' h s (cxv cx s (newVl g k v)) := by
  obtain ⟨g1, g2, g3, g4, g5⟩ := tc
  have hQ : ∀ o j, 1 ≤ o → o ≤ 27 → ¬ Zv h (320 * s + k) (h + o) j := fun o j h1 h2 q => by have := (q.sv hk).out; omega
  refine ⟨g1.ex x, g2.ex x (fun b k q => by have := (q.sv hk).out; omega), fun t ht => ?_, fun ver h1 h2 => ?_, fun ver h1 h2 j hj => ?_⟩
  · rw [tLn.ex x (fun o k a b => hQ o k a (by omega)), tLn.ex x (fun o k a b => hQ o k a (by omega))]; exact g3 t ht
  · rw [tLs.ex x (fun o k a b => hQ o k a (by omega)), tLs.ex x (fun o k a b => hQ o k a (by omega))]; exact g4 ver h1 h2
  · have g6 := g5 ver h1 h2 j hj
    unfold cxv at g6 ⊢
    dsimp only at g6 ⊢
    by_cases e : shn s ver = s
    · rw [if_pos e] at g6 ⊢
      unfold newVl
      by_cases ej : j = k
      · rw [if_pos ej, e, ej]; exact vc
      · rw [if_neg ej]
        rw [e] at g6 ⊢
        exact VG.ex x g6 (by unfold Zv Pv Hg Cp; omega) (by unfold Zv Pv Hg Cp; omega) (by unfold Zv Pv Hg Cp; omega) (fun i hi => by unfold Zv Pv Hg Cp; omega)
    · rw [if_neg e] at g6 ⊢
      exact VG.ex x g6 (by unfold Zv Pv Hg Cp; omega) (by unfold Zv Pv Hg Cp; omega) (by unfold Zv Pv Hg Cp; omega) (fun i hi => by unfold Zv Pv Hg Cp; omega)
/-- the sheet's values are g by now -/
def VS (σ0 r : gMem) (h s : Nat) (cx : Cx) (g : Nat → Vl) : Prop := Ex (Sv h s) σ0 r ∧ TB r h ∧ TCx r h s (cxv cx s g)
theorem VS.cell {k : Nat} {v : Vl} (hk : k < 320) (a : VS σ0 r h s cx g) (x : Ex (Zv h (320 * s + k)) r r') (tb : TB r' h) (vc : VC r' h (320 * s + k) v) : VS σ0 r' h s cx (newVl g k v) :=
  ⟨a.1.tr (x.mono (fun _ _ p => p.sv hk)), tb, a.2.2.cell hk x vc⟩
theorem VS.ex {P : Nat → Nat → Prop} (x : Ex P r r') (hP : ∀ a k, P a k → (h + 38 ≤ a ∧ a ≤ h + 41) ∨ (a = h ∧ 71 ≤ k ∧ k ≤ 81)) (a : VS σ0 r h s cx g) : VS σ0 r' h s cx g :=
  ⟨a.1.tr (x.mono (fun _ _ p => (hP _ _ p).elim (fun z => Or.inr (Or.inl z)) (fun z => Or.inl (Or.inr z)))), a.2.1.ex x (fun o k ho q => by have := hP _ _ q; omega), a.2.2.ex x (fun o k q => by have := hP _ _ q; omega)⟩
def Tq (h k a i : Nat) : Prop := (a = h + 40 ∧ i = k) ∨ a = h + 41
def TH (r : gMem) (h j : Nat) : Bool := tb (mL r (h + 41) (j / 64)) (j % 64)
theorem t_through {k : Nat} (hk : k < 320) : Ev (tw_goesThrough h k σ) (fun r => Ex (Tq h k) σ r ∧ mI r (h + 40) k = 1 ∧ ∀ j, j < 320 → TH r h j = (TH σ h j || decide (j = k))) := by
  have e1 : Int.tdiv (k : Int) 64 = ((k / 64 : Nat) : Int) := by rw [Int.tdiv_eq_ediv_of_nonneg (by omega)]; omega
  have e2 : Int.tmod (k : Int) 64 = ((k % 64 : Nat) : Int) := by rw [Int.tmod_eq_emod_of_nonneg (by omega)]; omega
  unfold tw_goesThrough
  refine Ev.g (by omega) (Ev.l ?_)
  rw [e1, tn, tn, e2, c1L]
  refine Ev.g (by omega) (Ev.g (by omega) (Ev.l (Ev.r ⟨(Ex.rf.I (Or.inl ⟨rfl, rfl⟩)).L (Or.inr rfl), ?_, fun j hj => ?_⟩)))
  · rw [mI_wL, mI_wI, if_pos ⟨rfl, rfl⟩]; exact w32_id (by decide)
  · unfold TH
    rw [mL_wL]
    by_cases e : j / 64 = k / 64
    · rw [if_pos ⟨rfl, e⟩, w64_id (lOr_rng _ _), tb_or, tb_one (by omega) (by omega), Nat.mod_mod, mL_wI, ← e]
      congr 1
      by_cases c : j = k
      · rw [decide_eq_true c, decide_eq_true (by omega)]
      · rw [decide_eq_false c, decide_eq_false (by omega)]
    · rw [if_neg (fun z => e z.2), mL_wI, decide_eq_false (show ¬ j = k from fun z => e (by rw [z])), Bool.or_false]
theorem t_values_a {v1 : Int} {K : gMem → Option gMem} {Φ : gMem → Prop} (hK : ∀ r, Ex (Lp h) σ0 r → (∀ k, k < 1600 → mL r (h + 38) k = 0) → Ev (K r) Φ) : ∀ (m i f : Nat) (r : gMem), i + m = 1600 → m < f → Ex (Lp h) σ0 r → (∀ k, k < i → mL r (h + 38) k = 0) → Ev (tw_valuesOf_l2 N h v1 K f i r) Φ := by
  intro m
  induction m with
  | zero =>
    intro i f r h1 h2 X a
    obtain ⟨f, rfl⟩ : ∃ j, f = j + 1 := ⟨f - 1, by omega⟩
    unfold tw_valuesOf_l2
    exact Ev.g (by omega) (hK r X (fun k hk => a k (by omega)))
  | succ m ih =>
    intro i f r h1 h2 X a
    obtain ⟨f, rfl⟩ : ∃ j, f = j + 1 := ⟨f - 1, by omega⟩
    unfold tw_valuesOf_l2
    refine Ev.f (by omega) (Ev.g (by omega) (Ev.l ?_))
    rw [tn, inc32 (by omega)]
    refine ih (i + 1) f _ (by omega) (by omega) (X.L rfl) (fun k hk => ?_)
    rw [mL_wL]
    by_cases e : k = i
    · rw [if_pos ⟨rfl, e⟩]; rfl
    · rw [if_neg (fun z => e z.2)]; exact a k (by omega)
def Mp (h a : Nat) (_ : Nat) : Prop := a = h + 41
theorem t_values_b {v1 : Int} {K : gMem → Option gMem} {Φ : gMem → Prop} (hK : ∀ r, Ex (Mp h) σ0 r → (∀ k, k < 5 → mL r (h + 41) k = 0) → Ev (K r) Φ) : ∀ (m i f : Nat) (r : gMem), i + m = 5 → m < f → Ex (Mp h) σ0 r → (∀ k, k < i → mL r (h + 41) k = 0) → Ev (tw_valuesOf_l24 N h v1 K f i r) Φ := by
  intro m
  induction m with
  | zero =>
    intro i f r h1 h2 X a
    obtain ⟨f, rfl⟩ : ∃ j, f = j + 1 := ⟨f - 1, by omega⟩
    unfold tw_valuesOf_l24
    exact Ev.g (by omega) (hK r X (fun k hk => a k (by omega)))
  | succ m ih =>
    intro i f r h1 h2 X a
    obtain ⟨f, rfl⟩ : ∃ j, f = j + 1 := ⟨f - 1, by omega⟩
    unfold tw_valuesOf_l24
    refine Ev.f (by omega) (Ev.g (by omega) (Ev.l ?_))
    rw [tn, inc32 (by omega)]
    refine ih (i + 1) f _ (by omega) (by omega) (X.L rfl) (fun k hk => ?_)
    rw [mL_wL]
    by_cases e : k = i
    · rw [if_pos ⟨rfl, e⟩]; rfl
    · rw [if_neg (fun z => e z.2)]; exact a k (by omega)
end TwSheetVal
