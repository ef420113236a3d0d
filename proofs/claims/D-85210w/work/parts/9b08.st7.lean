/-! ===== PHASE 2: the state: the twin keeps a step ===== -/
section State7
variable {N h s t u b nv nv' pa un fs i : Nat} {σ τ τ' τ'' r : gMem} {P : Nat → Nat → Prop} {l : Fm} {c : Int} {ct : Ct} {S : Sh} {Gs Gs' : Nat → Sh}
/-- neither contents nor values -/
def Qt (h a : Nat) : Prop := a = h ∨ (h + 1 ≤ a ∧ a ≤ h + 8) ∨ a = h + 27 ∨ a = h + 32 ∨ (h + 38 ≤ a ∧ a ≤ h + 56)
theorem TMb.tags (m : TMb τ h = true) : mT τ h = 10 ∧ ∀ q ∈ tarr, mR τ h q.1 = h + q.2.1 ∧ mT τ (h + q.2.1) = q.2.2.1 ∧ mN τ (h + q.2.1) = q.2.2.2 := by
  unfold TMb at m
  obtain ⟨a, b⟩ := Bool.and_eq_true_iff.mp m
  refine ⟨of_decide_eq_true a, fun q hq => ?_⟩
  have := List.all_eq_true.mp b q hq
  obtain ⟨c, d⟩ := Bool.and_eq_true_iff.mp this
  obtain ⟨d1, d2⟩ := Bool.and_eq_true_iff.mp d
  exact ⟨of_decide_eq_true c, of_decide_eq_true d1, of_decide_eq_true d2⟩
theorem tarr_all : ∀ o, o < 57 → 1 ≤ o → ∃ q ∈ tarr, q.2.1 = o ∧ 100 ≤ q.2.2.1 ∧ q.2.2.1 ≤ 103 := by decide
theorem TMb.t100 (m : TMb τ h = true) {o : Nat} (h1 : 1 ≤ o) (h2 : o ≤ 56) : 100 ≤ mT τ (h + o) ∧ mT τ (h + o) ≤ 103 := by
  obtain ⟨q, hq, e, g1, g2⟩ := tarr_all o (by omega) h1
  have := ((TMb.tags m).2 q hq).2.1
  rw [e] at this
  omega
theorem KC.tw (kc : KC τ) (m : TMb τ h = true) (e : Ex P τ τ') (hP : ∀ a k, P a k → h ≤ a ∧ a ≤ h + 56) : KC τ' := by
  refine kc.ex e (fun a k p => ?_)
  obtain ⟨h1, h2⟩ := hP a k p
  by_cases z : a = h
  · left; rw [z, (TMb.tags m).1]; decide
  · right
    have := (TMb.t100 m (o := a - h) (by omega) (by omega)).1
    rwa [show h + (a - h) = a by omega] at this
theorem Qt.in {a : Nat} (q : Qt h a) : h ≤ a ∧ a ≤ h + 56 := by unfold Qt at q; omega
theorem Qt.co {a k : Nat} (q : Qt h a) : ¬ CoP τ h a k := by
  unfold Qt at q
  intro z
  rcases z with ⟨o, h1, h2, h3, -⟩ | ⟨h3, -⟩ | ⟨o, h1, h2, h3, -⟩ <;> omega
/-- the base of the twin's half -/
theorem RTw.base (R : RTw h t nv pa un fs Gs τ) (e : Ex P τ τ') (q : ∀ a k, P a k → Qt h a) : (TMb τ' h = true ∧ TB τ' h ∧ KC τ' ∧ Cw τ' h) ∧ ∀ c, c < 13120 → ∃ v, VC τ' h c v := by
  obtain ⟨⟨a1, a2, a3, a4⟩, -, -, -, -, a5⟩ := R
  have nP : ∀ o k, (o = 9 ∨ (28 ≤ o ∧ o ≤ 31) ∨ o = 36 ∨ o = 37) → ¬ P (h + o) k := fun o k ho p => by have := q _ _ p; unfold Qt at this; omega
  obtain ⟨b1, b2, b3, b4⟩ := a2
  refine ⟨⟨TMb.ex e a1, ⟨fun i => ?_, fun i => ?_, fun i => ?_, fun i => ?_⟩, a3.tw a1 e (fun a k p => (q a k p).in), a4.ex e (fun b k p => ((q b k p).in).1)⟩, fun c hc => ?_⟩
  · rw [e.rI (nP 36 i (by omega))]; exact b1 i
  · rw [e.rI (nP 31 i (by omega))]; exact b2 i
  · rw [e.rI (nP 9 i (by omega))]; exact b3 i
  · rw [e.rI (nP 37 i (by omega))]; exact b4 i
  · obtain ⟨v, hv⟩ := a5 c hc
    exact ⟨v, VG.ex e hv (nP 28 _ (by omega)) (nP 29 _ (by omega)) (nP 30 _ (by omega)) (fun i _ => nP 31 _ (by omega))⟩
/-- what a step may change -/
def StP (h a k : Nat) : Prop := (∃ u, 41 ≤ u ∧ u ≤ 80 ∧ CpP h u a k) ∨ (a = h ∧ (k = 15 ∨ k = 16 ∨ k = 17 ∨ k = 65))
theorem StP.qt {a k : Nat} (p : StP h a k) : Qt h a := by
  rcases p with ⟨u, h1, h2, p⟩ | p
  · unfold CpP at p; unfold Qt; omega
  · exact Or.inl p.1
/-- how the sheets are called behind a step -/
def stG (pa : Nat) (Gs : Nat → Sh) (i : Nat) : Sh := if i = (if pa = 40 then 40 else pa + 1) then Gs 0 else if pa = 40 then Gs (sft i) else Gs i
theorem t_step0 {fs' pa' : Nat} (hN : 500 ≤ N) (hf : fs' < 40) (hp : 1 ≤ pa') (p4 : pa' ≤ 40) (R : RTw h t nv pa un fs Gs τ) (X : Ex (fun a k => a = h ∧ (k = 15 ∨ k = 16)) τ r) (i15 : mI r h 15 = fs') (i16 : mI r h 16 = pa') (hG : ∀ i, rtV nv pa' 0 i → i ≠ pa' → ∃ j, rtV nv pa un j ∧ tsN fs j = tsN fs' i ∧ Gs j = Gs' i) (hG' : Gs' pa' = Gs 0) :
    Ev (tw_step_j35 N h r) (fun a => a.1 = ((tsN fs' pa' : Nat) : Int) ∧ RTw h t nv pa' 0 fs' Gs' a.2 ∧ Ex (StP h) τ a.2 ∧ mI a.2 h 65 = 0) := by
  have R0 := R
  obtain ⟨r1, ⟨r2, r3, r4, r5, r6, r7, r8⟩, r9, r10, r11, r12⟩ := R
  unfold tw_step_j35
  refine Ev.l ?_
  have X1 : Ex (fun a k => a = h ∧ (k = 15 ∨ k = 16 ∨ k = 17)) τ (wI r h 17 0) := (X.mono (fun a k p => ⟨p.1, by omega⟩)).I ⟨rfl, by omega⟩
  have j15 : mI (wI r h 17 0) h 15 = fs' := by rw [mIwI1 (by omega)]; exact i15
  have j16 : mI (wI r h 17 0) h 16 = pa' := by rw [mIwI1 (by omega)]; exact i16
  have j17 : mI (wI r h 17 0) h 17 = 0 := by rw [mIwI2 ⟨rfl, rfl⟩, w32_i (by omega) (by omega)]
  generalize wI r h 17 0 = r1' at X1 j15 j16 j17 ⊢
  have ea : tw_stepAt h (w32 (mI r1' h 16 - 1)) r1' = some ((tsN fs' pa' : Nat) : Int) := by
    unfold tw_stepAt tsN
    rw [j15, j16, if_neg (by omega), if_pos (by omega), w32_i (x := (pa' : Int) - 1) (by omega) (by omega), w32_i (x := (fs' : Int) + ((pa' : Int) - 1)) (by omega) (by omega)]
    have e1 : (fs' : Int) + ((pa' : Int) - 1) = ((fs' + (pa' - 1) : Nat) : Int) := by omega
    rw [e1, show (40 : Int) = ((40 : Nat) : Int) from rfl, ← Int.ofNat_tmod]
    have := Nat.mod_lt (fs' + (pa' - 1)) (show 0 < 40 by decide)
    rw [w32_i (by omega) (by omega)]
    congr 1
  have kt : 41 ≤ tsN fs' pa' ∧ tsN fs' pa' ≤ 80 := by
    unfold tsN
    rw [if_neg (by omega), if_pos (by omega)]
    have := Nat.mod_lt (fs' + (pa' - 1)) (show 0 < 40 by decide); omega
  refine Ev.e ea (Ev.c (t_copySheet (t := 40) hN (by decide) (by omega) (by omega)) (fun r2' _ cp => Ev.l (Ev.r ?_)))
  have Q1 : Ex (StP h) τ r1' := X1.mono (fun a k p => Or.inr ⟨p.1, by omega⟩)
  have Q2 : Ex (StP h) τ r2' := Q1.tr (cp.1.mono (fun a k p => Or.inl ⟨_, kt.1, kt.2, p⟩))
  have Q3 : Ex (StP h) τ (wI r2' h 65 0) := Q2.I (Or.inr ⟨rfl, by omega⟩)
  have i65 : mI (wI r2' h 65 0) h 65 = 0 := by rw [mIwI2 ⟨rfl, rfl⟩, w32_i (by omega) (by omega)]
  have c65 : Ex (fun a k => a = h ∧ k = 65) r2' (wI r2' h 65 0) := Ex.rf.I ⟨rfl, rfl⟩
  generalize wI r2' h 65 0 = f at Q3 i65 c65 ⊢
  have hI : ∀ k, k ≠ 15 → k ≠ 16 → k ≠ 17 → k ≠ 65 → mI f h k = mI τ h k := fun k a1 a2 a3 a4 => Q3.rI (fun p => by
    rcases p with ⟨u, b1, b2, p⟩ | p
    · unfold CpP at p; omega
    · omega)
  have g1 : ∀ k, k ≠ 65 → mI f h k = mI r1' h k := fun k hk => by rw [c65.rI (by omega), cp.1.rI (by unfold CpP; omega)]
  have gw : Grw τ r1' h := by
    unfold Grw
    rw [X1.rI (show ¬ (h = h ∧ (25 = 15 ∨ 25 = 16 ∨ 25 = 17)) by omega), X1.rI (show ¬ (h = h ∧ (19 = 15 ∨ 19 = 16 ∨ 19 = 17)) by omega), X1.rI (show ¬ (h = h ∧ (24 = 15 ∨ 24 = 16 ∨ 24 = 17)) by omega)]
    exact ⟨Int.le_refl _, Int.le_refl _, Int.le_refl _⟩
  have gw2 : Grw r2' f h := by
    unfold Grw
    rw [c65.rI (show ¬ (h = h ∧ 25 = 65) by omega), c65.rI (show ¬ (h = h ∧ 19 = 65) by omega), c65.rI (show ¬ (h = h ∧ 24 = 65) by omega)]
    exact ⟨Int.le_refl _, Int.le_refl _, Int.le_refl _⟩
  have coX : ∀ {τ : gMem} a k, (a = h ∧ (k = 15 ∨ k = 16 ∨ k = 17)) → ¬ CoP τ h a k := fun a k p => Qt.co (Or.inl p.1)
  have slX : ∀ {s} a k, (a = h ∧ (k = 15 ∨ k = 16 ∨ k = 17)) → ¬ SlP h s a k := fun a k p q => by unfold SlP at q; omega
  have v0 : rtV nv pa un 0 := Or.inl rfl
  refine ⟨rfl, ⟨(R0.base Q3 (fun a k p => p.qt)).1, ⟨by rw [hI 8 (by decide) (by decide) (by decide) (by decide)]; exact r2, by rw [g1 16 (by decide)]; exact j16, by rw [g1 17 (by decide)]; exact j17, by rw [g1 15 (by decide)]; exact j15, hf, r7, by omega⟩, fun s hs => ?_, ⟨?_, ?_, ?_, ?_, ?_, ?_⟩, fun i hi => ?_, (R0.base Q3 (fun a k p => p.qt)).2⟩, Q3, i65⟩
  · have e1 : mI f (h + 1) s = mI r2' (h + 1) s := c65.rI (by omega)
    have e2 : mI f (h + 2) s = mI r2' (h + 2) s := c65.rI (by omega)
    rw [e1, e2]
    by_cases z : s = tsN fs' pa'
    · rw [z, cp.2.1, cp.2.2.1, X1.rI (by omega), X1.rI (by omega)]; exact r9 40 (by decide)
    · rw [cp.1.rI (by unfold CpP; omega), cp.1.rI (by unfold CpP; omega), X1.rI (by omega), X1.rI (by omega)]; exact r9 s hs
  · rw [hI 25 (by decide) (by decide) (by decide) (by decide)]; exact r10.1
  · rw [hI 25 (by decide) (by decide) (by decide) (by decide)]; exact r10.2.1
  · rw [hI 19 (by decide) (by decide) (by decide) (by decide)]; exact r10.2.2.1
  · rw [hI 19 (by decide) (by decide) (by decide) (by decide)]; exact r10.2.2.2.1
  · rw [hI 24 (by decide) (by decide) (by decide) (by decide)]; exact r10.2.2.2.2.1
  · rw [hI 24 (by decide) (by decide) (by decide) (by decide)]; exact r10.2.2.2.2.2
  · have fin : ∀ {s S}, S.1.1.length ≤ 32 → S.1.2.length ≤ 10 → ShT r2' h nv s S → ShT f h nv s S := fun n1 n2 k => k.ex c65 (fun a k p q => by unfold SlP at q; omega) (fun a k p => Qt.co (Or.inl p.1)) gw2 (Nat.le_refl _) n1 n2
    by_cases e : i = pa'
    · rw [e, hG']
      have n := R0.len v0
      have k0 := (r11 0 v0).ex X1 (fun a k p => slX a k p) (fun a k p => coX a k p) gw (Nat.le_refl _) n.1 n.2
      exact fin n.1 n.2 (k0.cp cp n.1 n.2)
    · obtain ⟨j, j1, j2, j3⟩ := hG i hi e
      have n := R0.len j1
      rw [← j3, ← j2]
      have k0 := (r11 j j1).ex X1 (fun a k p => slX a k p) (fun a k p => coX a k p) gw (Nat.le_refl _) n.1 n.2
      refine fin n.1 n.2 (k0.cpo cp (fun z => ?_) n.1 n.2)
      rw [j2] at z
      exact e (tsN_inj (un := 0) hi (show rtV nv pa' 0 pa' by unfold rtV; omega) r7 p4 (by decide) z)
theorem t_step (hN : 500 ≤ N) (R : RTw h t nv pa un fs Gs τ) : ∃ fs', Ev (tw_step N h τ) (fun a => a.1 = ((tsN fs' (if pa = 40 then 40 else pa + 1) : Nat) : Int) ∧ RTw h t nv (if pa = 40 then 40 else pa + 1) 0 fs' (stG pa Gs) a.2 ∧ Ex (StP h) τ a.2 ∧ mI a.2 h 65 = 0) := by
  have R0 := R
  obtain ⟨r1, ⟨r2, r3, r4, r5, r6, r7, r8⟩, r9, r10, r11, r12⟩ := R
  unfold tw_step
  by_cases p : pa = 40
  · subst p
    refine ⟨(fs + 1) % 40, ?_⟩
    have m := Nat.mod_lt (fs + 1) (show 0 < 40 by decide)
    have e1 : w32 (Int.tmod (w32 (mI τ h 15 + 1)) 40) = (((fs + 1) % 40 : Nat) : Int) := by
      rw [r5, inc32 (by omega), show (40 : Int) = ((40 : Nat) : Int) from rfl, ← Int.ofNat_tmod, w32_i (by omega) (by omega)]
    rw [e1]
    refine Ev.f (by rw [r3]; decide) (Ev.l ?_)
    simp only [if_true]
    refine t_step0 (un := un) (pa := 40) (fs := fs) hN m (by decide) (by decide) R0 (Ex.rf.I ⟨rfl, Or.inl rfl⟩) (by rw [mIwI2 ⟨rfl, rfl⟩, w32_i (by omega) (by omega)]) (by rw [mIwI1 (by omega)]; exact r3) (fun i hi ne => ⟨sft i, ?_, ?_, ?_⟩) ?_
    · unfold rtV at hi ⊢; unfold sft; split <;> omega
    · unfold rtV at hi
      unfold sft tsN
      by_cases c : 1 ≤ i ∧ i < 40
      · rw [if_pos c, if_neg (by omega), if_pos (by omega), if_neg (by omega), if_pos (by omega)]
        have : (fs + (i + 1 - 1)) % 40 = ((fs + 1) % 40 + (i - 1)) % 40 := by omega
        rw [this]
      · rw [if_neg c]
        by_cases c0 : i = 0
        · rw [if_pos c0, if_pos c0]
        · rw [if_neg c0, if_neg c0, if_neg (show ¬ i ≤ 40 by omega), if_neg (show ¬ i ≤ 40 by omega)]
    · unfold stG
      rw [if_neg (by rw [if_pos rfl]; exact ne), if_pos rfl]
    · unfold stG
      rw [if_pos (by rw [if_pos rfl])]
  · refine ⟨fs, ?_⟩
    rw [r3, inc32 (by omega)]
    refine Ev.g (by omega) (Ev.l ?_)
    simp only [if_neg p]
    refine t_step0 (un := un) (pa := pa) (fs := fs) hN r6 (by omega) (by omega) R0 (Ex.rf.I ⟨rfl, Or.inr rfl⟩) (by rw [mIwI1 (by omega)]; exact r5) (by rw [mIwI2 ⟨rfl, rfl⟩, w32_i (by omega) (by omega)]) (fun i hi ne => ⟨i, ?_, rfl, ?_⟩) ?_
    · unfold rtV at hi ⊢; omega
    · unfold stG
      rw [if_neg (by rw [if_neg p]; exact ne), if_neg p]
    · unfold stG
      rw [if_pos (by rw [if_neg p])]
end State7
