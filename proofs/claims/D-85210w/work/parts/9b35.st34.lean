/-! ===== PHASE 2: the act diff ===== -/
section State34
variable {N x h u nv pa un fs i j t k n : Nat} {σ τ s r s' r' : gMem} {own rt : Nat → Nat} {S : Sh} {Gs : Nat → Sh} {g : Nat → Nat → Vl} {v w ax cd0 : Int}
def DfC (x a k : Nat) : Prop := (a = x ∧ k = 29) ∨ a = x + 1434 ∨ a = x + 1435 ∨ a = x + 1436
def DfP (h a k : Nat) : Prop := (a = h ∧ k = 104) ∨ (h + 54 ≤ a ∧ a ≤ h + 56)
theorem Rl.dff (R : Rl x h t nv pa un fs Gs g own rt σ τ) (X : Ex (DfC x) σ s) (Y : Ex (DfP h) τ r) (d : Rdf x h s r) : Rl x h t nv pa un fs Gs g own rt s r := by
  have l := R.1.1
  have hh := R.1.2.1.1
  have t5 := l.t5
  have K : Kz (fun a => a = x ∨ a = x + 1434 ∨ a = x + 1435 ∨ a = x + 1436) σ s := X.kp l.ok (fun a k p => by unfold DfC at p; omega)
  have tg : ∀ a, (a = x ∨ a = x + 1434 ∨ a = x + 1435 ∨ a = x + 1436) → mT σ a = 1 ∨ mT σ a = 100 := fun a w => by
    rcases w with w | w | w | w
    · rw [w]; exact Or.inl l.1.1
    · rw [w]; exact Or.inr t5.2.2.1
    · rw [w]; exact Or.inr t5.2.2.2.1
    · rw [w]; exact Or.inr t5.2.2.2.2
  have w0 : ¬ (0 = x ∨ 0 = x + 1434 ∨ 0 = x + 1435 ∨ 0 = x + 1436) := fun w => by have := tg 0 w; rw [l.z0] at this; omega
  have wn : WN σ (fun a => a = x ∨ a = x + 1434 ∨ a = x + 1435 ∨ a = x + 1436) := ⟨w0, fun a w => by
    have := tg a w
    exact ⟨by omega, by omega, fun z => by omega⟩⟩
  have ly : LYc x s := l.kp K w0 (fun a w => by have := tg a w; omega) (fun a j _ _ => by rw [X.rR]) (fun q hq ht => by rw [X.rT] at ht; rw [X.rR]; exact l.np q ht)
  obtain ⟨V, hV⟩ := R.1.2.2.2.2.2.2
  have iX : ∀ j, j ≠ 29 → mI s x j = mI σ x j := fun j hj => X.rI (by unfold DfC; omega)
  have eh : ∀ j, j ≠ 104 → mI r h j = mI τ h j := fun j hj => Y.rI (by unfold DfP; omega)
  have eo : ∀ o j, 1 ≤ o → o < 54 → mI r (h + o) j = mI τ (h + o) j := fun o j h1 h2 => Y.rI (by unfold DfP; omega)
  obtain ⟨b1, ⟨br, b2, b3, b4, b5⟩, b6, b7⟩ := R.br
  refine R.upd2 K wn (fun a w => by unfold OutS; omega) (by omega) ly (by rw [X.rR]) (fun j hj => iX j (by omega)) ⟨V, hV.kp K l.ok (fun i hi => by omega)⟩ (R.2.2.2.2.1.kp K l.ok (fun i hi => by omega) (iX 10 (by decide))) Y (fun a j p => by unfold DfP at p; unfold UqP FtP; omega) ?_ ?_ ⟨⟨fun j hj => ?_, ⟨br, b2, by rw [iX 7 (by decide)]; exact b3, by rw [eh 12 (by decide)]; exact b4, by rw [eo 8 br (by decide) (by decide)]; exact b5⟩, by rw [iX 15 (by decide), eh 13 (by decide)]; exact b6, by rw [iX 16 (by decide), eh 14 (by decide)]; exact b7⟩, ?_, ?_, d⟩
  · obtain ⟨n, a1, a2, a3, a4⟩ := R.2.2.1.1
    exact ⟨n, a1, by rw [iX 1 (by decide)]; exact a2, by rw [eh 40 (by decide)]; exact a3, fun j hj => by rw [X.rI (by unfold DfC; omega), eo 27 j (by decide) (by decide)]; exact a4 j hj⟩
  · have := R.2.2.1.2.1
    unfold Rfl at this ⊢
    rw [iX 2 (by decide), iX 3 (by decide), eh 41 (by decide), eh 42 (by decide)]; exact this
  · rw [X.rI (by unfold DfC; omega), eo 8 j (by decide) (by decide)]; exact b1 j hj
  · exact R.vr.mv K l.ok t5.1 (by omega) (fun j hj => ⟨(R.1.vo j hj).1, fun e => by have := (R.1.vo j hj).2; unfold OutS at this; omega⟩) (fun j => ⟨eo 6 j (by decide) (by decide), eo 7 j (by decide) (by decide)⟩)
  · exact R.cf.mv K l.ok l.z wn (fun a w o => by unfold OutS at o; omega) (iX 20 (by decide)) (by rw [X.rR]) (by rw [X.rR]) Y (fun a j p => ⟨by unfold DfP at p; unfold CfP; omega, Qt.co (by unfold DfP at p; unfold Qt; omega)⟩) (by
      unfold Grw
      rw [eh 25 (by decide), eh 19 (by decide), eh 24 (by decide)]
      exact ⟨Int.le_refl _, Int.le_refl _, Int.le_refl _⟩) (Nat.le_refl _)
/-- one more difference, on both sides -/
theorem both_differ (R : Rl x h t nv pa un fs Gs g own rt σ τ) (hn : n < 410) (e29 : mI σ x 29 = n) {p0 p1 p2 : Int} : ∃ s r, x1_differ x p0 p1 p2 σ = some s ∧ tw_differ h p0 p1 p2 τ = some r ∧ Rl x h t nv pa un fs Gs g own rt s r ∧ mI s x 29 = ((n + 1 : Nat) : Int) ∧ Ex (DfC x) σ s ∧ Ex (DfP h) τ r := by
  have l := R.1.1
  have hh := R.1.2.1.1
  obtain ⟨n', d1, d2, d3, d4⟩ := R.df
  have en : n' = n := by omega
  subst en
  have e26 := l.R (26, 1434) (by decide)
  have e27 := l.R (27, 1435) (by decide)
  have e28 := l.R (28, 1436) (by decide)
  have t26 := l.T (1434, 100, 500) (by decide)
  have t27 := l.T (1435, 100, 500) (by decide)
  have t28 := l.T (1436, 100, 500) (by decide)
  (try dsimp only at e26 e27 e28 t26 t27 t28)
  have w29 : w32 ((n' : Int) + 1) = ((n' + 1 : Nat) : Int) := by rw [w32_i (by omega) (by omega)]; omega
  obtain ⟨s, hs⟩ : ∃ s, s = wI (wI (wI (wI σ (x + 1434) n' p0) (x + 1435) n' p1) (x + 1436) n' p2) x 29 ((n' + 1 : Nat) : Int) := ⟨_, rfl⟩
  obtain ⟨r, hr⟩ : ∃ r, r = wI (wI (wI (wI τ (h + 54) n' p0) (h + 55) n' p1) (h + 56) n' p2) h 104 ((n' + 1 : Nat) : Int) := ⟨_, rfl⟩
  have X : Ex (DfC x) σ s := by
    rw [hs]
    exact (((Ex.rf.I (Or.inr (Or.inl rfl))).I (Or.inr (Or.inr (Or.inl rfl)))).I (Or.inr (Or.inr (Or.inr rfl)))).I (Or.inl ⟨rfl, rfl⟩)
  have Y : Ex (DfP h) τ r := by
    rw [hr]
    exact (((Ex.rf.I (Or.inr ⟨by omega, by omega⟩)).I (Or.inr ⟨by omega, by omega⟩)).I (Or.inr ⟨by omega, by omega⟩)).I (Or.inl ⟨rfl, rfl⟩)
  have s29 : mI s x 29 = ((n' + 1 : Nat) : Int) := by rw [hs, mIwI2 ⟨rfl, rfl⟩, w32_i (by omega) (by omega)]
  refine ⟨s, r, ?_, ?_, R.dff X Y ⟨n' + 1, by omega, s29, by rw [hr, mIwI2 ⟨rfl, rfl⟩, w32_i (by omega) (by omega)], fun k hk => ?_⟩, s29, X, Y⟩
  · unfold x1_differ
    rw [if_pos l.1.1, e26, if_pos t26.1, t26.2, e29, if_pos (by omega), tn]
    show (if mT σ (mR σ x 27) = 100 then _ else none) = _
    rw [e27, if_pos t27.1]
    have i1 : mI (wI σ (x + 1434) n' p0) x 29 = n' := by rw [mIwI1 (by omega)]; exact e29
    have i2 : mI (wI (wI σ (x + 1434) n' p0) (x + 1435) n' p1) x 29 = n' := by rw [mIwI1 (by omega)]; exact i1
    have i3 : mI (wI (wI (wI σ (x + 1434) n' p0) (x + 1435) n' p1) (x + 1436) n' p2) x 29 = n' := by rw [mIwI1 (by omega)]; exact i2
    rw [i1, mR_wI, e27, mN_wI, t27.2, if_pos (by omega), tn]
    show (if mT σ (mR σ x 28) = 100 then _ else none) = _
    rw [e28, if_pos t28.1, i2, mR_wI, mR_wI, e28, mN_wI, mN_wI, t28.2, if_pos (by omega), tn]
    show some (wI _ x 29 (w32 (mI (wI (wI (wI σ (x + 1434) n' p0) (x + 1435) n' p1) (x + 1436) n' p2) x 29 + 1))) = _
    rw [i3, w29, hs]
  · unfold tw_differ
    rw [d3, if_pos (by omega), tn]
    have i1 : mI (wI τ (h + 54) n' p0) h 104 = n' := by rw [mIwI1 (by omega)]; exact d3
    have i2 : mI (wI (wI τ (h + 54) n' p0) (h + 55) n' p1) h 104 = n' := by rw [mIwI1 (by omega)]; exact i1
    have i3 : mI (wI (wI (wI τ (h + 54) n' p0) (h + 55) n' p1) (h + 56) n' p2) h 104 = n' := by rw [mIwI1 (by omega)]; exact i2
    show (if 0 ≤ mI (wI τ (h + 54) n' p0) h 104 ∧ _ then _ else none) = _
    rw [i1, if_pos (by omega), tn]
    show (if 0 ≤ mI (wI (wI τ (h + 54) n' p0) (h + 55) n' p1) h 104 ∧ _ then _ else none) = _
    rw [i2, if_pos (by omega), tn]
    show some (wI _ h 104 (w32 (mI (wI (wI (wI τ (h + 54) n' p0) (h + 55) n' p1) (h + 56) n' p2) h 104 + 1))) = _
    rw [i3, w29, hr]
  · rw [hs, hr]
    by_cases e : k = n'
    · subst e
      refine ⟨?_, ?_, ?_⟩
      · rw [mIwI1 (by omega), mIwI1 (by omega), mIwI1 (by omega), mIwI2 ⟨rfl, rfl⟩, mIwI1 (by omega), mIwI1 (by omega), mIwI1 (by omega), mIwI2 ⟨rfl, rfl⟩]
      · rw [mIwI1 (by omega), mIwI1 (by omega), mIwI2 ⟨rfl, rfl⟩, mIwI1 (by omega), mIwI1 (by omega), mIwI2 ⟨rfl, rfl⟩]
      · rw [mIwI1 (by omega), mIwI2 ⟨rfl, rfl⟩, mIwI1 (by omega), mIwI2 ⟨rfl, rfl⟩]
    · have z := d4 k (by omega)
      refine ⟨?_, ?_, ?_⟩
      · rw [mIwI1 (by omega), mIwI1 (by omega), mIwI1 (by omega), mIwI1 (by omega), mIwI1 (by omega), mIwI1 (by omega), mIwI1 (by omega), mIwI1 (by omega)]; exact z.1
      · rw [mIwI1 (by omega), mIwI1 (by omega), mIwI1 (by omega), mIwI1 (by omega), mIwI1 (by omega), mIwI1 (by omega), mIwI1 (by omega), mIwI1 (by omega)]; exact z.2.1
      · rw [mIwI1 (by omega), mIwI1 (by omega), mIwI1 (by omega), mIwI1 (by omega), mIwI1 (by omega), mIwI1 (by omega), mIwI1 (by omega), mIwI1 (by omega)]; exact z.2.2
theorem c_mk9 {a : Nat} (c : ShC σ a S) : x9_marks a ax σ = some (axA σ a ax) := by
  unfold x9_marks axA
  by_cases c0 : ax ≠ 0
  · rw [if_pos c0, if_pos c0, if_pos c.1.1]
  · rw [if_neg c0, if_neg c0, if_pos c.1.1]
theorem ShT.axl (k : ShT τ h nv u S) {q : Nat} (hq : q < (axL S ax).length) : tLi τ h u ax q = gl (axL S ax) q := by
  have ln := k.ln
  unfold axL at hq ⊢
  by_cases c : ax ≠ 0
  · rw [if_pos c] at hq ⊢
    have e : tLi τ h u ax q = tLi τ h u 1 q := by unfold tLi; rw [if_pos c, if_pos (by decide)]
    rw [e]; exact ln.2.2 q hq
  · rw [if_neg c] at hq ⊢
    have e : tLi τ h u ax q = tLi τ h u 0 q := by unfold tLi; rw [if_neg c, if_neg (by decide)]
    rw [e]; exact ln.1.2 q hq
theorem t_axp (k : ShT τ h nv u S) (ha : ax = 0 ∨ ax = 1) (hu : u < 122) (hN : 40 ≤ N) (n1 : S.1.1.length ≤ 32) (n2 : S.1.2.length ≤ 10) (m : Int) : tw_placeOf N h u ax m τ = some (pl (axL S ax) m) := by
  rcases ha with e | e
  · subst e; exact (k.pl hu hN n1 n2 m).1
  · subst e; exact (k.pl hu hN n1 n2 m).2
/-- the state of a diff -/
def DfS (x h t nv pa un fs : Nat) (Gs : Nat → Sh) (g : Nat → Nat → Vl) (own rt : Nat → Nat) (σ τ : gMem) (n : Nat) (s r : gMem) : Prop := Rl x h t nv pa un fs Gs g own rt s r ∧ mI s x 29 = n ∧ Ex (DfC x) σ s ∧ Ex (DfP h) τ r
theorem DfS.more (D : DfS x h t nv pa un fs Gs g own rt σ τ n s r) (hn : n < 410) {p0 p1 p2 : Int} : ∃ s' r', x1_differ x p0 p1 p2 s = some s' ∧ tw_differ h p0 p1 p2 r = some r' ∧ DfS x h t nv pa un fs Gs g own rt σ τ (n + 1) s' r' := by
  obtain ⟨s', r', e1, e2, R', e3, X, Y⟩ := both_differ D.1 hn D.2.1 (p0 := p0) (p1 := p1) (p2 := p2)
  exact ⟨s', r', e1, e2, R', e3, D.2.2.1.tr X, D.2.2.2.tr Y⟩
/-- lines that one sheet has alone -/
theorem alone_l {K : gMem → Option gMem} {K' : gMem → Option gMem} {Φ : gMem → gMem → Prop} (hN : 2000 ≤ N) (ha : ax = 0 ∨ ax = 1) (hi : rtV nv pa un i) (hj : rtV nv pa un j) {B : Nat} (hB : B + (axL (Gs i) ax).length ≤ 410) (hK : ∀ s r n, n ≤ B + (axL (Gs i) ax).length → DfS x h t nv pa un fs Gs g own rt σ τ n s r → E2 (K s) (K' r) Φ) : ∀ (m k fu fv n : Nat) (s r : gMem), k + m = (axL (Gs i) ax).length → m < fu → m < fv → n ≤ B + k → DfS x h t nv pa un fs Gs g own rt σ τ n s r → E2 (x1_differAlone_l10 N x (rt j) ax cd0 (axA σ (rt i) ax) K fu (k : Int) s) (tw_linesAlone_l3 N h (tsN fs i) (tsN fs j) ax cd0 K' fv (k : Int) r) Φ := by
  intro m
  induction m with
  | zero =>
    intro k fu fv n s r h1 h2 h3 h4 D
    obtain ⟨fu, rfl⟩ : ∃ j, fu = j + 1 := ⟨fu - 1, by omega⟩
    obtain ⟨fv, rfl⟩ : ∃ j, fv = j + 1 := ⟨fv - 1, by omega⟩
    obtain ⟨-, n1, n4, -, -, p4, u4⟩ := D.1.c5
    have eA : axA s (rt i) ax = axA σ (rt i) ax := by unfold axA; rw [D.2.2.1.rR]
    have L := axA_ls (ax := ax) (D.1.shC hi)
    rw [eA] at L
    have lt := tsN_lt (fs := fs) hi n4 p4 u4
    have n32 := L.2.2.1
    unfold x1_differAlone_l10 tw_linesAlone_l3
    rw [L.2.1, w32_i (by omega) (by omega)]
    refine E2.lg L.1 (E2.lg (by omega) (E2.re ((D.1.shT hi).axn (by omega)) (E2.rg (by omega) (hK s r n (by omega) D))))
  | succ m ih =>
    intro k fu fv n s r h1 h2 h3 h4 D
    obtain ⟨fu, rfl⟩ : ∃ j, fu = j + 1 := ⟨fu - 1, by omega⟩
    obtain ⟨fv, rfl⟩ : ∃ j, fv = j + 1 := ⟨fv - 1, by omega⟩
    obtain ⟨-, n1, n4, -, -, p4, u4⟩ := D.1.c5
    have l := D.1.1.1
    have eA : axA s (rt i) ax = axA σ (rt i) ax := by unfold axA; rw [D.2.2.1.rR]
    have L := axA_ls (ax := ax) (D.1.shC hi)
    rw [eA] at L
    have sj := D.1.shC hj
    have Lj := axA_ls (ax := ax) sj
    have lt := tsN_lt (fs := fs) hi n4 p4 u4
    have ltj := tsN_lt (fs := fs) hj n4 p4 u4
    have lei := D.1.2.1.len hi
    have lej := D.1.2.1.len hj
    have n32 := L.2.2.1
    have alm := axL_le (ax := ax) lei.1 lei.2
    unfold x1_differAlone_l10 tw_linesAlone_l3
    rw [L.2.1, w32_i (x := ((axL (Gs i) ax).length : Int)) (by omega) (by omega), tn, L.2.2.2 k (by omega)]
    refine E2.lg L.1 (E2.lf (by omega) (E2.lg sj.1.1 (E2.le (c_mk9 sj) (E2.lg (by omega) (E2.le (c_placeOf (by omega) Lj _) (E2.re ((D.1.shT hi).axn (by omega)) (E2.rf (by omega) (E2.re (t_lineAt (by omega) (by omega)) ?_))))))))
    rw [(D.1.shT hi).axl (by omega)]
    refine E2.re (t_axp (D.1.shT hj) ha (by omega) (by omega) lej.1 lej.2 _) ?_
    have pg := pl_ge (axL (Gs j) ax) (gl (axL (Gs i) ax) k)
    have NX : ∀ n' s' r', n' ≤ B + (k + 1) → DfS x h t nv pa un fs Gs g own rt σ τ n' s' r' → E2 (x1_differAlone_l10_j65 N x (rt j) ax cd0 (axA σ (rt i) ax) k (x1_differAlone_l10 N x (rt j) ax cd0 (axA σ (rt i) ax) K fu) K s') (tw_linesAlone_l3_j61 N h (tsN fs i) (tsN fs j) ax cd0 k (tw_linesAlone_l3 N h (tsN fs i) (tsN fs j) ax cd0 K' fv) K' r') Φ := by
      intro n' s' r' hn' D'
      unfold x1_differAlone_l10_j65 tw_linesAlone_l3_j61
      rw [inc32 (by omega)]
      exact ih (k + 1) fu fv n' s' r' (by omega) (by omega) (by omega) hn' D'
    by_cases c1 : pl (axL (Gs j) ax) (gl (axL (Gs i) ax) k) ≠ -1
    · exact E2.lg c1 (E2.rg (by omega) (NX n s r (by omega) D))
    · refine E2.lf c1 (E2.rf (by omega) ?_)
      by_cases c0 : ax ≠ 0
      · refine E2.lg c0 (E2.rg c0 ?_)
        unfold x1_differAlone_l10_j50 tw_linesAlone_l3_j46
        refine E2.lg c0 (E2.rg c0 ?_)
        unfold x1_differAlone_l10_j62 tw_linesAlone_l3_j58
        obtain ⟨s', r', e1, e2, D'⟩ := D.more (by omega) (p0 := cd0) (p1 := 0) (p2 := w32 ((k : Int) + 1))
        exact E2.lg l.1.1 (E2.le e1 (E2.re e2 (NX (n + 1) s' r' (by omega) D')))
      · refine E2.lf c0 (E2.rf c0 ?_)
        unfold x1_differAlone_l10_j50 tw_linesAlone_l3_j46
        refine E2.lf c0 (E2.rf c0 ?_)
        unfold x1_differAlone_l10_j62 tw_linesAlone_l3_j58
        obtain ⟨s', r', e1, e2, D'⟩ := D.more (by omega) (p0 := cd0) (p1 := w32 ((k : Int) + 1)) (p2 := 0)
        exact E2.lg l.1.1 (E2.le e1 (E2.re e2 (NX (n + 1) s' r' (by omega) D')))
theorem both_alone (hN : 2000 ≤ N) (ha : ax = 0 ∨ ax = 1) (hi : rtV nv pa un i) (hj : rtV nv pa un j) {B : Nat} (hB : B + (axL (Gs i) ax).length ≤ 410) (hn : n ≤ B) (D : DfS x h t nv pa un fs Gs g own rt σ τ n s r) : E2 (x1_differAlone N x (rt i) (rt j) ax cd0 s) (tw_linesAlone N h (tsN fs i) (tsN fs j) ax cd0 r) (fun a b => ∃ n', n' ≤ B + (axL (Gs i) ax).length ∧ DfS x h t nv pa un fs Gs g own rt σ τ n' a b) := by
  have si := D.1.shC hi
  have L := axA_ls (ax := ax) si
  have n32 := L.2.2.1
  have eA : axA s (rt i) ax = axA σ (rt i) ax := by unfold axA; rw [D.2.2.1.rR]
  unfold x1_differAlone tw_linesAlone
  refine E2.lg si.1.1 (E2.le (c_mk9 si) ?_)
  rw [eA]
  exact alone_l (x := x) (h := h) (t := t) (un := un) (fs := fs) (g := g) (own := own) (σ := σ) (τ := τ) hN ha hi hj hB (fun s r n hn D => E2.r ⟨n, hn, D⟩) (axL (Gs i) ax).length 0 N N n s r (by omega) (by omega) (by omega) (by omega) D
end State34
