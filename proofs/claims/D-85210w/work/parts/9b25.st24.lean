/-! ===== PHASE 2: the state: parts of it under other frames; branch ===== -/
section State24
variable {N x h u b nv nv' pa un fs i t s k n : Nat} {σ σ' τ τ' τ'' r : gMem} {P : Nat → Nat → Prop} {W : Nat → Prop} {own rt : Nat → Nat} {S : Sh} {Gs : Nat → Sh} {g : Nat → Nat → Vl} {v p q : Int}
theorem Rvr.mv (R : Rvr x h nv σ τ) (K : Kz W σ σ') (ok : gOk σ) (t2 : mT σ (x + 2) = 104) (w2 : ¬ W (x + 2)) (vW : ∀ k, k < nv → mT σ (mR σ (x + 2) k) = 9 ∧ ¬ W (mR σ (x + 2) k)) (E : ∀ k, mI τ' (h + 6) k = mI τ (h + 6) k ∧ mI τ' (h + 7) k = mI τ (h + 7) k) : Rvr x h nv σ' τ' := by
  have e2 : ∀ k, mR σ' (x + 2) k = mR σ (x + 2) k := fun k => K.rR ok (by rw [t2]; decide) w2 k
  have vI : ∀ k, k < nv → ∀ j, mI σ' (mR σ (x + 2) k) j = mI σ (mR σ (x + 2) k) j ∧ mL σ' (mR σ (x + 2) k) j = mL σ (mR σ (x + 2) k) j := fun k hk j => ⟨K.rI ok (by rw [(vW k hk).1]; decide) (vW k hk).2 j, K.rL ok (by rw [(vW k hk).1]; decide) (vW k hk).2 j⟩
  intro k hk
  obtain ⟨q1, q2, q3, q4, q5, q6, q7, q8⟩ := R k hk
  rw [e2, (vI k hk 2).1, (vI k hk 3).1, (vI k hk 4).2, (E k).1, (E k).2]
  refine ⟨q1, q2, q3, q4, q5, q6, q7, fun j hj => ?_⟩
  rw [q8 j hj]
  have A : ∀ p : Nat, p < k → mL σ' (mR σ' (x + 2) p) 4 = mL σ (mR σ (x + 2) p) 4 := fun p hp => by rw [e2, (vI p (by omega) 4).2]
  constructor
  · rintro (a | ⟨p, a1, a2⟩ | ⟨p, a1, a2⟩)
    · exact Or.inl a
    · exact Or.inr (Or.inl ⟨p, a1, by rw [A p (by omega)]; exact a2⟩)
    · exact Or.inr (Or.inr ⟨p, a1, by rw [A p (by omega)]; exact a2⟩)
  · rintro (a | ⟨p, a1, a2⟩ | ⟨p, a1, a2⟩)
    · exact Or.inl a
    · exact Or.inr (Or.inl ⟨p, a1, by rw [← A p (by omega)]; exact a2⟩)
    · exact Or.inr (Or.inr ⟨p, a1, by rw [← A p (by omega)]; exact a2⟩)
/-- places of the twin for conflicts -/
def CfP (h a k : Nat) : Prop := (a = h ∧ k = 98) ∨ (h + 46 ≤ a ∧ a ≤ h + 52)
theorem Rcf.mv (R : Rcf x h nv σ τ) (K : Kz W σ σ') (ok : gOk σ) (z : 0 < mZ σ) (wn : WN σ W) (wS : ∀ a, W a → OutS x h a → mT σ a = 8 ∨ mT σ a = 110 ∨ mT σ a = 111) (f20 : mI σ' x 20 = mI σ x 20) (f18 : mR σ' x 18 = mR σ x 18) (f19 : mR σ' x 19 = mR σ x 19) (e : Ex P τ τ') (hP : ∀ a k, P a k → ¬ CfP h a k ∧ ¬ CoP τ h a k) (g : Grw τ τ' h) (hn : nv ≤ nv') : Rcf x h nv' σ' τ' := by
  obtain ⟨n, c1, c2, c3, c4, c5, c6, c7, c8, c9⟩ := R
  have E : ∀ a k, CfP h a k → mI τ' a k = mI τ a k := fun a k f => e.rI (fun p => (hP a k p).1 f)
  have nW : ∀ a, OutS x h a → mT σ a ≠ 8 → mT σ a ≠ 110 → mT σ a ≠ 111 → ¬ W a := fun a o h1 h2 h3 w => by have := wS a w o; omega
  have c4T : mT σ' (mR σ x 18) = 106 := by rw [K.tag ok (by rw [c4]; decide)]; exact c4
  refine ⟨n, c1, by rw [f20]; exact c2, by rw [E _ _ (Or.inl ⟨rfl, rfl⟩)]; exact c3, by rw [f18]; exact c4T, by rw [f18, K.len ok (by rw [c4]; decide)]; exact c5, by rw [f19, K.tag ok (by rw [c6]; decide)]; exact c6, by rw [f19, K.len ok (by rw [c6]; decide)]; exact c7, by rw [f18, f19]; exact c8, fun i hi => ?_⟩
  obtain ⟨o18, o19⟩ := c8 (by omega)
  obtain ⟨q1, q2, q3, q4, q5, ⟨ct, q6, q7⟩, ct', q8, q9⟩ := c9 i hi
  have w18 : ¬ W (mR σ x 18) := nW _ o18 (by rw [c4]; decide) (by rw [c4]; decide) (by rw [c4]; decide)
  have w19 : ¬ W (mR σ x 19) := nW _ o19 (by rw [c6]; decide) (by rw [c6]; decide) (by rw [c6]; decide)
  have wo : ¬ W (mR σ (mR σ x 18) i) := nW _ q2 (by rw [q1]; decide) (by rw [q1]; decide) (by rw [q1]; decide)
  have e18 : mR σ' (mR σ x 18) i = mR σ (mR σ x 18) i := K.rR ok (by rw [c4]; decide) w18 i
  have n1 : mT σ (mR σ (mR σ x 18) i) ≠ 0 := by rw [q1]; decide
  rw [f18, f19, e18, E (h + 46) i (by unfold CfP; omega), E (h + 47) i (by unfold CfP; omega), E (h + 48) i (by unfold CfP; omega), E (h + 49) i (by unfold CfP; omega), E (h + 50) i (by unfold CfP; omega), E (h + 51) i (by unfold CfP; omega), E (h + 52) i (by unfold CfP; omega)]
  refine ⟨by rw [K.tag ok n1]; exact q1, q2, fun j hj => ?_, q4, ⟨by rw [K.rI ok (by rw [c6]; decide) w19]; exact q5.1, q5.2⟩, ⟨ct, ?_, q7.ex e (fun a k p => (hP a k p).2) g hn⟩, ct', ?_, q9.ex e (fun a k p => (hP a k p).2) g hn⟩
  · rw [K.rI ok n1 wo, E _ i (by
      have : j = 0 ∨ j = 1 ∨ j = 2 ∨ j = 3 := by omega
      rcases this with e | e | e | e <;> subst e <;> unfold CfP <;> simp)]
    exact q3 j hj
  · rw [K.rR ok n1 wo]; exact q6.kp K ok z wn
  · rw [K.rR ok n1 wo]; exact q8.kp K ok z wn
theorem Rdf.mv (R : Rdf x h σ τ) (K : Kz W σ σ') (ok : gOk σ) (t5 : mT σ (x + 1434) = 100 ∧ mT σ (x + 1435) = 100 ∧ mT σ (x + 1436) = 100) (w : ¬ W (x + 1434) ∧ ¬ W (x + 1435) ∧ ¬ W (x + 1436)) (f29 : mI σ' x 29 = mI σ x 29) (E : mI τ' h 104 = mI τ h 104 ∧ ∀ o k, 54 ≤ o → o ≤ 56 → mI τ' (h + o) k = mI τ (h + o) k) : Rdf x h σ' τ' := by
  obtain ⟨m, d1, d2, d3, d4⟩ := R
  refine ⟨m, d1, by rw [f29]; exact d2, by rw [E.1]; exact d3, fun k hk => ?_⟩
  rw [K.rI ok (by rw [t5.1]; decide) w.1, K.rI ok (by rw [t5.2.1]; decide) w.2.1, K.rI ok (by rw [t5.2.2]; decide) w.2.2, E.2 54 k (by omega) (by omega), E.2 55 k (by omega) (by omega), E.2 56 k (by omega) (by omega)]
  exact d4 k hk
/-- places of the twin that are counted, and scratch -/
def UqP (h a k : Nat) : Prop := UsP h a k ∨ FtP h a k
/-- sheets stay as they are; what is counted is told anew -/
theorem Rl.upd2 (R : Rl x h t nv pa un fs Gs g own rt σ τ) (K : Kz W σ σ') (n : WN σ W) (o : ∀ a, W a → ¬ OutS x h a) (w : ¬ W (x + 2) ∧ ¬ W (x + 9) ∧ ¬ W (x + 10)) (ly : LYc x σ') (e8 : mR σ' x 8 = mR σ x 8) (ei : ∀ j, (j = 5 ∨ j = 13 ∨ j = 14 ∨ j = 17 ∨ j = 21 ∨ j = 22) → mI σ' x j = mI σ x j) (vv : ∃ V, VV σ' (x + 4) V) (rvc : RVc x nv Gs g σ') (e : Ex P τ τ') (hP : ∀ a k, P a k → UqP h a k) (n1 : Rtp x h σ' τ') (n2 : Rfl x h σ' τ') (n5 : RSq x h nv σ' τ') : Rl x h t nv pa un fs Gs g own rt σ' τ' := by
  have R0 := R
  obtain ⟨RC0, RT0, ⟨q1, q2, q3, q4, q5⟩, q6, q7, q8⟩ := R
  obtain ⟨r1, ⟨r2, r3, r4, r5, r6, r7, r8⟩, r9, r10, r11, r12⟩ := RT0
  have l := RC0.1
  have E : ∀ a k, ¬ UqP h a k → mI τ' a k = mI τ a k := fun a k n => e.rI (fun p => n (hP a k p))
  have qt : ∀ a k, P a k → Qt h a := fun a k p => by have := hP a k p; unfold UqP UsP TSc FtP at this; unfold Qt; omega
  have eh : ∀ k, (k = 6 ∨ k = 7 ∨ k = 8 ∨ (15 ≤ k ∧ k ≤ 19) ∨ k = 24 ∨ k = 25 ∨ k = 65) → mI τ' h k = mI τ h k := fun k hk => E h k (by unfold UqP UsP TSc FtP; omega)
  have gw : Grw τ τ' h := ⟨by rw [eh 25 (by omega)]; exact Int.le_refl _, by rw [eh 19 (by omega)]; exact Int.le_refl _, by rw [eh 24 (by omega)]; exact Int.le_refl _⟩
  refine ⟨RC0.kp K n o w ly e8 ⟨ei 5 (by omega), ei 13 (by omega), ei 14 (by omega)⟩ vv, ⟨(R0.2.1.base e qt).1, ⟨by rw [eh 8 (by omega)]; exact r2, by rw [eh 16 (by omega)]; exact r3, by rw [eh 17 (by omega)]; exact r4, by rw [eh 15 (by omega)]; exact r5, r6, r7, r8⟩, fun s hs => ?_, ?_, fun i hi => ?_, (R0.2.1.base e qt).2⟩, ⟨n1, n2, ?_, ?_, n5⟩, fun i hi => ?_, rvc, ⟨fun k hk z cc hc => ?_, fun k h1 h2 => by rw [E _ _ (by unfold UqP UsP TSc FtP; omega)]; exact q8.2.1 k h1 h2, fun z => ?_⟩⟩
  · rw [E _ _ (by unfold UqP UsP TSc FtP; omega), E _ _ (by unfold UqP UsP TSc FtP; omega)]; exact r9 s hs
  · rw [eh 25 (by omega), eh 19 (by omega), eh 24 (by omega)]; exact r10
  · have n := R0.2.1.len hi
    exact (r11 i hi).ex e (fun a k p q => by have := hP a k p; unfold UqP UsP TSc FtP at this; unfold SlP at q; omega) (fun a k p => (qt a k p).co) gw (Nat.le_refl _) n.1 n.2
  · unfold Rnx at q3 ⊢; rw [ei 21 (by omega), ei 22 (by omega), eh 6 (by omega), eh 7 (by omega)]; exact q3
  · unfold Rpt at q4 ⊢; rw [ei 17 (by omega), eh 25 (by omega)]; exact q4
  · rw [eh 6 (by omega), eh 7 (by omega)]; exact q6 i hi
  · rw [E _ _ (by unfold UqP UsP TSc FtP; omega)] at z
    exact VG.ex e (q8.1 k hk z cc hc) (fun p => by have := hP _ _ p; unfold UqP UsP TSc FtP at this; omega) (fun p => by have := hP _ _ p; unfold UqP UsP TSc FtP at this; omega) (fun p => by have := hP _ _ p; unfold UqP UsP TSc FtP at this; omega) (fun i _ p => by have := hP _ _ p; unfold UqP UsP TSc FtP at this; omega)
  · rw [eh 65 (by omega)] at z
    obtain ⟨V, v1, v2⟩ := q8.2.2 z
    exact ⟨V, v1, fun cc hc => VG.ex e (v2 cc hc) (fun p => by have := hP _ _ p; unfold UqP UsP TSc FtP at this; omega) (fun p => by have := hP _ _ p; unfold UqP UsP TSc FtP at this; omega) (fun p => by have := hP _ _ p; unfold UqP UsP TSc FtP at this; omega) (fun i _ p => by have := hP _ _ p; unfold UqP UsP TSc FtP at this; omega)⟩
def cdB : List (String × Int) := [("java/lang/IndexOutOfBoundsException", 1), ("java/lang/IllegalStateException", 2)]
theorem c_isBranch (v : Int) : x1_isBranch v σ = some (if 0 ≤ v ∧ v < 6 then 1 else 0) := by
  unfold x1_isBranch
  by_cases a : v < 0
  · rw [if_pos a, if_neg (by omega)]
  · rw [if_neg a]
    by_cases b : 6 ≤ v
    · rw [if_pos b, if_neg (by omega)]
    · rw [if_neg b, if_pos (by omega)]
/-- branch -/
theorem op_branch (R : RL x h t σ τ) : E2 (x1_branch x v σ) (tw_branch h v τ) (OpO x h t cdB σ τ) := by
  obtain ⟨nv, pa, un, fs, Gs, g, own, rt, R⟩ := R
  have l := R.1.1
  have hh := R.1.2.1.1
  have Rt := R.t0 (v := 0)
  have i0 : mI (wI τ h 0 0) h 0 = 0 := by rw [mIwI2 ⟨rfl, rfl⟩, w32_i (by omega) (by omega)]
  have e6 := l.R (6, 3) (by decide)
  have t3 := l.T (3, 100, 6) (by decide)
  (try dsimp only at e6 t3)
  obtain ⟨c5, n1, n4, pu, c8, p4, u4⟩ := R.c5
  unfold x1_branch tw_branch
  rw [c_isBranch, Option.bind_some]
  refine E2.rl ?_
  rw [t_in, Option.bind_some]
  by_cases c : 0 ≤ v ∧ v < 6
  · obtain ⟨k, rfl⟩ : ∃ k : Nat, v = (k : Int) := ⟨v.toNat, by omega⟩
    rw [if_pos c, if_pos (show 0 ≤ (k : Int) ∧ (k : Int) ≤ 5 by omega), e6, tn]
    obtain ⟨b1, ⟨br, b2, b3, b4, b5⟩, b6, b7⟩ := Rt.br
    obtain ⟨k1, k2, k3⟩ := b1 k (by omega)
    refine E2.lg (by decide) (E2.rg (by decide) (E2.lg l.1.1 (E2.lg t3.1 (E2.lg (by rw [t3.2]; omega) (E2.rg (by omega) ?_)))))
    by_cases d : mI (wI τ h 0 0) (h + 8) k < 0
    · have nbr : k ≠ br := fun e => by rw [← e] at b5; omega
      obtain ⟨hd, hl, h1, h2⟩ := Rt.head
      refine E2.lg (by omega) (E2.rg d (E2.le h1 (E2.re h2 (E2.lg (by rw [t3.2]; omega) (E2.rg (by omega) (E2.ll (E2.rl ?_)))))))
      have X : Ex (fun a j => a = x + 3 ∧ j = k) σ (wI σ (x + 3) k hd) := Ex.rf.I ⟨rfl, rfl⟩
      have Y : Ex (fun a j => a = h + 8 ∧ j = k) (wI τ h 0 0) (wI (wI τ h 0 0) (h + 8) k hd) := Ex.rf.I ⟨rfl, rfl⟩
      have K : Kz (fun a => a = x + 3) σ (wI σ (x + 3) k hd) := X.kp l.ok (fun a j p => p.1)
      have wn : WN σ (fun a => a = x + 3) := ⟨by omega, fun a w => by
        have e : a = x + 3 := w
        rw [e, t3.1]; omega⟩
      have ly : LYc x (wI σ (x + 3) k hd) := l.kp K (by omega) (fun a w => by
        have e : a = x + 3 := w
        rw [e, t3.1]; omega) (fun a j _ _ => by rw [X.rR]) (fun q hq ht => by rw [X.rT] at ht; rw [X.rR]; exact l.np q ht)
      obtain ⟨V, hV⟩ := R.1.2.2.2.2.2.2
      have iX : ∀ j, mI (wI σ (x + 3) k hd) x j = mI σ x j := fun j => X.rI (by omega)
      have rbr : Rbr x h nv (wI σ (x + 3) k hd) (wI (wI τ h 0 0) (h + 8) k hd) := by
        refine ⟨fun j hj => ?_, ⟨br, b2, by rw [iX]; exact b3, by rw [Y.rI (by omega)]; exact b4, by rw [Y.rI (by omega)]; exact b5⟩, ?_, ?_⟩
        · by_cases e : j = k
          · rw [e, mIwI2 ⟨rfl, rfl⟩, mIwI2 ⟨rfl, rfl⟩, w32_i (by omega) (by omega)]; omega
          · rw [X.rI (by omega), Y.rI (by omega)]; exact b1 j hj
        · rw [iX, Y.rI (by omega)]; exact b6
        · rw [iX, Y.rI (by omega)]; exact b7
      have t5 := l.t5
      have Rn := Rt.upd2 K wn (fun a w => by unfold OutS; omega) (by omega) ly (by rw [X.rR]) (fun j _ => iX j) ⟨V, hV.kp K l.ok (fun i hi => by omega)⟩ (Rt.2.2.2.2.1.kp K l.ok (fun i hi => by omega) (iX 10)) Y (fun a j p => by unfold UqP FtP; omega) (by
        obtain ⟨n, a1, a2, a3, a4⟩ := Rt.2.2.1.1
        exact ⟨n, a1, by rw [iX]; exact a2, by rw [Y.rI (by omega)]; exact a3, fun j hj => by rw [X.rI (by omega), Y.rI (by omega)]; exact a4 j hj⟩) (by
        have := Rt.2.2.1.2.1
        unfold Rfl at this ⊢
        rw [iX, iX, Y.rI (by omega), Y.rI (by omega)]; exact this) ⟨rbr, Rt.vr.mv K l.ok t5.1 (by omega) (fun j hj => ⟨(R.1.vo j hj).1, fun e => by have := (R.1.vo j hj).2; unfold OutS at this; omega⟩) (fun j => ⟨Y.rI (by omega), Y.rI (by omega)⟩), Rt.cf.mv K l.ok l.z wn (fun a w o => by unfold OutS at o; omega) (iX 20) (by rw [X.rR]) (by rw [X.rR]) Y (fun a j p => ⟨by unfold CfP; omega, Qt.co (by unfold Qt; omega)⟩) (by
          unfold Grw
          rw [Y.rI (by omega), Y.rI (by omega), Y.rI (by omega)]
          exact ⟨Int.le_refl _, Int.le_refl _, Int.le_refl _⟩) (Nat.le_refl _), Rt.df.mv K l.ok t5.2.2 (by omega) (iX 29) ⟨Y.rI (by omega), fun o j _ _ => Y.rI (by omega)⟩⟩
      obtain ⟨hd', hl', h1', h2'⟩ := Rn.head
      refine E2.le h1' (E2.re h2' (E2.r ⟨⟨_, _, _, _, _, _, _, _, Rn.t1⟩, ⟨K.mono (fun a w => by unfold NoT; omega), 0, ?_, ?_, ?_⟩, (Ex.rf.I (by unfold TwA; omega)).tr (Y.mono (fun a j p => by unfold TwA; omega)), Or.inl ⟨(hd' : Int), rfl, rfl, ?_, ⟨by omega, by omega⟩⟩⟩))
      · show mI (wI σ (x + 3) k hd) x 17 = _; rw [iX]; omega
      · show mZ σ ≤ _; omega
      · show mS σ ≤ _; omega
      · show mI (wI (wI τ h 0 0) (h + 8) k hd) h 0 = 0
        rw [Y.rI (by omega)]; exact i0
    · refine E2.lf (by omega) (E2.rf d (E2.r (OpO.ex R (by decide) (by decide))))
  · rw [if_neg c, if_neg (show ¬ (0 ≤ v ∧ v ≤ 5) by omega)]
    exact E2.lf (fun z => z rfl) (E2.rf (fun z => z rfl) (E2.r (OpO.ex R (by decide) (by decide))))
end State24
