/-! ===== PHASE 2: the act choose: conflicts, a line that goes ===== -/
section State37
variable {N x h u b nv nv' pa un fs i j t s k n q a : Nat} {σ σ' τ τ' τ'' r f : gMem} {P : Nat → Nat → Prop} {W : Nat → Prop} {own rt : Nat → Nat} {S S' : Sh} {Gs : Nat → Sh} {g : Nat → Nat → Vl} {v w p : Int} {ax : Int} {va : Nat → Prop} {mk : Nat → Int} {fl : Nat → Option Nat}
theorem shA_tag (c : ShC σ a S) {b : Nat} (hb : ShA σ a S.1.1.length b) : mT σ b = 8 ∨ mT σ b = 100 ∨ mT σ b = 110 ∨ mT σ b = 111 := by
  rcases hb with e | e | e | e | ⟨r, hr, e⟩
  · rw [e]; exact Or.inl c.1.1
  · rw [e]; exact Or.inr (Or.inl c.1.2.1.1)
  · rw [e]; exact Or.inr (Or.inl c.1.2.2.1.1)
  · rw [e]; exact Or.inr (Or.inr (Or.inr c.2.1))
  · rw [e]; exact Or.inr (Or.inr (Or.inl (c.2.2.2 r hr).1))
theorem SC.kpT (K : Kz W σ σ') (g : gOk σ) (z : 0 < mZ σ) (n : WN σ W) (o : ∀ a, W a → OutS x h a → mT σ a = 103 ∨ mT σ a = 106) (c : SC x h own rt va Gs σ) : SC x h own rt va Gs σ' := by
  refine ⟨fun i hi => ?_, c.2⟩
  obtain ⟨c1, c2, c3⟩ := c.1 i hi
  have wn : ∀ b, ShA σ (rt i) (Gs i).1.1.length b → ¬ W b := fun b hb w => by
    have := o b w (c3 b hb)
    have := shA_tag c1 hb
    omega
  have wa := wn _ (Or.inl rfl)
  have wc := wn _ (Or.inr (Or.inr (Or.inr (Or.inl rfl))))
  exact ⟨c1.kp K g z n wn, c2.kp K g c1 wa wc, fun b hb => c3 b ((ShA.kp K g c1 wa wc).mp hb)⟩
theorem VcO.kpT {gv : Nat → Vl} (v : VcO x h σ k gv) (K : Kz W σ σ') (ok : gOk σ) (t2 : mT σ (x + 2) = 104) (w2 : ¬ W (x + 2)) (o : ∀ a, W a → OutS x h a → mT σ a = 103 ∨ mT σ a = 106) : VcO x h σ' k gv := by
  obtain ⟨v1, v2, v3, v4⟩ := v
  have wv : ¬ W (mR σ (x + 2) k) := fun w => by have := o _ w v2; omega
  have e2 : mR σ' (x + 2) k = mR σ (x + 2) k := K.rR ok (by rw [t2]; decide) w2 k
  have e1 : mR σ' (mR σ (x + 2) k) 1 = mR σ (mR σ (x + 2) k) 1 := K.rR ok (by rw [v1]; decide) wv 1
  have tg : ∀ i, i ≤ 4 → mT σ (mR σ (mR σ (x + 2) k) 1 + i) = 2 ∨ mT σ (mR σ (mR σ (x + 2) k) 1 + i) = 102 ∨ mT σ (mR σ (mR σ (x + 2) k) 1 + i) = 101 := fun i hi => by
    obtain ⟨k1, k2, k3, k4, k5, k6, k7, k8, k9, k10, k11, k12, k13, k14⟩ := v3
    rcases (by omega : i = 0 ∨ i = 1 ∨ i = 2 ∨ i = 3 ∨ i = 4) with e | e | e | e | e <;> subst e
    · exact Or.inl k1
    · exact Or.inr (Or.inl k6)
    · exact Or.inr (Or.inl k8)
    · exact Or.inr (Or.inl k10)
    · exact Or.inr (Or.inr k12)
  refine ⟨by rw [e2, K.tag ok (by rw [v1]; decide)]; exact v1, by rw [e2]; exact v2, ?_, fun i hi => by rw [e2, e1]; exact v4 i hi⟩
  rw [e2, e1]
  exact v3.kp K ok (fun i hi w => by have := o _ w (v4 i hi); have := tg i hi; omega)
theorem RCl.kpT (R : RCl x h nv pa un Gs g own rt σ) (K : Kz W σ σ') (n : WN σ W) (o : ∀ a, W a → OutS x h a → mT σ a = 103 ∨ mT σ a = 106) (w : ¬ W (x + 2) ∧ ¬ W (x + 9) ∧ ¬ W (x + 10)) (l : LYc x σ') (e8 : mR σ' x 8 = mR σ x 8) (ei : mI σ' x 5 = mI σ x 5 ∧ mI σ' x 13 = mI σ x 13 ∧ mI σ' x 14 = mI σ x 14) (vv : ∃ V, VV σ' (x + 4) V) : RCl x h nv pa un Gs g own rt σ' := by
  obtain ⟨r1, ⟨r2, r2'⟩, ⟨r3, r4, r5, r6, r7, r8⟩, r9, r10, r11, -⟩ := R
  have ok := r1.ok
  have t2 := (r1.T (2, 104, 40) (by decide)).1
  have t9 := (r1.T (9, 105, 40) (by decide)).1
  have t10 := (r1.T (10, 105, 40) (by decide)).1
  refine ⟨l, ⟨r2, by have := K.1; omega⟩, ⟨by rw [ei.1]; exact r3, by rw [ei.2.1]; exact r4, by rw [ei.2.2]; exact r5, r6, r7, r8⟩, r9.kpT K ok r1.z n o, fun i hi => ?_, fun k hk => (r11 k hk).kpT K ok t2 w.1 o, vv⟩
  rw [← r10 i hi]
  unfold rtA
  rw [e8, K.rR ok (show mT σ (x + 9) ≠ 0 by rw [t9]; decide) w.2.1, K.rR ok (show mT σ (x + 10) ≠ 0 by rw [t10]; decide) w.2.2, K.rR ok (show mT σ (x + 2) ≠ 0 by rw [t2]; decide) w.1]
  by_cases c : i ≤ 80
  · by_cases c0 : i = 0
    · rw [if_pos c0, if_pos c0]
    · rw [if_neg c0, if_neg c0]
      by_cases c1 : i ≤ 40
      · rw [if_pos c1, if_pos c1]
      · rw [if_neg c1, if_neg c1, if_pos c, if_pos c]
  · rw [if_neg (by omega), if_neg (by omega), if_neg c, if_neg (by omega), if_neg (by omega), if_neg c]
    have v := r11 (i - 81) (by unfold rtV at hi; omega)
    exact K.rR ok (by rw [v.1]; decide) (fun wa => by have := o _ wa v.2.1; have := v.1; omega) 0
theorem Rl.upd3 (R : Rl x h t nv pa un fs Gs g own rt σ τ) (RC' : RCl x h nv pa un Gs g own rt σ') (ei : ∀ j, (j = 17 ∨ j = 21 ∨ j = 22) → mI σ' x j = mI σ x j) (rvc : RVc x nv Gs g σ') (e : Ex P τ τ') (hP : ∀ a k, P a k → UqP h a k) (n1 : Rtp x h σ' τ') (n2 : Rfl x h σ' τ') (n5 : RSq x h nv σ' τ') : Rl x h t nv pa un fs Gs g own rt σ' τ' := by
  have R0 := R
  obtain ⟨RC0, RT0, ⟨q1, q2, q3, q4, q5⟩, q6, q7, q8⟩ := R
  obtain ⟨r1, ⟨r2, r3, r4, r5, r6, r7, r8⟩, r9, r10, r11, r12⟩ := RT0
  have l := RC0.1
  have E : ∀ a k, ¬ UqP h a k → mI τ' a k = mI τ a k := fun a k n => e.rI (fun p => n (hP a k p))
  have qt : ∀ a k, P a k → Qt h a := fun a k p => by have := hP a k p; unfold UqP UsP TSc FtP at this; unfold Qt; omega
  have eh : ∀ k, (k = 6 ∨ k = 7 ∨ k = 8 ∨ (15 ≤ k ∧ k ≤ 19) ∨ k = 24 ∨ k = 25 ∨ k = 65) → mI τ' h k = mI τ h k := fun k hk => E h k (by unfold UqP UsP TSc FtP; omega)
  have gw : Grw τ τ' h := ⟨by rw [eh 25 (by omega)]; exact Int.le_refl _, by rw [eh 19 (by omega)]; exact Int.le_refl _, by rw [eh 24 (by omega)]; exact Int.le_refl _⟩
  refine ⟨RC', ⟨(R0.2.1.base e qt).1, ⟨by rw [eh 8 (by omega)]; exact r2, by rw [eh 16 (by omega)]; exact r3, by rw [eh 17 (by omega)]; exact r4, by rw [eh 15 (by omega)]; exact r5, r6, r7, r8⟩, fun s hs => ?_, ?_, fun i hi => ?_, (R0.2.1.base e qt).2⟩, ⟨n1, n2, ?_, ?_, n5⟩, fun i hi => ?_, rvc, ⟨fun k hk z cc hc => ?_, fun k h1 h2 => by rw [E _ _ (by unfold UqP UsP TSc FtP; omega)]; exact q8.2.1 k h1 h2, fun z => ?_⟩⟩
  · rw [E _ _ (by unfold UqP UsP TSc FtP; omega), E _ _ (by unfold UqP UsP TSc FtP; omega)]; exact r9 s hs
  · rw [eh 25 (by omega), eh 19 (by omega), eh 24 (by omega)]; exact r10
  · have n := R0.2.1.len hi
    exact (r11 i hi).ex e (fun a k p q => by have := hP a k p; unfold UqP UsP TSc FtP at this; unfold SlP at q; omega) (fun a k p => (qt a k p).co) gw (Nat.le_refl _) n.1 n.2
  · unfold Rnx at q3 ⊢; rw [ei 21 (by omega), ei 22 (by omega), eh 6 (by omega), eh 7 (by omega)]; exact q3
  · unfold Rpt at q4 ⊢; rw [ei 17 (by omega), eh 25 (by omega)]; exact q4
  · rw [eh 6 (by omega), eh 7 (by omega)]; exact q6 i hi
  · rw [E _ _ (by unfold UqP UsP TSc FtP; omega)] at z
    exact VG.ex e (q8.1 k hk z cc hc) (fun p => by have := hP _ _ p; unfold UqP UsP TSc FtP at this; omega) (fun p => by have := hP _ _ p; unfold UqP UsP TSc FtP at this; omega) (fun p => by have := hP _ _ p; unfold UqP UsP TSc FtP at this; omega) (fun i _ p => by have := hP _ _ p; unfold UqP UsP TSc FtP at this; omega)
  · rw [eh 65 (by omega)] at z
    obtain ⟨V, v1, v2⟩ := q8.2.2 z
    exact ⟨V, v1, fun cc hc => VG.ex e (v2 cc hc) (fun p => by have := hP _ _ p; unfold UqP UsP TSc FtP at this; omega) (fun p => by have := hP _ _ p; unfold UqP UsP TSc FtP at this; omega) (fun p => by have := hP _ _ p; unfold UqP UsP TSc FtP at this; omega) (fun i _ p => by have := hP _ _ p; unfold UqP UsP TSc FtP at this; omega)⟩
/-- a conflict is settled, on both sides -/
theorem Rl.cho (R : Rl x h t nv pa un fs Gs g own rt σ τ) (hi : (i : Int) < mI σ x 20) : Rl x h t nv pa un fs Gs g own rt (wI σ (mR σ x 19) i 1) (wI τ (h + 52) i 1) := by
  have l := R.1.1
  have hh := R.1.2.1.1
  obtain ⟨n, c1, c2, c3, c4, c5, c6, c7, c8, c9⟩ := R.cf
  obtain ⟨o18, o19⟩ := c8 (by omega)
  obtain ⟨A, hA⟩ : ∃ A, A = mR σ x 19 := ⟨_, rfl⟩
  rw [← hA] at c6 c7 o19 ⊢
  have X : Ex (fun a j => a = A ∧ j = i) σ (wI σ A i 1) := Ex.rf.I ⟨rfl, rfl⟩
  have Y : Ex (fun a j => a = h + 52 ∧ j = i) τ (wI τ (h + 52) i 1) := Ex.rf.I ⟨rfl, rfl⟩
  have K : Kz (fun a => a = A) σ (wI σ A i 1) := X.kp l.ok (fun a j p => p.1)
  have oA : x + 1440 < A ∧ (A < h ∨ h + 57 < A) := by unfold OutS at o19; omega
  have wn : WN σ (fun a => a = A) := ⟨by omega, fun a w => by
    have e : a = A := w
    rw [e, c6]; omega⟩
  have ly : LYc x (wI σ A i 1) := l.kp K (by omega) (fun a w => by
    have e : a = A := w
    rw [e, c6]; omega) (fun a j _ _ => by rw [X.rR]) (fun q hq ht => by rw [X.rT] at ht; rw [X.rR]; exact l.np q ht)
  have iX : ∀ o j, o ≤ 1440 → mI (wI σ A i 1) (x + o) j = mI σ (x + o) j := fun o j ho => X.rI (by omega)
  have iX0 : ∀ j, mI (wI σ A i 1) x j = mI σ x j := fun j => iX 0 j (by omega)
  have eh : ∀ j, mI (wI τ (h + 52) i 1) h j = mI τ h j := fun j => Y.rI (by omega)
  have eo : ∀ o j, o ≠ 52 → mI (wI τ (h + 52) i 1) (h + o) j = mI τ (h + o) j := fun o j h1 => Y.rI (by omega)
  have g0 : Grw τ (wI τ (h + 52) i 1) h := by
    unfold Grw
    rw [eh, eh, eh]
    exact ⟨Int.le_refl _, Int.le_refl _, Int.le_refl _⟩
  have co : ∀ a j, (a = h + 52 ∧ j = i) → ¬ CoP τ h a j := fun a j p => Qt.co (by unfold Qt; omega)
  obtain ⟨V, hV⟩ := R.1.2.2.2.2.2.2
  obtain ⟨b1, ⟨br, b2, b3, b4, b5⟩, b6, b7⟩ := R.br
  refine R.upd3 (R.1.kpT K wn (fun a w _ => by
    have e : a = A := w
    rw [e]; exact Or.inl c6) (by omega) ly (by rw [X.rR]) ⟨iX0 5, iX0 13, iX0 14⟩ ⟨V, hV.kp K l.ok (fun i hi => by omega)⟩) (fun j _ => iX0 j) (R.2.2.2.2.1.kp K l.ok (fun i hi => by omega) (iX0 10)) Y (fun a j p => by unfold UqP FtP; omega) ?_ ?_ ⟨⟨fun j hj => ?_, ⟨br, b2, by rw [iX0]; exact b3, by rw [eh]; exact b4, by rw [eo 8 br (by decide)]; exact b5⟩, by rw [iX0, eh]; exact b6, by rw [iX0, eh]; exact b7⟩, ?_, ?_, ?_⟩
  · obtain ⟨n, a1, a2, a3, a4⟩ := R.2.2.1.1
    exact ⟨n, a1, by rw [iX0]; exact a2, by rw [eh]; exact a3, fun j hj => by rw [iX 1 j (by omega), eo 27 j (by decide)]; exact a4 j hj⟩
  · have := R.2.2.1.2.1
    unfold Rfl at this ⊢
    rw [iX0, iX0, eh, eh]; exact this
  · rw [iX 3 j (by omega), eo 8 j (by decide)]; exact b1 j hj
  · exact R.vr.mv K l.ok l.t5.1 (by omega) (fun j hj => ⟨(R.1.vo j hj).1, fun e => by
      have e' : mR σ (x + 2) j = A := e
      have := (R.1.vo j hj).1
      rw [e', c6] at this; cases this⟩) (fun j => ⟨eo 6 j (by decide), eo 7 j (by decide)⟩)
  · refine ⟨n, c1, by rw [iX0]; exact c2, by rw [eh]; exact c3, by rw [X.rT, X.rR]; exact c4, by rw [X.rN, X.rR]; exact c5, by rw [X.rT, X.rR, ← hA]; exact c6, by rw [X.rN, X.rR, ← hA]; exact c7, fun _ => by rw [X.rR, ← hA]; exact ⟨o18, o19⟩, fun i' hi' => ?_⟩
    obtain ⟨q1, q2, q3, q4, q5, ⟨ct, q6, q7⟩, ct', q8, q9⟩ := c9 i' hi'
    rw [X.rR, X.rT, ← hA]
    have ne : mR σ (mR σ x 18) i' ≠ A := fun e => by rw [e, c6] at q1; cases q1
    refine ⟨q1, q2, fun j hj => ?_, ?_, ?_, ⟨ct, q6.kp K l.ok l.z wn, ?_⟩, ct', q8.kp K l.ok l.z wn, ?_⟩
    · rw [X.rI (fun p => ne p.1)]
      have hj' : j = 0 ∨ j = 1 ∨ j = 2 ∨ j = 3 := by omega
      have z := q3 j hj
      rcases hj' with e | e | e | e <;> subst e
      · exact z.trans (eo 46 i' (by decide)).symm
      · exact z.trans (eo 47 i' (by decide)).symm
      · exact z.trans (eo 48 i' (by decide)).symm
      · exact z.trans (eo 51 i' (by decide)).symm
    · rw [eo 46 i' (by decide), eo 47 i' (by decide), eo 48 i' (by decide), eo 51 i' (by decide)]; exact q4
    · by_cases e : i' = i
      · rw [e, mIwI2 ⟨rfl, rfl⟩, mIwI2 ⟨rfl, rfl⟩]
        exact ⟨rfl, Or.inr (w32_i (by omega) (by omega))⟩
      · rw [mIwI1 (fun y => e y.2), mIwI1 (fun y => e y.2)]
        rw [← hA] at q5
        exact q5
    · rw [eo 49 i' (by decide)]; exact q7.ex Y co g0 (Nat.le_refl _)
    · rw [eo 50 i' (by decide)]; exact q9.ex Y co g0 (Nat.le_refl _)
  · exact R.df.mv K l.ok l.t5.2.2 (by omega) (iX0 29) ⟨eh 104, fun o j h1 h2 => eo o j (by omega)⟩
/-- a line goes, on both sides -/
theorem both_goLine {kp : Nat} {b2 : gMem} (hN : 2000 ≤ N) (R2 : Rl x h t nv pa un fs Gs g own rt r b2) (i10 : mI r x 10 = 0) (h65 : mI b2 h 65 = 0) (kk : ShT b2 h nv kp (Gs 0)) (k122 : kp < 122) (k40 : kp ≠ 40) (hq : q < (axL (Gs 0) ax).length) (n1 : (axL (Gs 0) ax).length ≠ 1) : ∃ m f r3, x1_without (axA r (rt 0) ax) q r = some m ∧ mT m.2 (rt 0) = 8 ∧ x9_lay N (rt 0) ax m.1 m.2 = some f ∧ tw_goLine N h ax ((q + 1 : Nat) : Int) (kp : Int) b2 = some r3 ∧ (∃ Gs' own', Rl x h t nv pa un fs Gs' g own' rt f r3) ∧ Kz (NoT x h) r f ∧ mI f x = mI r x ∧ mZ f ≤ mZ r + 200 ∧ mS f ≤ mS r + 2000 ∧ Ex (LnQ h ax) b2 r3 := by
  have c := R2.c0.2
  have m10 := c.1.2.2.2
  have n32 := c.1.2.1.2.2.1
  have al := axL_le (ax := ax) n32 m10
  have a32 := axM_le ax
  have wn1 : w32 ((axL (Gs 0) ax).length - 1 : Int) = ((axL (Gs 0) ax).length : Int) - 1 := w32_i (by omega) (by omega)
  have kA2 := axA_ls (ax := ax) c
  have lr := R2.1.1
  have p3 := R2.p0.axs (ax := ax)
  obtain ⟨m, em, m1, w1, w2, w3, w4, w5⟩ := c_without (at' := q) lr.ok kA2 hq
  have w1' : LsC m.2 m.1 (lst ((axL (Gs 0) ax).length - 1) (fun j => gl (axL (Gs 0) ax) (pD q j))) := by
    have e : (fun j => gl (axL (Gs 0) ax) (pD q j)) = fun j => if j < q then gl (axL (Gs 0) ax) j else gl (axL (Gs 0) ax) (j + 1) := by
      funext j
      unfold pD
      by_cases e : j < q
      · rw [if_pos e, if_pos e]
      · rw [if_neg e, if_neg e]
    rw [e, m1]; exact w1
  have lok : LnOk (Gs 0) ax ((axL (Gs 0) ax).length - 1) (fun j => gl (axL (Gs 0) ax) (pD q j)) (fun j => some (pD q j)) (if ax ≠ 0 then mI b2 h 7 else mI b2 h 6) :=
    ok_pl p3.1 p3.2.1 (by omega) (by omega) (fun j hj => by unfold pD; split <;> omega) (fun i j hi hj e => by unfold pD at e; split at e <;> split at e <;> omega)
  obtain ⟨f, ef, f1, f2, f3, f4, f5, own3, FF⟩ := both_lay (N := N) (by omega) R2 i10 w2 w1' (by omega) w5 lok
  have la := lnA (h := h) (ax := ax)
  have kS := R2.s0
  have L0 := kS.lines (ax := ax) m10
  suffices Z : Ev (tw_goLine N h ax ((q + 1 : Nat) : Int) (kp : Int) b2) (fun r3 => (∃ Gs' own', Rl x h t nv pa un fs Gs' g own' rt f r3) ∧ Ex (LnQ h ax) b2 r3) by
    obtain ⟨r3, e3, z1, z2⟩ := Z
    exact ⟨m, f, r3, em, by rw [w2.tag lr.ok (by rw [c.1.1]; decide)]; exact c.1.1, ef, e3, z1, f1, f2, by omega, by omega, z2⟩
  unfold tw_goLine
  have eL : tw_linesOf h 40 ax b2 = some ((axL (Gs 0) ax).length : Int) := kS.axn (ax := ax) (by decide)
  rw [eL, Option.bind_some]
  refine del_l (τ := b2) (S := Gs 0) (nv := nv) (at' := q + 1) (by omega) n32 m10 k122 k40 (by omega) (fun r1 X1 L1 => ?_) ((axL (Gs 0) ax).length - (q + 1)) (q + 1) N _ (by omega) (Nat.le_refl _) (by omega) Ex.rf kk (L0.cg (fun j hj => ?_))
  · rw [wn1, show ((axL (Gs 0) ax).length : Int) - 1 = (((axL (Gs 0) ax).length - 1 : Nat) : Int) by omega]
    refine Ev.c (t_emptyLine (to := (axL (Gs 0) ax).length - 1) (by omega) L1 n32 m10 (by omega) (fun j hj => by omega)) (fun r2 _ z => ?_)
    obtain ⟨L2, X2⟩ := z
    refine Ev.e (t_setLines (u := 40) (by decide)) (Ev.r ?_)
    have X12 : Ex (LnQ h ax) b2 r2 := (X1.mono (fun a k p => Or.inl p)).tr (X2.mono (fun a k p => Or.inl p))
    have X3 : Ex (fun a k => a = (if ax ≠ 0 then h + 2 else h + 1) ∧ k = 40) r2 (wI r2 (if ax ≠ 0 then h + 2 else h + 1) 40 (((axL (Gs 0) ax).length - 1 : Nat) : Int)) := Ex.rf.I ⟨rfl, rfl⟩
    have XX : Ex (LnQ h ax) b2 (wI r2 (if ax ≠ 0 then h + 2 else h + 1) 40 (((axL (Gs 0) ax).length - 1 : Nat) : Int)) := X12.I (Or.inr ⟨rfl, rfl⟩)
    have cn : mI (wI r2 (if ax ≠ 0 then h + 2 else h + 1) 40 (((axL (Gs 0) ax).length - 1 : Nat) : Int)) (if ax ≠ 0 then h + 2 else h + 1) 40 = (((axL (Gs 0) ax).length - 1 : Nat) : Int) := by rw [mIwI2 ⟨rfl, rfl⟩, w32_i (by omega) (by omega)]
    have L3 := L2.ex n32 m10 (fun j hj => by omega) X3 (fun a k p => ⟨fun y => by unfold LnP at y; omega, Qt.co (by unfold Qt; omega)⟩) (LnQ.grw (X3.mono (fun a k p => Or.inr p)))
    have sh3 := ln_sh (n := (axL (Gs 0) ax).length - 1) (mk := fun j => gl (axL (Gs 0) ax) (pD q j)) (fl := fun j => some (pD q j)) kS n32 m10 XX (L3.cg (fun j hj => ?_)) (by omega) cn
    · exact ⟨⟨_, _, FF _ (LnQ h ax) XX (fun a k p => Or.inl p.sl) sh3 (by rw [XX.rI (fun p => by have := p.out; omega)]; exact h65)⟩, XX⟩
    · have e1 : j ≠ (axL (Gs 0) ax).length - 1 := by omega
      have e2 : (if q + 1 ≤ j + 1 ∧ j + 1 < (axL (Gs 0) ax).length then j + 1 else j) = pD q j := by
        unfold pD
        by_cases e : j < q
        · rw [if_pos e, if_neg (by omega)]
        · rw [if_neg e, if_pos (by omega)]
      unfold upL
      rw [if_neg e1, if_neg e1]
      (try dsimp only)
      rw [e2]
      exact ⟨Or.inr (by omega), rfl, rfl⟩
  · have e : (if q + 1 ≤ j + 1 ∧ j + 1 < q + 1 then j + 1 else j) = j := if_neg (by omega)
    exact ⟨hj, by rw [e], by rw [e]⟩
end State37
