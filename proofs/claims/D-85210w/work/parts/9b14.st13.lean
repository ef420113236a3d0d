/-! ===== PHASE 2: the acts: what changes little; undo, redo ===== -/
section State13
variable {N x h u b nv nv' pa un fs i t : Nat} {σ σ' τ τ' τ'' r s : gMem} {P : Nat → Nat → Prop} {W : Nat → Prop} {own own' rt rt' : Nat → Nat} {S S' S0 : Sh} {Gs Gs' : Nat → Sh} {g : Nat → Nat → Vl} {c : Int} {ct : Ct} {a A : Nat}
/-- places of the twin for the tape and faults, and scratch -/
def UsP (h a k : Nat) : Prop := TSc h a k ∨ (a = h ∧ (k = 40 ∨ k = 41 ∨ k = 42)) ∨ a = h + 27
theorem RVc.kp (k : RVc x nv Gs g σ) (K : Kz W σ σ') (ok : gOk σ) (w : ∀ i, i ≤ 4 → ¬ W (x + 4 + i)) (e : mI σ' x 10 = mI σ x 10) : RVc x nv Gs g σ' :=
  ⟨k.1, fun z => by
    rw [e] at z
    obtain ⟨V, v1, v2⟩ := k.2 z
    exact ⟨V, v1.kp K ok (fun i hi => w i hi), v2⟩⟩
/-- sheets stay as they are -/
theorem Rl.upd (R : Rl x h t nv pa un fs Gs g own rt σ τ) (K : Kz W σ σ') (n : WN σ W) (o : ∀ a, W a → ¬ OutS x h a) (w : ¬ W (x + 2) ∧ ¬ W (x + 3) ∧ ¬ W (x + 9) ∧ ¬ W (x + 10) ∧ ¬ W (x + 1434) ∧ ¬ W (x + 1435) ∧ ¬ W (x + 1436)) (ly : LYc x σ') (eR : mR σ' x = mR σ x) (ei : ∀ j, (j = 5 ∨ j = 7 ∨ (13 ≤ j ∧ j ≤ 17) ∨ j = 20 ∨ j = 21 ∨ j = 22 ∨ j = 29) → mI σ' x j = mI σ x j) (vv : ∃ V, VV σ' (x + 4) V) (rvc : RVc x nv Gs g σ') (e : Ex P τ τ') (hP : ∀ a k, P a k → UsP h a k) (n1 : Rtp x h σ' τ') (n2 : Rfl x h σ' τ') : Rl x h t nv pa un fs Gs g own rt σ' τ' := by
  have R0 := R
  obtain ⟨RC0, RT0, ⟨q1, q2, q3, q4, q5⟩, q6, q7, q8⟩ := R
  obtain ⟨r1, ⟨r2, r3, r4, r5, r6, r7, r8⟩, r9, r10, r11, r12⟩ := RT0
  have l := RC0.1
  have E : ∀ a k, ¬ UsP h a k → mI τ' a k = mI τ a k := fun a k n => e.rI (fun p => n (hP a k p))
  have qt : ∀ a k, P a k → Qt h a := fun a k p => by have := hP a k p; unfold UsP TSc at this; unfold Qt; omega
  have eh : ∀ k, (k = 6 ∨ k = 7 ∨ k = 8 ∨ (12 ≤ k ∧ k ≤ 19) ∨ k = 24 ∨ k = 25 ∨ k = 65) → mI τ' h k = mI τ h k := fun k hk => E h k (by unfold UsP TSc; omega)
  have gw : Grw τ τ' h := ⟨by rw [eh 25 (by omega)]; exact Int.le_refl _, by rw [eh 19 (by omega)]; exact Int.le_refl _, by rw [eh 24 (by omega)]; exact Int.le_refl _⟩
  have fr : FrS x h W σ σ' := ⟨K, l.ok, l.z, n, fun a w' o' => absurd o' (o a w'), ⟨w.1, w.2.1, w.2.2.2.2.1, w.2.2.2.2.2.1, w.2.2.2.2.2.2⟩, fun j hj => ei j (by omega), by rw [eR], by rw [eR]⟩
  refine ⟨RC0.kp K n o ⟨w.1, w.2.2.1, w.2.2.2.1⟩ ly (by rw [eR]) ⟨ei 5 (by omega), ei 13 (by omega), ei 14 (by omega)⟩ vv, ⟨(R0.2.1.base e qt).1, ⟨by rw [eh 8 (by omega)]; exact r2, by rw [eh 16 (by omega)]; exact r3, by rw [eh 17 (by omega)]; exact r4, by rw [eh 15 (by omega)]; exact r5, r6, r7, r8⟩, fun s hs => ?_, ?_, fun i hi => ?_, (R0.2.1.base e qt).2⟩, ⟨n1, n2, ?_, ?_, q5.mv fr l.t5 RC0.vo e (fun a k p => ⟨fun q => by have := hP a k p; unfold UsP TSc at this; unfold FtP at q; omega, (qt a k p).co⟩) gw⟩, fun i hi => ?_, rvc, ⟨fun k hk z cc hc => ?_, fun k h1 h2 => by rw [E _ _ (by unfold UsP TSc; omega)]; exact q8.2.1 k h1 h2, fun z => ?_⟩⟩
  · rw [E _ _ (by unfold UsP TSc; omega), E _ _ (by unfold UsP TSc; omega)]; exact r9 s hs
  · rw [eh 25 (by omega), eh 19 (by omega), eh 24 (by omega)]; exact r10
  · have n := R0.2.1.len hi
    exact (r11 i hi).ex e (fun a k p q => by have := hP a k p; unfold UsP TSc at this; unfold SlP at q; omega) (fun a k p => (qt a k p).co) gw (Nat.le_refl _) n.1 n.2
  · unfold Rnx at q3 ⊢; rw [ei 21 (by omega), ei 22 (by omega), eh 6 (by omega), eh 7 (by omega)]; exact q3
  · unfold Rpt at q4 ⊢; rw [ei 17 (by omega), eh 25 (by omega)]; exact q4
  · rw [eh 6 (by omega), eh 7 (by omega)]; exact q6 i hi
  · rw [E _ _ (by unfold UsP TSc; omega)] at z
    exact VG.ex e (q8.1 k hk z cc hc) (fun p => by have := hP _ _ p; unfold UsP TSc at this; omega) (fun p => by have := hP _ _ p; unfold UsP TSc at this; omega) (fun p => by have := hP _ _ p; unfold UsP TSc at this; omega) (fun i _ p => by have := hP _ _ p; unfold UsP TSc at this; omega)
  · rw [eh 65 (by omega)] at z
    obtain ⟨V, v1, v2⟩ := q8.2.2 z
    exact ⟨V, v1, fun cc hc => VG.ex e (v2 cc hc) (fun p => by have := hP _ _ p; unfold UsP TSc at this; omega) (fun p => by have := hP _ _ p; unfold UsP TSc at this; omega) (fun p => by have := hP _ _ p; unfold UsP TSc at this; omega) (fun i _ p => by have := hP _ _ p; unfold UsP TSc at this; omega)⟩
/-- what an act with a value alone leaves -/
def OpQ (x h t : Nat) (σ τ : gMem) (a b : Int × gMem) : Prop := RL x h (t + 1) a.2 b.2 ∧ FrL x h σ a.2 ∧ Ex (TwA h) τ b.2 ∧ a.1 = b.1 ∧ mI b.2 h 0 = 0
theorem FrL.rf (l : LYc x σ) : FrL x h σ σ := ⟨Kz.rf l.ok, 0, by omega, by omega, by omega⟩
/-- an answer without any change -/
theorem OpQ.same {v : Int} (R : Rl x h t nv pa un fs Gs g own rt σ τ) : OpQ x h t σ τ (v, σ) (v, wI τ h 0 0) :=
  ⟨⟨nv, pa, un, fs, Gs, g, own, rt, R.t0.t1⟩, FrL.rf R.1.1, Ex.rf.I (by unfold TwA; omega), rfl, by rw [mIwI2 ⟨rfl, rfl⟩, w32_i (by omega) (by omega)]⟩
/-- only ints of the object are written -/
theorem LYc.int {P : Nat → Nat → Prop} (l : LYc x σ) (e : Ex P σ σ') (hP : ∀ a k, P a k → a = x ∨ a = x + 1) : Kz (fun a => a = x ∨ a = x + 1) σ σ' ∧ LYc x σ' ∧ WN σ (fun a => a = x ∨ a = x + 1) := by
  have t1 : mT σ (x + 1) = 102 := (l.T (1, 102, 400) (by decide)).1
  have tg : ∀ a, (a = x ∨ a = x + 1) → mT σ a = 1 ∨ mT σ a = 102 := fun a w => by
    rcases w with w | w
    · rw [w]; exact Or.inl l.1.1
    · rw [w]; exact Or.inr t1
  have K : Kz (fun a => a = x ∨ a = x + 1) σ σ' := e.kp l.ok hP
  refine ⟨K, l.kp K (fun w => by have := tg 0 w; rw [l.z0] at this; omega) (fun a w => by have := tg a w; omega) (fun a j _ _ => by rw [e.rR]) (fun q hq ht => by rw [e.rT] at ht; rw [e.rR]; exact l.np q ht), ⟨fun w => by have := tg 0 w; rw [l.z0] at this; omega, fun a w => ?_⟩⟩
  have := tg a w
  refine ⟨by omega, by omega, fun z => ?_⟩
  rcases w with w | w
  · rw [w, l.1.1] at z; cases z
  · rw [w, Nat.add_sub_cancel, l.1.1]; decide
theorem op_end {v : Int} (R : RL x h t σ τ) : E2 (x1_end x v σ) (tw_end h v τ) (OpQ x h t σ τ) := by
  obtain ⟨nv, pa, un, fs, Gs, g, own, rt, R⟩ := R
  have l := R.1.1
  have hh := R.1.2.1.1
  obtain ⟨n, a1, a2, a3, a4⟩ := R.2.2.1.1
  unfold x1_end tw_end
  have j40 : mI (wI τ h 0 0) h 40 = n := by rw [mIwI1 (by omega)]; exact a3
  refine E2.rl ?_
  rw [j40, t_in, Option.bind_some]
  by_cases c : 0 ≤ v ∧ v ≤ n
  · rw [if_pos c]
    refine E2.lf (by omega) (E2.lg l.1.1 (E2.lg (by omega) (E2.ll (E2.rf (by decide) (E2.rl (E2.rg (Or.inr rfl) (E2.r ?_)))))))
    have X : Ex (fun a k => a = x ∧ k = 1) σ (wI σ x 1 v) := Ex.rf.I ⟨rfl, rfl⟩
    have Y : Ex (fun a k => a = h ∧ (k = 0 ∨ k = 40)) τ (wI (wI τ h 0 0) h 40 v) := (Ex.rf.I ⟨rfl, Or.inl rfl⟩).I ⟨rfl, Or.inr rfl⟩
    obtain ⟨K, ly, wn⟩ := l.int X (fun a k p => Or.inl p.1)
    obtain ⟨V, hV⟩ := R.1.2.2.2.2.2.2
    have ei : ∀ j, j ≠ 1 → mI (wI σ x 1 v) x j = mI σ x j := fun j hj => X.rI (fun p => hj p.2)
    have i1 : mI (wI σ x 1 v) x 1 = v := by rw [mIwI2 ⟨rfl, rfl⟩, w32_i (by omega) (by omega)]
    have i40 : mI (wI (wI τ h 0 0) h 40 v) h 40 = v := by rw [mIwI2 ⟨rfl, rfl⟩, w32_i (by omega) (by omega)]
    refine ⟨⟨nv, pa, un, fs, Gs, g, own, rt, (R.upd K wn (fun a w => by unfold OutS; omega) (by omega) ly (by rw [X.rR]) (fun j hj => ei j (by omega)) ⟨V, hV.kp K l.ok (fun i hi => by omega)⟩ (R.2.2.2.2.1.kp K l.ok (fun i hi => by omega) (ei 10 (by decide))) Y (fun a k p => by unfold UsP TSc; omega) ⟨v.toNat, by omega, by show mI (wI σ x 1 v) x 1 = _; rw [i1]; omega, by show mI (wI (wI τ h 0 0) h 40 v) h 40 = _; rw [i40]; omega, fun k hk => ?_⟩ ?_).t1⟩, ⟨K.mono (fun a w => by unfold NoT; omega), 0, by show mI (wI σ x 1 v) x 17 = _; rw [ei 17 (by decide)]; omega, by show mZ σ ≤ _; omega, by show mS σ ≤ _; omega⟩, Y.mono (fun a k p => by unfold TwA; omega), rfl, ?_⟩
    · show _ ∧ _ ∧ mI (wI σ x 1 v) (x + 1) k = _
      rw [Y.rI (by omega), X.rI (by omega)]; exact a4 k (by omega)
    · unfold Rfl
      show mI (wI σ x 1 v) x 2 = mI (wI (wI τ h 0 0) h 40 v) h 41 ∧ _
      rw [ei 2 (by decide), ei 3 (by decide), Y.rI (by omega), Y.rI (by omega)]; exact R.2.2.1.2.1
    · show mI (wI (wI τ h 0 0) h 40 v) h 0 = 0
      rw [mIwI1 (by omega), mIwI2 ⟨rfl, rfl⟩, w32_i (by omega) (by omega)]
  · rw [if_neg c]
    by_cases c2 : v < 0
    · exact E2.lg c2 (E2.rg rfl (E2.rg (Or.inl rfl) (E2.r (OpQ.same R))))
    · exact E2.lf c2 (E2.lg l.1.1 (E2.lf (by omega) (E2.rg rfl (E2.rg (Or.inl rfl) (E2.r (OpQ.same R))))))
/-- what an act that asks leaves: the class's memory stays -/
def OpA (x h t : Nat) (σ τ : gMem) (a : Int) (b : Int × gMem) : Prop := OpQ x h t σ τ (a, σ) b
theorem op_fault {v : Int} (R : RL x h t σ τ) : E2 (x1_fault x v σ) (tw_fault h v τ) (OpA x h t σ τ) := by
  obtain ⟨nv, pa, un, fs, Gs, g, own, rt, R⟩ := R
  have l := R.1.1
  obtain ⟨f1, f2⟩ := R.2.2.1.2.1
  unfold x1_fault tw_fault
  refine E2.rl ?_
  by_cases c : v ≠ 0
  · refine E2.lg c (E2.rg c ?_)
    by_cases c1 : v ≠ 1
    · exact E2.lg c1 (E2.rg c1 (E2.r (OpQ.same R)))
    · refine E2.lf c1 (E2.rf c1 (E2.lg l.1.1 (E2.r ?_)))
      rw [mIwI1 (by omega), ← f2]; exact OpQ.same R
  · refine E2.lf c (E2.rf c (E2.lg l.1.1 (E2.r ?_)))
    rw [mIwI1 (by omega), ← f1]; exact OpQ.same R
/-- the same sheets under other numbers, on both sides -/
theorem Rl.re {p : Nat → Nat} {pa' un' : Nat} (R : Rl x h t nv pa un fs Gs g own rt σ τ) (hp : pa' + un' ≤ 40) (pv : ∀ i, rtV nv pa' un' i → rtV nv pa un (p i)) (pin : ∀ i j, rtV nv pa' un' i → rtV nv pa' un' j → p i = p j → i = j) (p81 : ∀ k, p (81 + k) = 81 + k) (pV : ∀ i, rtV nv pa' un' i → Vi nv (p i) = Vi nv i)
    (K : Kz (fun a => a = x ∨ a = x + 9 ∨ a = x + 10) σ σ') (eR : ∀ j, j ≠ 8 → mR σ' x j = mR σ x j) (eI : ∀ j, j ≠ 10 → j ≠ 13 → j ≠ 14 → mI σ' x j = mI σ x j) (i10 : mI σ' x 10 = 0) (i13 : mI σ' x 13 = pa') (i14 : mI σ' x 14 = un') (eT : mT σ' = mT σ) (eA : ∀ i, rtV nv pa' un' i → rtA x σ' i = rt (p i))
    (e : Ex P τ τ') (hP : ∀ a k, P a k → (h + 1 ≤ a ∧ a ≤ h + 5) ∨ (a = h ∧ (k = 0 ∨ k = 16 ∨ k = 17 ∨ k = 65))) (j16 : mI τ' h 16 = pa') (j17 : mI τ' h 17 = un') (j65 : mI τ' h 65 = 0) (hS : ∀ i, rtV nv pa' un' i → ShT τ' h nv (tsN fs i) (Gs (p i))) (hB : ∀ s, s < 122 → 0 ≤ mI τ' (h + 1) s ∧ mI τ' (h + 1) s ≤ 32 ∧ 0 ≤ mI τ' (h + 2) s ∧ mI τ' (h + 2) s ≤ 10) : Rl x h t nv pa' un' fs (fun i => Gs (p i)) g own (fun i => rt (p i)) σ' τ' := by
  have R0 := R
  obtain ⟨⟨l, ⟨hh, hh'⟩, cnt, sc, rta, vc, V, vv⟩, RT0, ⟨q1, q2, q3, q4, q5⟩, q6, q7, q8⟩ := R
  obtain ⟨r1, ⟨r2, r3, r4, r5, r6, r7, r8⟩, r9, r10, r11, r12⟩ := RT0
  have ok := l.ok
  have t9 := (l.T (9, 105, 40) (by decide)).1
  have t10 := (l.T (10, 105, 40) (by decide)).1
  dsimp only at t9 t10
  have tg : ∀ a, (a = x ∨ a = x + 9 ∨ a = x + 10) → mT σ a = 1 ∨ mT σ a = 105 := fun a w => by
    rcases w with w | w | w
    · rw [w]; exact Or.inl l.1.1
    · rw [w]; exact Or.inr t9
    · rw [w]; exact Or.inr t10
  have wn : WN σ (fun a => a = x ∨ a = x + 9 ∨ a = x + 10) := ⟨fun w => by have := tg 0 w; rw [l.z0] at this; omega, fun a w => by have := tg a w; omega⟩
  have ly : LYc x σ' := l.kp K wn.1 (fun a w => by have := tg a w; omega) (fun a j w rk => by
    rcases w with w | w | w
    · rw [w]; exact eR j (by unfold RK at rk; omega)
    · unfold RK at rk; omega
    · unfold RK at rk; omega) (fun q hq ht => by
    exfalso
    rw [eT] at ht
    rcases hq with hq | hq
    · rw [ok q hq] at ht; cases ht
    · have := tg q hq; omega)
  have E : ∀ a k, ¬ ((h + 1 ≤ a ∧ a ≤ h + 5) ∨ (a = h ∧ (k = 0 ∨ k = 16 ∨ k = 17 ∨ k = 65))) → mI τ' a k = mI τ a k := fun a k n => e.rI (fun p => n (hP a k p))
  have qt : ∀ a k, P a k → Qt h a := fun a k p => by have := hP a k p; unfold Qt; omega
  have gw : Grw τ τ' h := ⟨by rw [E h 25 (by omega)]; exact Int.le_refl _, by rw [E h 19 (by omega)]; exact Int.le_refl _, by rw [E h 24 (by omega)]; exact Int.le_refl _⟩
  have fr : FrS x h (fun a => a = x ∨ a = x + 9 ∨ a = x + 10) σ σ' := ⟨K, ok, l.z, wn, fun a w o => by unfold OutS at o; omega, by omega, fun j hj => eI j (by omega) (by omega) (by omega), eR 18 (by decide), eR 19 (by decide)⟩
  have i1 : ∀ k, mI σ' (x + 1) k = mI σ (x + 1) k := fun k => K.rI ok (by rw [(l.T (1, 102, 400) (by decide)).1]; decide) (by omega) k
  have e2 : ∀ k, (fun i => Gs (p i)) (81 + k) = Gs (81 + k) := fun k => by show Gs (p (81 + k)) = _; rw [p81]
  refine ⟨⟨ly, ⟨hh, by have := K.1; omega⟩, ⟨by rw [eI 5 (by decide) (by decide) (by decide)]; exact cnt.1, i13, i14, cnt.2.2.2.1, cnt.2.2.2.2.1, hp⟩, (sc.kp K ok l.z wn (fun a w => by unfold OutS; omega)).re (p := p) pv pin (fun _ _ => rfl) (fun _ _ => rfl), eA, fun k hk => (vc k hk).kp K ok l.t5.1 (by omega) (fun a w o => by unfold OutS at o; omega), V, vv.kp K ok (fun i hi => by omega)⟩, ⟨(R0.2.1.base e qt).1, ⟨by rw [E h 8 (by omega)]; exact r2, j16, j17, by rw [E h 15 (by omega)]; exact r5, r6, r7, hp⟩, hB, by rw [E h 25 (by omega), E h 19 (by omega), E h 24 (by omega)]; exact r10, hS, (R0.2.1.base e qt).2⟩, ⟨?_, ?_, ?_, ?_, q5.mv fr l.t5 (fun k hk => ⟨(vc k hk).1, (vc k hk).2.1⟩) e (fun a k p => ⟨fun q => by have := hP a k p; unfold FtP at q; omega, (qt a k p).co⟩) gw⟩, fun i hi => ?_, q7.cg e2 i10, q8.cg e2 r7 (fun k hk => R0.2.1.len (show rtV nv pa un (81 + k) by unfold rtV; omega)) e (fun a k p q => by have := hP a k p; omega) j65⟩
  · obtain ⟨n, a1, a2, a3, a4⟩ := q1
    exact ⟨n, a1, by rw [eI 1 (by decide) (by decide) (by decide)]; exact a2, by rw [E _ _ (by omega)]; exact a3, fun k hk => by rw [i1, E _ _ (by omega)]; exact a4 k hk⟩
  · unfold Rfl at q2 ⊢; rw [eI 2 (by decide) (by decide) (by decide), eI 3 (by decide) (by decide) (by decide), E _ _ (by omega), E _ _ (by omega)]; exact q2
  · unfold Rnx at q3 ⊢; rw [eI 21 (by decide) (by decide) (by decide), eI 22 (by decide) (by decide) (by decide), E h 6 (by omega), E h 7 (by omega)]; exact q3
  · unfold Rpt at q4 ⊢; rw [eI 17 (by decide) (by decide) (by decide), E h 25 (by omega)]; exact q4
  · rw [E h 6 (by omega), E h 7 (by omega), ← pV i hi]; exact q6 _ (pv i hi)
end State13
