/-! ===== PHASE 2: the state: both halves; a step, a sheet that is changed ===== -/
section State9
variable {N x h s t u b nv nv' pa un fs i : Nat} {σ σ' τ τ' τ'' r : gMem} {P : Nat → Nat → Prop} {W : Nat → Prop} {own own' rt rt' : Nat → Nat} {S S' : Sh} {Gs Gs' : Nat → Sh} {g : Nat → Nat → Vl}
/-- marks of lines, each once; what is looked at of versions -/
def ShP (nr nc V : Int) (S : Sh) : Prop := S.1.1.Nodup ∧ S.1.2.Nodup ∧ (∀ m ∈ S.1.1, 0 ≤ m ∧ m < nr) ∧ (∀ m ∈ S.1.2, 0 ≤ m ∧ m < nc) ∧ 0 < S.1.1.length ∧ 0 < S.1.2.length ∧ ∀ k, inB S.1.1.length S.1.2.length k → ∀ p ∈ (S.2 k).2, pW p < V
def Vi (nv i : Nat) : Int := if 81 ≤ i then ((i - 81 : Nat) : Int) else nv
/-- V values sheet i as it should be -/
def IsV (Gs : Nat → Sh) (G : Nat → Nat → Vl) (i : Nat) (V : Nat → Vl) : Prop := IsVal ((fun ver : Int => if ver = -1 then (Gs i).1 else (Gs (81 + ver.toNat)).1), (fun ver : Int => if ver = -1 then V else G ver.toNat)) (Gs i).1.1.length (Gs i).1.2.length (Gs i).2
def RVc (x nv : Nat) (Gs : Nat → Sh) (g : Nat → Nat → Vl) (σ : gMem) : Prop := (∀ k, k < nv → IsV Gs g (81 + k) (g k)) ∧ (mI σ x 10 ≠ 0 → ∃ V, VV σ (x + 4) V ∧ IsV Gs g 0 V)
def RVt (h nv : Nat) (Gs : Nat → Sh) (g : Nat → Nat → Vl) (τ : gMem) : Prop :=
  (∀ k, k < nv → mI τ (h + 32) k ≠ 0 → ∀ c, inB (Gs (81 + k)).1.1.length (Gs (81 + k)).1.2.length c → VC τ h (320 * k + c) (g k c)) ∧ (∀ k, nv ≤ k → k < 40 → mI τ (h + 32) k = 0) ∧
  (mI τ h 65 ≠ 0 → ∃ V, IsV Gs g 0 V ∧ ∀ c, inB (Gs 0).1.1.length (Gs 0).1.2.length c → VC τ h (12800 + c) (V c))
/-- the two sides are alike -/
def Rl (x h t nv pa un fs : Nat) (Gs : Nat → Sh) (g : Nat → Nat → Vl) (own rt : Nat → Nat) (σ τ : gMem) : Prop :=
  RCl x h nv pa un Gs g own rt σ ∧ RTw h t nv pa un fs Gs τ ∧ (Rtp x h σ τ ∧ Rfl x h σ τ ∧ Rnx x h t σ τ ∧ Rpt x h σ τ ∧ RSq x h nv σ τ) ∧ (∀ i, rtV nv pa un i → ShP (mI τ h 6) (mI τ h 7) (Vi nv i) (Gs i)) ∧ RVc x nv Gs g σ ∧ RVt h nv Gs g τ
theorem IsV.cg {i' : Nat} {V : Nat → Vl} (k : IsV Gs g i V) (e : Gs' i' = Gs i) (e2 : ∀ k, Gs' (81 + k) = Gs (81 + k)) : IsV Gs' g i' V := by
  unfold IsV at k ⊢
  rw [e]
  have : (fun ver : Int => if ver = -1 then (Gs i).1 else (Gs' (81 + ver.toNat)).1) = (fun ver : Int => if ver = -1 then (Gs i).1 else (Gs (81 + ver.toNat)).1) := by
    funext v; rw [e2]
  rw [this]; exact k
theorem RVc.cg (k : RVc x nv Gs g σ) (e2 : ∀ k, Gs' (81 + k) = Gs (81 + k)) (h10 : mI σ' x 10 = 0) : RVc x nv Gs' g σ' :=
  ⟨fun j hj => (k.1 j hj).cg (e2 j) e2, fun z => absurd h10 z⟩
theorem RVt.cg (k : RVt h nv Gs g τ) (e2 : ∀ k, Gs' (81 + k) = Gs (81 + k)) (n4 : nv ≤ 40) (n1 : ∀ k, k < nv → (Gs (81 + k)).1.1.length ≤ 32 ∧ (Gs (81 + k)).1.2.length ≤ 10) (e : Ex P τ τ') (hP : ∀ a k, P a k → ¬ (h + 28 ≤ a ∧ a ≤ h + 32)) (h65 : mI τ' h 65 = 0) : RVt h nv Gs' g τ' := by
  obtain ⟨k1, k2, k3⟩ := k
  refine ⟨fun j hj z c hc => ?_, fun j h1 h2 => by rw [e.rI (fun p => hP _ _ p (by omega))]; exact k2 j h1 h2, fun z => absurd h65 z⟩
  rw [e2] at hc
  rw [e.rI (fun p => hP _ _ p (by omega))] at z
  exact VG.ex e (k1 j hj z c hc) (fun p => hP _ _ p (by omega)) (fun p => hP _ _ p (by omega)) (fun p => hP _ _ p (by omega)) (fun i _ p => hP _ _ p (by omega))
theorem StF.fr (f : StF x σ r) (l : LYc x σ) (hh : h = x + 1471) : FrS x h (StW x) σ r := by
  obtain ⟨f1, f2, f3, f4, f5, f6⟩ := f
  exact ⟨f1, l.ok, l.z, StW.wn l, fun a w o => by unfold StW at w; unfold OutS at o; omega, by unfold StW; omega, fun j hj => f3 j (by omega) (by omega) (by omega), congrFun f2 18, congrFun f2 19⟩
theorem LYc.t5 (l : LYc x σ) : mT σ (x + 2) = 104 ∧ mT σ (x + 3) = 100 ∧ mT σ (x + 1434) = 100 ∧ mT σ (x + 1435) = 100 ∧ mT σ (x + 1436) = 100 :=
  ⟨(l.T (2, 104, 40) (by decide)).1, (l.T (3, 100, 6) (by decide)).1, (l.T (1434, 100, 500) (by decide)).1, (l.T (1435, 100, 500) (by decide)).1, (l.T (1436, 100, 500) (by decide)).1⟩
theorem RCl.vo (R : RCl x h nv pa un Gs g own rt σ) : ∀ k, k < nv → mT σ (mR σ (x + 2) k) = 9 ∧ OutS x h (mR σ (x + 2) k) := fun k hk => ⟨(R.2.2.2.2.2.1 k hk).1, (R.2.2.2.2.2.1 k hk).2.1⟩
theorem StP.ft {a k : Nat} (p : StP h a k) : ¬ FtP h a k := by
  intro q
  rcases p with ⟨u, h1, h2, p⟩ | p
  · unfold CpP at p; unfold FtP at q; omega
  · unfold FtP at q; omega
theorem StP.out {a k : Nat} (p : StP h a k) : (a = h ∧ (k = 15 ∨ k = 16 ∨ k = 17 ∨ k = 65)) ∨ (h + 1 ≤ a ∧ a ≤ h + 5) := by
  rcases p with ⟨u, h1, h2, p⟩ | p
  · unfold CpP at p; omega
  · exact Or.inl p
theorem stG_v (pa : Nat) (Gs : Nat → Sh) (p4 : pa ≤ 40) (k : Nat) : stG pa Gs (81 + k) = Gs (81 + k) := by
  unfold stG sft
  by_cases p : pa = 40
  · rw [if_pos p, if_pos p, if_neg (show ¬ 81 + k = 40 by omega), if_neg (show ¬ (1 ≤ 81 + k ∧ 81 + k < 40) by omega)]
  · rw [if_neg p, if_neg p, if_neg (show ¬ 81 + k = pa + 1 by omega)]
theorem stG_0 (pa : Nat) (Gs : Nat → Sh) : stG pa Gs 0 = Gs 0 := by
  unfold stG sft
  by_cases p : pa = 40
  · rw [if_pos p, if_pos p, if_neg (show ¬ 0 = 40 by omega), if_neg (show ¬ (1 ≤ 0 ∧ 0 < 40) by omega)]
  · rw [if_neg p, if_neg p, if_neg (show ¬ 0 = pa + 1 by omega)]
/-- both keep a step -/
theorem both_step (hN : 500 ≤ N) (R : Rl x h t nv pa un fs Gs g own rt σ τ) : ∃ own' rt' fs', Ev (x1_step N x σ) (fun r => Ev (tw_step N h τ) (fun b => b.1 = ((tsN fs' (if pa = 40 then 40 else pa + 1) : Nat) : Int) ∧ Rl x h t nv (if pa = 40 then 40 else pa + 1) 0 fs' (stG pa Gs) g own' rt' r b.2 ∧ StF x σ r ∧ Ex (StP h) τ b.2 ∧ mI r x 10 = 0 ∧ mI b.2 h 65 = 0)) := by
  obtain ⟨RC0, RT0, ⟨q1, q2, q3, q4, q5⟩, q6, q7, q8⟩ := R
  obtain ⟨own', rt', r, er, c1, c2, c3⟩ := c_step hN RC0
  obtain ⟨fs', b, eb, t1, t2, t3, t4⟩ := t_step hN RT0
  have l := RC0.1
  have hh := RC0.2.1.1
  have ok := l.ok
  have n4 := RC0.2.2.1.2.2.2.2
  have c1' : RCl x h nv (if pa = 40 then 40 else pa + 1) 0 (stG pa Gs) g own' rt' r := c1
  have E : ∀ a k, ¬ ((a = h ∧ (k = 15 ∨ k = 16 ∨ k = 17 ∨ k = 65)) ∨ (h + 1 ≤ a ∧ a ≤ h + 5)) → mI b.2 a k = mI τ a k := fun a k n => t3.rI (fun p => n p.out)
  have C : ∀ j, j ≠ 10 → j ≠ 13 → j ≠ 14 → mI r x j = mI σ x j := c2.2.2.1
  have gw : Grw τ b.2 h := ⟨by rw [E h 25 (by omega)]; exact Int.le_refl _, by rw [E h 19 (by omega)]; exact Int.le_refl _, by rw [E h 24 (by omega)]; exact Int.le_refl _⟩
  have k1 : ∀ k, mI r (x + 1) k = mI σ (x + 1) k := fun k => c2.1.rI ok (by rw [(l.T (1, 102, 400) (by decide)).1]; decide) (by unfold StW; omega) k
  refine ⟨own', rt', fs', r, er, b, eb, t1, ⟨c1', t2, ⟨?_, ⟨?_, ?_⟩, ?_, ?_, q5.mv (c2.fr l hh) l.t5 RC0.vo t3 (fun a k p => ⟨p.ft, p.qt.co⟩) gw⟩, fun i hi => ?_, q7.cg (stG_v pa Gs (by omega)) c3, q8.cg (stG_v pa Gs (by omega)) n4.1 (fun k hk => RT0.len (show rtV nv pa un (81 + k) by unfold rtV; omega)) t3 (fun a k p q => by have := p.out; omega) t4⟩, c2, t3, c3, t4⟩
  · obtain ⟨n, a1, a2, a3, a4⟩ := q1
    exact ⟨n, a1, by rw [C 1 (by decide) (by decide) (by decide)]; exact a2, by rw [E _ _ (by omega)]; exact a3, fun k hk => by rw [k1, E _ _ (by omega)]; exact a4 k hk⟩
  · rw [C 2 (by decide) (by decide) (by decide), E _ _ (by omega)]; exact q2.1
  · rw [C 3 (by decide) (by decide) (by decide), E _ _ (by omega)]; exact q2.2
  · unfold Rnx at q3 ⊢
    rw [C 21 (by decide) (by decide) (by decide), C 22 (by decide) (by decide) (by decide), E h 6 (by omega), E h 7 (by omega)]; exact q3
  · unfold Rpt at q4 ⊢
    rw [C 17 (by decide) (by decide) (by decide), E h 25 (by omega)]; exact q4
  · rw [E h 6 (by omega), E h 7 (by omega)]
    have v0 : rtV nv pa un 0 := Or.inl rfl
    unfold stG
    by_cases e : i = (if pa = 40 then 40 else pa + 1)
    · have p40 : i ≤ 40 := by rw [e]; split <;> omega
      rw [if_pos e]
      have := q6 0 v0
      unfold Vi at this ⊢
      rw [if_neg (by omega)] at this ⊢; exact this
    · rw [if_neg e]
      by_cases p : pa = 40
      · rw [if_pos p]
        rw [if_pos p] at e hi
        have hv : rtV nv pa un (sft i) := by unfold rtV at hi ⊢; unfold sft; split <;> omega
        have := q6 _ hv
        have ev : Vi nv (sft i) = Vi nv i := by
          unfold Vi sft
          by_cases c : 1 ≤ i ∧ i < 40
          · rw [if_pos c, if_neg (by omega), if_neg (by omega)]
          · rw [if_neg c]
        rw [ev] at this; exact this
      · rw [if_neg p]
        rw [if_neg p] at e hi
        exact q6 i (by unfold rtV at hi ⊢; omega)
/-- the frame of what is done to the working sheet by the class -/
def SeF (x : Nat) (σ r : gMem) : Prop := mR r x = mR σ x ∧ mI r x = mI σ x
/-- both change the working sheet -/
theorem both_set (R : Rl x h t nv pa un fs Gs g own rt σ τ) (own' : Nat → Nat) (eo : ∀ b, b < mZ σ → own' b = own b) (K : Kz W σ σ') (hw : ∀ b, W b → ShW σ (rt 0) (Gs 0).1.1.length b) (f : SeF x σ σ') (hn : ∀ q, mZ σ ≤ q → mT σ' q = 18 → mR σ' q 1 ≠ x + 1430)
    (n1 : ShC σ' (rt 0) S') (n2 : OwS own' σ' (rt 0) S'.1.1.length) (n3 : ∀ b, ShA σ' (rt 0) S'.1.1.length b → OutS x h b) (h10 : mI σ x 10 = 0) (e : Ex P τ τ') (hP : ∀ a k, P a k → SlP h 40 a k ∨ (a = h ∧ k = 65)) (h65 : mI τ' h 65 = 0) (tS : ShT τ' h nv 40 S') (sp : ShP (mI τ h 6) (mI τ h 7) nv S') : Rl x h t nv pa un fs (fun j => if j = 0 then S' else Gs j) g own' rt σ' τ' := by
  have R0 := R
  obtain ⟨⟨l, ⟨hh, hh'⟩, cnt, sc, rta, vc, V, vv⟩, RT0, ⟨q1, q2, q3, q4, q5⟩, q6, q7, q8⟩ := R
  obtain ⟨fR, fI⟩ := f
  have ok := l.ok
  have v0 : rtV nv pa un 0 := Or.inl rfl
  obtain ⟨d1, d2, d3⟩ := sc.1 0 v0
  have wO : ∀ b, W b → OutS x h b := fun b w => d3 b (hw b w).sha
  have wT : ∀ b, W b → mT σ b = 8 ∨ mT σ b = 111 ∨ mT σ b = 110 := fun b w => ShW.tag d1 (hw b w)
  have nf : ∀ a, a ≤ x + 1440 → ¬ W a := fun a ha w => by have := wO a w; unfold OutS at this; omega
  have t2 := l.t5.1
  have E : ∀ a k, ¬ (SlP h 40 a k ∨ (a = h ∧ k = 65)) → mI τ' a k = mI τ a k := fun a k n => e.rI (fun p => n (hP a k p))
  have eh : ∀ k, k ≠ 65 → mI τ' h k = mI τ h k := fun k hk => E h k (by unfold SlP; omega)
  have gw : Grw τ τ' h := ⟨by rw [eh 25 (by decide)]; exact Int.le_refl _, by rw [eh 19 (by decide)]; exact Int.le_refl _, by rw [eh 24 (by decide)]; exact Int.le_refl _⟩
  have qt : ∀ a k, P a k → Qt h a := fun a k p => by have := hP a k p; unfold SlP at this; unfold Qt; omega
  have ly : LYc x σ' := l.kp K (nf 0 (by omega)) (fun a w => by have := wT a w; omega) (fun a j w rk => absurd w (nf a (by unfold RK at rk; omega))) (fun q hq ht => by
    rcases hq with hq | hq
    · exact hn q hq ht
    · have := wT q hq
      rw [K.tag ok (by omega)] at ht; omega)
  have wn : WN σ W := ShW.wn d1 hw l.z0
  have fr : FrS x h W σ σ' := ⟨K, ok, l.z, wn, fun a w _ => by have := wT a w; omega, ⟨nf _ (by omega), nf _ (by omega), nf _ (by omega), nf _ (by omega), nf _ (by omega)⟩, fun j _ => by rw [fI], by rw [fR], by rw [fR]⟩
  have e2 : ∀ k, (fun j => if j = 0 then S' else Gs j) (81 + k) = Gs (81 + k) := fun k => if_neg (by omega)
  have i2 : ∀ o j, mT σ (x + o) ≠ 0 → o ≤ 1440 → mR σ' (x + o) j = mR σ (x + o) j := fun o j a b => K.rR ok a (nf _ (by omega)) j
  have i1 : ∀ k, mI σ' (x + 1) k = mI σ (x + 1) k := fun k => K.rI ok (by rw [(l.T (1, 102, 400) (by decide)).1]; decide) (nf _ (by omega)) k
  refine ⟨⟨ly, ⟨hh, by have := K.1; omega⟩, by rw [fI]; exact cnt, sc.set K ok l.z l.z0 v0 hw own' eo n1 n2 n3, fun i hi => ?_, fun k hk => (vc k hk).kp K ok t2 (nf _ (by omega)) (fun a w _ => by have := wT a w; omega), V, vv.kp K ok (fun i hi => nf _ (by omega))⟩, ?_, ⟨?_, ?_, ?_, ?_, ?_⟩, fun i hi => ?_, q7.cg e2 (by rw [fI]; exact h10), q8.cg e2 cnt.2.2.2.2.1 (fun k hk => RT0.len (show rtV nv pa un (81 + k) by unfold rtV; omega)) e (fun a k p q => by have := hP a k p; unfold SlP at this; omega) h65⟩
  · rw [← rta i hi]
    unfold rtA
    rw [fR]
    by_cases c0 : i = 0
    · rw [if_pos c0, if_pos c0]
    · rw [if_neg c0, if_neg c0]
      by_cases c1 : i ≤ 40
      · rw [if_pos c1, if_pos c1, i2 9 _ (by rw [(l.T (9, 105, 40) (by decide)).1]; decide) (by decide)]
      · rw [if_neg c1, if_neg c1]
        by_cases c2 : i ≤ 80
        · rw [if_pos c2, if_pos c2, i2 10 _ (by rw [(l.T (10, 105, 40) (by decide)).1]; decide) (by decide)]
        · rw [if_neg c2, if_neg c2, i2 2 _ (by rw [t2]; decide) (by decide)]
          have v := vc (i - 81) (by unfold rtV at hi; omega)
          exact K.rR ok (by rw [v.1]; decide) (fun w => by have := wT _ w; have := v.1; omega) 0
  · obtain ⟨r1, ⟨r2, r3, r4, r5, r6, r7, r8⟩, r9, r10, r11, r12⟩ := RT0
    have n32 : S'.1.1.length ≤ 32 ∧ S'.1.2.length ≤ 10 := ⟨n1.1.2.1.2.2.1, n1.1.2.2.2⟩
    refine ⟨(R0.2.1.base e qt).1, ⟨by rw [eh 8 (by decide)]; exact r2, by rw [eh 16 (by decide)]; exact r3, by rw [eh 17 (by decide)]; exact r4, by rw [eh 15 (by decide)]; exact r5, r6, r7, r8⟩, fun s hs => ?_, ⟨by rw [eh 25 (by decide)]; exact r10.1, by rw [eh 25 (by decide)]; exact r10.2.1, by rw [eh 19 (by decide)]; exact r10.2.2.1, by rw [eh 19 (by decide)]; exact r10.2.2.2.1, by rw [eh 24 (by decide)]; exact r10.2.2.2.2.1, by rw [eh 24 (by decide)]; exact r10.2.2.2.2.2⟩, fun i hi => ?_, (R0.2.1.base e qt).2⟩
    · by_cases c : s = 40
      · rw [c, tS.1, tS.2.1]; omega
      · rw [E _ _ (by unfold SlP; omega), E _ _ (by unfold SlP; omega)]; exact r9 s hs
    · dsimp only
      by_cases c : i = 0
      · rw [if_pos c, c]; exact tS
      · rw [if_neg c]
        have n := R0.2.1.len hi
        refine (r11 i hi).ex e (fun a k p q => ?_) (fun a k p => (qt a k p).co) gw (Nat.le_refl _) n.1 n.2
        have ne : tsN fs i ≠ 40 := fun z => c (tsN_inj hi v0 r7 (by omega) (by omega) (by rw [z]; rfl))
        have := hP a k p
        unfold SlP at this q; omega
  · obtain ⟨n, a1, a2, a3, a4⟩ := q1
    exact ⟨n, a1, by rw [fI]; exact a2, by rw [eh 40 (by decide)]; exact a3, fun k hk => by rw [i1, E _ _ (by unfold SlP; omega)]; exact a4 k hk⟩
  · unfold Rfl at q2 ⊢; rw [fI, eh 41 (by decide), eh 42 (by decide)]; exact q2
  · unfold Rnx at q3 ⊢; rw [fI, eh 6 (by decide), eh 7 (by decide)]; exact q3
  · unfold Rpt at q4 ⊢; rw [fI, eh 25 (by decide)]; exact q4
  · exact q5.mv fr l.t5 (fun k hk => ⟨(vc k hk).1, (vc k hk).2.1⟩) e (fun a k p => ⟨fun q => by have := hP a k p; unfold SlP at this; unfold FtP at q; omega, (qt a k p).co⟩) gw
  · dsimp only
    rw [eh 6 (by decide), eh 7 (by decide)]
    by_cases c : i = 0
    · rw [if_pos c, c]; exact sp
    · rw [if_neg c]; exact q6 i hi
end State9
