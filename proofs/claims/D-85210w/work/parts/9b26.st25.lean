/-! ===== PHASE 2: the state: a working sheet that is new; drop, go ===== -/
section State25
variable {N x h u b nv nv' pa un fs i t s k n a A : Nat} {σ σ' τ τ' τ'' r m : gMem} {P : Nat → Nat → Prop} {W : Nat → Prop} {va : Nat → Prop} {own rt : Nat → Nat} {S S' : Sh} {Gs : Nat → Sh} {g : Nat → Nat → Vl} {v p q : Int}
theorem SC.new2 (K : Kz W σ σ') (g : gOk σ) (z : 0 < mZ σ) (n : WN σ W) (o : ∀ a, W a → ¬ OutS x h a) (own' : Nat → Nat) (eo : ∀ b, b < mZ σ → own' b = own b) (ge : mZ σ ≤ A) (c : SC x h own rt va Gs σ) (n1 : ShC σ' A S') (n2 : OwS own' σ' A S'.1.1.length) (n3 : ∀ b, ShA σ' A S'.1.1.length b → OutS x h b) : SC x h own' (fun j => if j = k then A else rt j) (fun j => j = k ∨ va j) (fun j => if j = k then S' else Gs j) σ' := by
  have rl : ∀ j, va j → rt j < mZ σ := fun j hj => gOk_lt g (by rw [(c.1 j hj).1.1.1]; decide)
  refine ⟨fun j hj => ?_, fun i j hi hj e => ?_⟩
  · (try dsimp only)
    by_cases e : j = k
    · rw [if_pos e, if_pos e]; exact ⟨n1, n2, n3⟩
    · have hj' : va j := hj.resolve_left e
      rw [if_neg e, if_neg e]
      obtain ⟨c1, c2, c3⟩ := c.1 j hj'
      have wn : ∀ b, ShA σ (rt j) (Gs j).1.1.length b → ¬ W b := fun b hb w => o b w (c3 b hb)
      have wa := wn _ (Or.inl rfl)
      have wc := wn _ (Or.inr (Or.inr (Or.inr (Or.inl rfl))))
      have lt : ∀ b, ShW σ (rt j) (Gs j).1.1.length b → b < mZ σ := fun b hb => gOk_lt g (by have := ShW.tag c1 hb; omega)
      have o' : OwS own' σ (rt j) (Gs j).1.1.length := ⟨by rw [eo _ (lt _ (Or.inl rfl))]; exact c2.1, by rw [eo _ (lt _ (Or.inr (Or.inl rfl)))]; exact c2.2.1, fun r hr => by rw [eo _ (lt _ (Or.inr (Or.inr ⟨r, hr, rfl⟩)))]; exact c2.2.2.1 r hr, c2.2.2.2⟩
      exact ⟨c1.kp K g z n wn, o'.kp K g c1 wa wc, fun b hb => c3 b ((ShA.kp K g c1 wa wc).mp hb)⟩
  · dsimp only at e
    by_cases ei : i = k
    · by_cases ej : j = k
      · omega
      · rw [if_pos ei, if_neg ej] at e
        have := rl j (hj.resolve_left ej); omega
    · by_cases ej : j = k
      · rw [if_neg ei, if_pos ej] at e
        have := rl i (hi.resolve_left ei); omega
      · rw [if_neg ei, if_neg ej] at e
        exact c.2 i j (hi.resolve_left ei) (hj.resolve_left ej) e
/-- a new working sheet, steps forgotten -/
theorem Rl.fresh (R : Rl x h t nv pa un fs Gs g own rt σ τ) (own' : Nat → Nat) (eo : ∀ b, b < mZ σ → own' b = own b) (K : Kz (fun a => a = x) σ σ') (ge : mZ σ ≤ A) (n1 : ShC σ' A S') (n2 : OwS own' σ' A S'.1.1.length) (n3 : ∀ b, ShA σ' A S'.1.1.length b → OutS x h b) (e8 : mR σ' x 8 = A) (eR : ∀ j, j ≠ 8 → j ≠ 18 → j ≠ 19 → mR σ' x j = mR σ x j) (eI : ∀ j, (j ≤ 5 ∨ j = 17 ∨ j = 21 ∨ j = 22) → mI σ' x j = mI σ x j) (i10 : mI σ' x 10 = 0) (i13 : mI σ' x 13 = 0) (i14 : mI σ' x 14 = 0) (np : ∀ q, mZ σ ≤ q → mT σ' q ≠ 18)
    (e : Ex P τ τ') (hP : ∀ a k, P a k → SlP h 40 a k ∨ SlP h 121 a k ∨ TSc h a k ∨ (a = h ∧ (k = 12 ∨ k = 13 ∨ k = 14 ∨ k = 16 ∨ k = 17 ∨ k = 65 ∨ k = 98)) ∨ (h + 46 ≤ a ∧ a ≤ h + 52)) (j16 : mI τ' h 16 = 0) (j17 : mI τ' h 17 = 0) (j65 : mI τ' h 65 = 0) (tS : ShT τ' h nv 40 S') (bd : ∀ s, s < 122 → 0 ≤ mI τ' (h + 1) s ∧ mI τ' (h + 1) s ≤ 32 ∧ 0 ≤ mI τ' (h + 2) s ∧ mI τ' (h + 2) s ≤ 10) (sp : ShP (mI τ h 6) (mI τ h 7) nv S') (n5 : RSq x h nv σ' τ') : Rl x h t nv 0 0 fs (fun j => if j = 0 then S' else Gs j) g own' (fun j => if j = 0 then A else rt j) σ' τ' := by
  have R0 := R
  obtain ⟨⟨l, ⟨hh, hh'⟩, cnt, sc, rta, vc, V, vv⟩, RT0, ⟨q1, q2, q3, q4, q5⟩, q6, q7, q8⟩ := R
  obtain ⟨r1, ⟨r2, r3, r4, r5, r6, r7, r8⟩, r9, r10, r11, r12⟩ := RT0
  have ok := l.ok
  have x0 : x ≠ 0 := fun e => by have a := l.1.1; rw [e, l.z0] at a; cases a
  have wT : ∀ a, a = x → mT σ a = 1 := fun a e => by rw [e]; exact l.1.1
  have wn : WN σ (fun a => a = x) := ⟨fun w => x0 w.symm, fun a w => by rw [wT a w]; omega⟩
  have ly : LYc x σ' := l.kp K (fun w => x0 w.symm) (fun a w => by rw [wT a w]; omega) (fun a j w rk => by
    have e : a = x := w
    rw [e] at rk ⊢
    exact eR j (by unfold RK at rk; omega) (by unfold RK at rk; omega) (by unfold RK at rk; omega)) (fun q hq ht => by
    rcases hq with hq | hq
    · exact absurd ht (np q hq)
    · have e : q = x := hq
      rw [e, K.tag ok (by rw [l.1.1]; decide), l.1.1] at ht; cases ht)
  have E : ∀ a k, ¬ (SlP h 40 a k ∨ SlP h 121 a k ∨ TSc h a k ∨ (a = h ∧ (k = 12 ∨ k = 13 ∨ k = 14 ∨ k = 16 ∨ k = 17 ∨ k = 65 ∨ k = 98)) ∨ (h + 46 ≤ a ∧ a ≤ h + 52)) → mI τ' a k = mI τ a k := fun a k n => e.rI (fun p => n (hP a k p))
  have qt : ∀ a k, P a k → Qt h a := fun a k p => by have := hP a k p; unfold SlP TSc at this; unfold Qt; omega
  have eh : ∀ k, (k = 6 ∨ k = 7 ∨ k = 8 ∨ k = 15 ∨ k = 19 ∨ k = 24 ∨ k = 25 ∨ (40 ≤ k ∧ k ≤ 42)) → mI τ' h k = mI τ h k := fun k hk => E h k (by unfold SlP TSc; omega)
  have gw : Grw τ τ' h := ⟨by rw [eh 25 (by omega)]; exact Int.le_refl _, by rw [eh 19 (by omega)]; exact Int.le_refl _, by rw [eh 24 (by omega)]; exact Int.le_refl _⟩
  have sc2 := (sc.new2 (k := 0) K ok l.z wn (fun a w => by have e : a = x := w; unfold OutS; omega) own' eo ge n1 n2 n3).cg (va' := rtV nv 0 0) (rt' := fun j => if j = 0 then A else rt j) (Gs' := fun j => if j = 0 then S' else Gs j) (fun i hi => by unfold rtV at hi ⊢; omega) (fun i _ => rfl) (fun i _ => rfl)
  have k1 : ∀ k, mI σ' (x + 1) k = mI σ (x + 1) k := fun k => K.rI ok (by rw [(l.T (1, 102, 400) (by decide)).1]; decide) (by omega) k
  have e2 : ∀ k, (fun j => if j = 0 then S' else Gs j) (81 + k) = Gs (81 + k) := fun k => if_neg (by omega)
  refine ⟨⟨ly, ⟨hh, by have := K.1; omega⟩, ⟨by rw [eI 5 (by omega)]; exact cnt.1, i13, i14, cnt.2.2.2.1, cnt.2.2.2.2.1, by omega⟩, sc2, fun i hi => ?_, fun k hk => (vc k hk).kp K ok l.t5.1 (by omega) (fun a w o => by have e : a = x := w; unfold OutS at o; omega), V, vv.kp K ok (fun i hi => by omega)⟩, ⟨(R0.2.1.base e qt).1, ⟨by rw [eh 8 (by omega)]; exact r2, j16, j17, by rw [eh 15 (by omega)]; exact r5, r6, r7, by omega⟩, bd, ?_, fun i hi => ?_, (R0.2.1.base e qt).2⟩, ⟨?_, ?_, ?_, ?_, n5⟩, fun i hi => ?_, q7.cg e2 i10, q8.cg e2 r7 (fun k hk => R0.2.1.len (show rtV nv pa un (81 + k) by unfold rtV; omega)) e (fun a k p q => by have := hP a k p; unfold SlP TSc at this; omega) j65⟩
  · (try dsimp only)
    by_cases c : i = 0
    · rw [if_pos c, c]
      unfold rtA
      rw [if_pos rfl]; exact e8
    · have hi' : rtV nv pa un i := by unfold rtV at hi ⊢; omega
      rw [if_neg c, ← rta i hi']
      unfold rtA
      rw [if_neg c, if_neg c]
      have c1 : ¬ i ≤ 40 := by unfold rtV at hi; omega
      have c2 : ¬ i ≤ 80 := by unfold rtV at hi; omega
      rw [if_neg c1, if_neg c1, if_neg c2, if_neg c2, K.rR ok (show mT σ (x + 2) ≠ 0 by rw [l.t5.1]; decide) (by omega)]
      have v := (vc (i - 81) (by unfold rtV at hi; omega))
      exact K.rR ok (by rw [v.1]; decide) (fun e => by have := v.2.1; unfold OutS at this; omega) 0
  · rw [eh 25 (by omega), eh 19 (by omega), eh 24 (by omega)]; exact r10
  · (try dsimp only)
    by_cases c : i = 0
    · rw [if_pos c, c]; exact tS
    · have hi' : rtV nv pa un i := by unfold rtV at hi ⊢; omega
      rw [if_neg c]
      have n := R0.2.1.len hi'
      have ek : tsN fs i = i - 81 := by unfold tsN; rw [if_neg c, if_neg (by unfold rtV at hi; omega), if_neg (by unfold rtV at hi; omega)]
      have c40 : i - 81 < 40 := by unfold rtV at hi; omega
      have k := r11 i hi'
      rw [ek] at k ⊢
      exact k.ex e (fun a k p q => by have := hP a k p; unfold SlP TSc at this; unfold SlP at q; omega) (fun a k p => (qt a k p).co) gw (Nat.le_refl _) n.1 n.2
  · obtain ⟨n, a1, a2, a3, a4⟩ := q1
    exact ⟨n, a1, by rw [eI 1 (by omega)]; exact a2, by rw [eh 40 (by omega)]; exact a3, fun k hk => by rw [k1, E _ _ (by unfold SlP TSc; omega)]; exact a4 k hk⟩
  · unfold Rfl at q2 ⊢; rw [eI 2 (by omega), eI 3 (by omega), eh 41 (by omega), eh 42 (by omega)]; exact q2
  · unfold Rnx at q3 ⊢; rw [eI 21 (by omega), eI 22 (by omega), eh 6 (by omega), eh 7 (by omega)]; exact q3
  · unfold Rpt at q4 ⊢; rw [eI 17 (by omega), eh 25 (by omega)]; exact q4
  · (try dsimp only)
    rw [eh 6 (by omega), eh 7 (by omega)]
    by_cases c : i = 0
    · rw [if_pos c, c]
      unfold Vi; rw [if_neg (by decide)]; exact sp
    · rw [if_neg c]; exact q6 i (by unfold rtV at hi ⊢; omega)
theorem take_c {hd : Nat} (hN : 2000 ≤ N) (R : Rl x h t nv pa un fs Gs g own rt σ τ) (hl : hd < nv) (h1 : x1_head x σ = some (hd : Int)) : ∃ m, x1_take N x σ = some m ∧ Kz (fun a => a = x) σ m ∧ mR m x 8 = mZ σ ∧ (∀ j, j ≠ 8 → mR m x j = mR σ x j) ∧ (∀ j, j ≠ 10 → j ≠ 13 → j ≠ 14 → j ≠ 15 → j ≠ 20 → mI m x j = mI σ x j) ∧ (mI m x 10 = 0 ∧ mI m x 13 = 0 ∧ mI m x 14 = 0 ∧ mI m x 15 = -1 ∧ mI m x 20 = 0) ∧ (mZ m ≤ mZ σ + 36 ∧ mS m ≤ mS σ + 397) ∧ ShC m (mZ σ) (Gs (81 + hd)) ∧ OwS (fun b => if mZ σ ≤ b then mZ σ else own b) m (mZ σ) (Gs (81 + hd)).1.1.length ∧ (∀ b, ShA m (mZ σ) (Gs (81 + hd)).1.1.length b → OutS x h b) ∧ (∀ q, mZ σ ≤ q → mT m q ≠ 18) := by
  have l := R.1.1
  have hh := R.1.2.1.1
  have ok := l.ok
  have e4 := l.R (4, 2) (by decide)
  have t2 := l.T (2, 104, 40) (by decide)
  (try dsimp only at e4 t2)
  obtain ⟨c5, n1, n4, pu, c8, p4, u4⟩ := R.c5
  have w := R.ver hl
  have vh : rtV nv pa un (81 + hd) := by unfold rtV; omega
  have sC := R.shC vh
  have sT := R.shT vh
  rw [tsN_k] at sT
  have len := R.2.1.len vh
  have lx : x < mZ σ := gOk_lt ok (by rw [l.1.1]; decide)
  obtain ⟨r0, er, q1, K0, q3, q4, q5, q6⟩ := c_twin (N := N) (by omega) ok l.z sC
  obtain ⟨m, hm⟩ : ∃ m, m = wI (wI (wI (wI (wI (wR r0.2 x 8 (mZ σ)) x 15 (-1)) x 20 0) x 13 0) x 14 0) x 10 0 := ⟨_, rfl⟩
  have tx : mT r0.2 x = 1 := by rw [(K0.2.2.1 x lx).1]; exact l.1.1
  have em : x1_take N x σ = some m := by
    unfold x1_take
    rw [if_pos l.1.1, h1, Option.bind_some, e4, if_pos t2.1, t2.2, if_pos (by omega), tn, if_pos w.1, w.2, if_pos sC.1.1, er, Option.bind_some]
    simp only [gLet]
    unfold x1_forget
    rw [if_pos (show mT (wI (wI (wR r0.2 x 8 r0.1) x 15 (-1)) x 20 0) x = 1 from tx)]
    simp only [gLet]
    rw [Option.bind_some, hm, q1]
  have K1 : Kz (fun a => a = x) σ m := by
    rw [hm]
    have K00 : Kz (fun a => a = x) σ r0.2 := K0.mono (fun _ f => f.elim)
    exact (((((K00.wR (Or.inr rfl)).wI (Or.inr rfl)).wI (Or.inr rfl)).wI (Or.inr rfl)).wI (Or.inr rfl)).wI (Or.inr rfl)
  have Kf : Kz (fun a => a = x) r0.2 m := by
    rw [hm]
    have K00 : Kz (fun a => a = x) r0.2 r0.2 := Kz.rf K0.ok
    exact (((((K00.wR (Or.inr rfl)).wI (Or.inr rfl)).wI (Or.inr rfl)).wI (Or.inr rfl)).wI (Or.inr rfl)).wI (Or.inr rfl)
  have m8 : mR m x 8 = mZ σ := by rw [hm]; show mR (wR r0.2 x 8 (mZ σ)) x 8 = _; rw [mR_wR, if_pos ⟨rfl, rfl⟩]
  have mRo : ∀ j, j ≠ 8 → mR m x j = mR σ x j := fun j hj => by rw [hm]; show mR (wR r0.2 x 8 (mZ σ)) x j = _; rw [mR_wR, if_neg (fun z => hj z.2)]; exact (K0.2.2.2 x lx (fun f => f) j).2.2
  have i0x : ∀ j, mI (wR r0.2 x 8 (mZ σ)) x j = mI σ x j := fun j => (K0.2.2.2 x lx (fun f => f) j).1
  have mIo : ∀ j, j ≠ 10 → j ≠ 13 → j ≠ 14 → j ≠ 15 → j ≠ 20 → mI m x j = mI σ x j := fun j a1 a2 a3 a4 a5 => by rw [hm, mIwI1 (by omega), mIwI1 (by omega), mIwI1 (by omega), mIwI1 (by omega), mIwI1 (by omega)]; exact i0x j
  have m10 : mI m x 10 = 0 := by rw [hm, mIwI2 ⟨rfl, rfl⟩, w32_i (by omega) (by omega)]
  have m14 : mI m x 14 = 0 := by rw [hm, mIwI1 (by omega), mIwI2 ⟨rfl, rfl⟩, w32_i (by omega) (by omega)]
  have m13 : mI m x 13 = 0 := by rw [hm, mIwI1 (by omega), mIwI1 (by omega), mIwI2 ⟨rfl, rfl⟩, w32_i (by omega) (by omega)]
  have m20 : mI m x 20 = 0 := by rw [hm, mIwI1 (by omega), mIwI1 (by omega), mIwI1 (by omega), mIwI2 ⟨rfl, rfl⟩, w32_i (by omega) (by omega)]
  have m15 : mI m x 15 = -1 := by rw [hm, mIwI1 (by omega), mIwI1 (by omega), mIwI1 (by omega), mIwI1 (by omega), mIwI2 ⟨rfl, rfl⟩, w32_i (by omega) (by omega)]
  have mT' : mT m = mT r0.2 := by rw [hm]; rfl
  have mZ' : mZ m = mZ r0.2 := by rw [hm]; rfl
  have mS' : mS m = mS r0.2 := by rw [hm]; rfl
  clear hm
  have x0 : x ≠ 0 := fun e => by have a := l.1.1; rw [e, l.z0] at a; cases a
  have wnr : WN r0.2 (fun a => a = x) := ⟨fun w => x0 w.symm, fun a w => by have e : a = x := w; rw [e, tx]; omega⟩
  have wnσ : WN σ (fun a => a = x) := ⟨fun w => x0 w.symm, fun a w => by have e : a = x := w; rw [e, l.1.1]; omega⟩
  have zr : 0 < mZ r0.2 := by have := K0.1; have := l.z; omega
  have far : ∀ b, ShA r0.2 (mZ σ) (Gs (81 + hd)).1.1.length b → ¬ b = x := fun b hb e => by have := q5.2.1 b hb; omega
  have sN : ShC m (mZ σ) (Gs (81 + hd)) := q5.1.kp Kf K0.ok zr wnr far
  have oN0 : OwS (fun b => if mZ σ ≤ b then mZ σ else own b) r0.2 (mZ σ) (Gs (81 + hd)).1.1.length := q5.ow ⟨if_pos (Nat.le_refl _), if_pos (show mZ σ ≤ mZ σ + 3 by omega), fun k hk => if_pos (show mZ σ ≤ mZ σ + 4 + k by omega)⟩
  have fa := far _ (Or.inl rfl)
  have fc := far _ (Or.inr (Or.inr (Or.inr (Or.inl rfl))))
  have oN := oN0.kp Kf K0.ok q5.1 fa fc
  have aN : ∀ b, ShA m (mZ σ) (Gs (81 + hd)).1.1.length b → OutS x h b := fun b hb => by
    have := q5.2.1 b ((ShA.kp Kf K0.ok q5.1 fa fc).mp hb)
    have := R.1.2.1.2
    unfold OutS; omega
  exact ⟨m, em, K1, m8, mRo, mIo, ⟨m10, m13, m14, m15, m20⟩, ⟨by omega, by omega⟩, sN, oN, aN, fun q hq ht => by
    rw [mT'] at ht
    have := q6 q hq; omega⟩
theorem cp_sl {a k : Nat} (p : CpP h 40 a k ∨ (a = h ∧ (k = 13 ∨ k = 98 ∨ k = 16 ∨ k = 17))) : SlP h 40 a k ∨ SlP h 121 a k ∨ TSc h a k ∨ (a = h ∧ (k = 12 ∨ k = 13 ∨ k = 14 ∨ k = 16 ∨ k = 17 ∨ k = 65 ∨ k = 98)) ∨ (h + 46 ≤ a ∧ a ≤ h + 52) := by
  rcases p with (p | p | p | p | p) | p
  · exact Or.inl (Or.inl p)
  · exact Or.inl (Or.inr (Or.inl p))
  · exact Or.inl (Or.inr (Or.inr (Or.inl p)))
  · exact Or.inl (Or.inr (Or.inr (Or.inr p)))
  · exact Or.inr (Or.inr (Or.inr (Or.inl ⟨p.1, by omega⟩)))
  · exact Or.inr (Or.inr (Or.inr (Or.inl ⟨p.1, by omega⟩)))
theorem cp_tw {a k : Nat} (p : CpP h 40 a k ∨ (a = h ∧ (k = 13 ∨ k = 98 ∨ k = 16 ∨ k = 17))) : TwA h a k := by
  unfold TwA
  rcases p with (p | p | p | p | p) | p <;> omega
/-- the working sheet becomes like the version that the branch is at -/
theorem both_take {hd : Nat} (hN : 2000 ≤ N) (R : Rl x h t nv pa un fs Gs g own rt σ τ) (hl : hd < nv) (h1 : x1_head x σ = some (hd : Int)) : ∃ own', Ev (x1_take N x σ) (fun m => Ev (tw_become N h hd τ) (fun r => Rl x h t nv 0 0 fs (fun j => if j = 0 then Gs (81 + hd) else Gs j) g own' (fun j => if j = 0 then mZ σ else rt j) m r ∧ Kz (fun a => a = x) σ m ∧ mI m x 17 = mI σ x 17 ∧ mZ m ≤ mZ σ + 36 ∧ mS m ≤ mS σ + 397 ∧ Ex (TwA h) τ r ∧ mI r h 0 = mI τ h 0)) := by
  have l := R.1.1
  have hh := R.1.2.1.1
  have ok := l.ok
  have e4 := l.R (4, 2) (by decide)
  have t2 := l.T (2, 104, 40) (by decide)
  (try dsimp only at e4 t2)
  obtain ⟨c5, n1, n4, pu, c8, p4, u4⟩ := R.c5
  have w := R.ver hl
  have vh : rtV nv pa un (81 + hd) := by unfold rtV; omega
  have sC := R.shC vh
  have sT := R.shT vh
  rw [tsN_k] at sT
  have len := R.2.1.len vh
  have lx : x < mZ σ := gOk_lt ok (by rw [l.1.1]; decide)
  obtain ⟨m, em, K1, m8, mRo, mIo, ⟨m10, m13, m14, m15, m20⟩, ⟨mZ1, mS1⟩, sN, oN, aN, np⟩ := take_c (N := N) hN R hl h1
  refine ⟨fun b => if mZ σ ≤ b then mZ σ else own b, m, em, ?_⟩
  unfold tw_become
  refine Ev.c (t_copySheet (N := N) (h := h) (τ := τ) (t := hd) (u := 40) (by omega) (by omega) (by decide) (by omega)) (fun r1 _ cp => Ev.l (Ev.l ?_))
  unfold tw_forgetSteps
  have XW : Ex (fun a k => a = h ∧ (k = 13 ∨ k = 98 ∨ k = 16 ∨ k = 17)) r1 (wI (wI (wI (wI r1 h 13 (-1)) h 98 0) h 16 0) h 17 0) := (((Ex.rf.I ⟨rfl, Or.inl rfl⟩).I ⟨rfl, Or.inr (Or.inl rfl)⟩).I ⟨rfl, Or.inr (Or.inr (Or.inl rfl))⟩).I ⟨rfl, Or.inr (Or.inr (Or.inr rfl))⟩
  have j17 : mI (wI (wI (wI (wI r1 h 13 (-1)) h 98 0) h 16 0) h 17 0) h 17 = 0 := by rw [mIwI2 ⟨rfl, rfl⟩, w32_i (by omega) (by omega)]
  have j16 : mI (wI (wI (wI (wI r1 h 13 (-1)) h 98 0) h 16 0) h 17 0) h 16 = 0 := by rw [mIwI1 (by omega), mIwI2 ⟨rfl, rfl⟩, w32_i (by omega) (by omega)]
  have j98 : mI (wI (wI (wI (wI r1 h 13 (-1)) h 98 0) h 16 0) h 17 0) h 98 = 0 := by rw [mIwI1 (by omega), mIwI1 (by omega), mIwI2 ⟨rfl, rfl⟩, w32_i (by omega) (by omega)]
  have j13 : mI (wI (wI (wI (wI r1 h 13 (-1)) h 98 0) h 16 0) h 17 0) h 13 = -1 := by rw [mIwI1 (by omega), mIwI1 (by omega), mIwI1 (by omega), mIwI2 ⟨rfl, rfl⟩, w32_i (by omega) (by omega)]
  refine Ev.c (Ev.l (Ev.l (Ev.r (Φ := fun f => f = wI (wI (wI (wI r1 h 13 (-1)) h 98 0) h 16 0) h 17 0) rfl))) (fun f _ ef => Ev.r ?_)
  subst ef
  generalize wI (wI (wI (wI r1 h 13 (-1)) h 98 0) h 16 0) h 17 0 = r2 at XW j17 j16 j98 j13 ⊢
  have XX : Ex (fun a k => CpP h 40 a k ∨ (a = h ∧ (k = 13 ∨ k = 98 ∨ k = 16 ∨ k = 17))) τ r2 := (cp.1.mono (fun a k p => Or.inl p)).tr (XW.mono (fun a k p => Or.inr p))
  have eh : ∀ k, k ≠ 13 → k ≠ 98 → k ≠ 16 → k ≠ 17 → k ≠ 65 → mI r2 h k = mI τ h k := fun k a1 a2 a3 a4 a5 => XX.rI (by unfold CpP; omega)
  have eo8 : ∀ o k, 6 ≤ o → mI r2 (h + o) k = mI τ (h + o) k := fun o k ho => XX.rI (by unfold CpP; omega)
  have gw : Grw τ r2 h := ⟨by rw [eh 25 (by omega) (by omega) (by omega) (by omega) (by omega)]; exact Int.le_refl _, by rw [eh 19 (by omega) (by omega) (by omega) (by omega) (by omega)]; exact Int.le_refl _, by rw [eh 24 (by omega) (by omega) (by omega) (by omega) (by omega)]; exact Int.le_refl _⟩
  have tS : ShT r2 h nv 40 (Gs (81 + hd)) := (sT.cp cp len.1 len.2).eh XW (fun a k p => ⟨p.1, by omega, by omega, by omega⟩) len.1 len.2
  have sP := R.shP vh
  have spn : ShP (mI τ h 6) (mI τ h 7) nv (Gs (81 + hd)) := ⟨sP.1, sP.2.1, sP.2.2.1, sP.2.2.2.1, sP.2.2.2.2.1, sP.2.2.2.2.2.1, fun k hk p hp => by
    have := sP.2.2.2.2.2.2 k hk p hp
    unfold Vi at this
    rw [if_pos (by omega)] at this; omega⟩
  have k3 : ∀ k, mI m (x + 3) k = mI σ (x + 3) k := fun k => K1.rI ok (by rw [l.t5.2.1]; decide) (by omega) k
  obtain ⟨b1, ⟨br, b2, b3, b4, b5⟩, b6, b7⟩ := R.br
  have rs : RSq x h nv m r2 := by
    refine ⟨⟨fun j hj => ?_, ⟨br, b2, ?_, ?_, ?_⟩, ⟨?_, ?_, ?_⟩, ?_⟩, R.vr.mv K1 ok l.t5.1 (by omega) (fun j hj => ⟨(R.1.vo j hj).1, fun e => by have := (R.1.vo j hj).2; unfold OutS at this; omega⟩) (fun j => ⟨eo8 6 j (by omega), eo8 7 j (by omega)⟩), ?_, R.df.mv K1 ok l.t5.2.2 (by omega) (mIo 29 (by omega) (by omega) (by omega) (by omega) (by omega)) ⟨eh 104 (by omega) (by omega) (by omega) (by omega) (by omega), fun o j h1 _ => eo8 o j (by omega)⟩⟩
    · rw [k3, eo8 8 j (by omega)]; exact b1 j hj
    · rw [mIo 7 (by omega) (by omega) (by omega) (by omega) (by omega)]; exact b3
    · rw [eh 12 (by omega) (by omega) (by omega) (by omega) (by omega)]; exact b4
    · rw [eo8 8 br (by omega)]; exact b5
    · rw [m15, j13]
    · rw [j13]; decide
    · rw [j13]; omega
    · rw [mIo 16 (by omega) (by omega) (by omega) (by omega) (by omega), eh 14 (by omega) (by omega) (by omega) (by omega) (by omega)]; exact b7
    · obtain ⟨n, z1, z2, z3, z4, z5, z6, z7, z8, z9⟩ := R.cf
      refine ⟨0, by omega, m20, j98, ?_, Nat.zero_le _, ?_, Nat.zero_le _, fun z => absurd z (by omega), fun i hi => absurd hi (by omega)⟩
      · rw [mRo 18 (by omega), K1.tag ok (by rw [z4]; decide)]; exact z4
      · rw [mRo 19 (by omega), K1.tag ok (by rw [z6]; decide)]; exact z6
  refine ⟨R.fresh _ (fun b hb => if_neg (show ¬ mZ σ ≤ b by omega)) K1 (Nat.le_refl _) sN oN aN m8 (fun j a1 _ _ => mRo j a1) (fun j hj => mIo j (by omega) (by omega) (by omega) (by omega) (by omega)) m10 m13 m14 np XX (fun a k p => cp_sl p) j16 j17 ?_ tS (bd_eh XW (fun a k p => p.1) (cp.bd (by omega) R.2.1.2.2.1)) spn rs, K1, mIo 17 (by omega) (by omega) (by omega) (by omega) (by omega), mZ1, mS1, XX.mono (fun a k p => cp_tw p), eh 0 (by omega) (by omega) (by omega) (by omega) (by omega)⟩
  · rw [XW.rI (by omega)]; exact cp.2.2.2.2.2.2 rfl
/-- drop -/
theorem op_drop (hN : 2000 ≤ N) (R : RL x h t σ τ) : E2 (x1_drop N x σ) (tw_drop N h τ) (OpQ x h t σ τ) := by
  obtain ⟨nv, pa, un, fs, Gs, g, own, rt, R⟩ := R
  have l := R.1.1
  have hh := R.1.2.1.1
  have Rt := R.t0 (v := 0)
  obtain ⟨hd, hl, h1, h2⟩ := Rt.head
  obtain ⟨own', m, em, r, er, Rn, K, f17, fZ, fS, X, f0⟩ := both_take hN Rt hl h1
  obtain ⟨hd', hl', h1', h2'⟩ := Rn.head
  unfold x1_drop tw_drop
  refine E2.lg l.1.1 (E2.le em (E2.le h1' (E2.rl (E2.re h2 (E2.re er (E2.re h2' (E2.r ⟨⟨_, _, _, _, _, _, _, _, Rn.t1⟩, ⟨K.mono (fun a w => by have e : a = x := w; unfold NoT; omega), 0, ?_, ?_, ?_⟩, (Ex.rf.I (by unfold TwA; omega)).tr X, rfl, ?_⟩)))))))
  · show mI m x 17 = _; rw [f17]; omega
  · show mZ m ≤ _; omega
  · show mS m ≤ _; omega
  · show mI r h 0 = 0
    rw [f0, mIwI2 ⟨rfl, rfl⟩, w32_i (by omega) (by omega)]
def cdG : List (String × Int) := [("java/lang/IndexOutOfBoundsException", 1), ("java/util/NoSuchElementException", 2), ("java/lang/IllegalStateException", 3)]
/-- go -/
theorem op_go (hN : 2000 ≤ N) (R : RL x h t σ τ) : E2 (x1_go N x v σ) (tw_go N h v τ) (OpO x h t cdG σ τ) := by
  obtain ⟨nv, pa, un, fs, Gs, g, own, rt, R⟩ := R
  have l := R.1.1
  have hh := R.1.2.1.1
  have Rt := R.t0 (v := 0)
  have i0 : mI (wI τ h 0 0) h 0 = 0 := by rw [mIwI2 ⟨rfl, rfl⟩, w32_i (by omega) (by omega)]
  have e4 := l.R (4, 2) (by decide)
  have t2 := l.T (2, 104, 40) (by decide)
  have e6 := l.R (6, 3) (by decide)
  have t3 := l.T (3, 100, 6) (by decide)
  (try dsimp only at e4 t2 e6 t3)
  obtain ⟨c5, n1, n4, pu, c8, p4, u4⟩ := R.c5
  unfold x1_go tw_go
  rw [c_isBranch, Option.bind_some]
  refine E2.rl ?_
  rw [t_in, Option.bind_some]
  by_cases c : 0 ≤ v ∧ v < 6
  · obtain ⟨k, rfl⟩ : ∃ k : Nat, v = (k : Int) := ⟨v.toNat, by omega⟩
    rw [if_pos c, if_pos (show 0 ≤ (k : Int) ∧ (k : Int) ≤ 5 by omega), e6, tn]
    obtain ⟨b1, ⟨br, b2, b3, b4, b5⟩, b6, b7⟩ := Rt.br
    obtain ⟨k1, k2, k3⟩ := b1 k (by omega)
    refine E2.lg (by decide) (E2.rg (by decide) (E2.lg l.1.1 (E2.lg t3.1 (E2.lg (by rw [t3.2]; omega) (E2.rg (by omega) ?_)))))
    by_cases d : 0 ≤ mI (wI τ h 0 0) (h + 8) k
    · refine E2.lg (by omega) (E2.rg d ?_)
      unfold x1_isBusy
      rw [if_pos l.1.1]
      by_cases e13 : 0 ≤ mI (wI τ h 0 0) h 13
      · rw [if_pos (show mI σ x 15 ≠ -1 by omega), Option.bind_some]
        exact E2.lg (by decide) (E2.rg e13 (E2.r (OpO.ex R (by decide) (by decide))))
      · obtain ⟨w, g1, g2⟩ := Rt.uns hN
        rw [if_neg (show ¬ mI σ x 15 ≠ -1 by omega), g1, Option.bind_some]
        refine E2.rf e13 (E2.re g2 ?_)
        by_cases w0 : w = 0
        · rw [if_pos (show (w : Int) ≤ 0 by omega), Option.bind_some]
          obtain ⟨hd, hl, h1, h2⟩ := Rt.head
          have vr := R.ver hl
          obtain ⟨z, ez, hz⟩ := c_isLike (N := N) (by omega) l.kc l.z0 R.c0.2 (R.shC (show rtV nv pa un (81 + hd) by unfold rtV; omega))
          obtain ⟨z', ez', hz'⟩ := t_isLikeHead (N := N) (by omega) Rt h2 hl
          have ezz := hz.uniq hz'
          subst ezz
          refine E2.lf (fun z => z rfl) (E2.rf (by omega) (E2.le h1 ?_))
          rw [e4, tn, vr.2, R.c0.1]
          refine E2.lg t2.1 (E2.lg (by rw [t2.2]; omega) (E2.lg vr.1 (E2.lg R.c0.2.1.1 (E2.le ez (E2.re ez' ?_)))))
          by_cases y : z = 0
          · exact E2.lf (fun u => u y) (E2.rf (fun u => u y) (E2.r (OpO.ex R (by decide) (by decide))))
          · refine E2.lg y (E2.rg y (E2.ll (E2.rl ?_)))
            have X : Ex (fun a j => a = x ∧ j = 7) σ (wI σ x 7 k) := Ex.rf.I ⟨rfl, rfl⟩
            have Y : Ex (fun a j => a = h ∧ j = 12) (wI τ h 0 0) (wI (wI τ h 0 0) h 12 k) := Ex.rf.I ⟨rfl, rfl⟩
            obtain ⟨K, ly, wn⟩ := l.int X (fun a k p => Or.inl p.1)
            obtain ⟨V, hV⟩ := R.1.2.2.2.2.2.2
            have iX : ∀ j, j ≠ 7 → mI (wI σ x 7 k) x j = mI σ x j := fun j hj => X.rI (by omega)
            have rbr : Rbr x h nv (wI σ x 7 k) (wI (wI τ h 0 0) h 12 k) := by
              refine ⟨fun j hj => by rw [X.rI (by omega), Y.rI (by omega)]; exact b1 j hj, ⟨k, by omega, ?_, ?_, ?_⟩, ?_, ?_⟩
              · rw [mIwI2 ⟨rfl, rfl⟩, w32_i (by omega) (by omega)]
              · rw [mIwI2 ⟨rfl, rfl⟩, w32_i (by omega) (by omega)]
              · rw [Y.rI (by omega)]; exact d
              · rw [iX 15 (by omega), Y.rI (by omega)]; exact b6
              · rw [iX 16 (by omega), Y.rI (by omega)]; exact b7
            have t5 := l.t5
            have Rn := Rt.upd2 K wn (fun a w => by unfold OutS; omega) (by omega) ly (by rw [X.rR]) (fun j hj => iX j (by omega)) ⟨V, hV.kp K l.ok (fun i hi => by omega)⟩ (Rt.2.2.2.2.1.kp K l.ok (fun i hi => by omega) (iX 10 (by omega))) Y (fun a j p => by unfold UqP FtP; omega) (by
              obtain ⟨n, a1, a2, a3, a4⟩ := Rt.2.2.1.1
              exact ⟨n, a1, by rw [iX 1 (by omega)]; exact a2, by rw [Y.rI (by omega)]; exact a3, fun j hj => by rw [X.rI (by omega), Y.rI (by omega)]; exact a4 j hj⟩) (by
              have := Rt.2.2.1.2.1
              unfold Rfl at this ⊢
              rw [iX 2 (by omega), iX 3 (by omega), Y.rI (by omega), Y.rI (by omega)]; exact this) ⟨rbr, Rt.vr.mv K l.ok t5.1 (by omega) (fun j hj => ⟨(R.1.vo j hj).1, fun e => by have := (R.1.vo j hj).2; unfold OutS at this; omega⟩) (fun j => ⟨Y.rI (by omega), Y.rI (by omega)⟩), Rt.cf.mv K l.ok l.z wn (fun a w o => by unfold OutS at o; omega) (iX 20 (by omega)) (by rw [X.rR]) (by rw [X.rR]) Y (fun a j p => ⟨by unfold CfP; omega, Qt.co (by unfold Qt; omega)⟩) (by
                unfold Grw
                rw [Y.rI (by omega), Y.rI (by omega), Y.rI (by omega)]
                exact ⟨Int.le_refl _, Int.le_refl _, Int.le_refl _⟩) (Nat.le_refl _), Rt.df.mv K l.ok t5.2.2 (by omega) (iX 29 (by omega)) ⟨Y.rI (by omega), fun o j _ _ => Y.rI (by omega)⟩⟩
            obtain ⟨hd1, hl1, g1, g2⟩ := Rn.head
            obtain ⟨own', m, em, r, er, Rf, Kf, f17, fZ, fS, XF, f0⟩ := both_take hN Rn hl1 g1
            obtain ⟨hd2, hl2, y1, y2⟩ := Rf.head
            refine E2.le em (E2.le y1 (E2.re g2 (E2.re er (E2.re y2 (E2.r ⟨⟨_, _, _, _, _, _, _, _, Rf.t1⟩, ⟨(K.mono (fun a w => by unfold NoT; omega)).tr (Kf.mono (fun a w => by have e : a = x := w; unfold NoT; omega)), 0, ?_, ?_, ?_⟩, ((Ex.rf.I (by unfold TwA; omega)).tr (Y.mono (fun a j p => by unfold TwA; omega))).tr XF, Or.inl ⟨(hd2 : Int), rfl, rfl, ?_, ⟨by omega, by omega⟩⟩⟩)))))
            · show mI m x 17 = _; rw [f17, iX 17 (by omega)]; omega
            · show mZ m ≤ _
              have : mZ (wI σ x 7 k) = mZ σ := rfl
              omega
            · show mS m ≤ _
              have : mS (wI σ x 7 k) = mS σ := rfl
              omega
            · show mI r h 0 = 0
              rw [f0, Y.rI (by omega)]; exact i0
        · rw [if_neg (show ¬ (w : Int) ≤ 0 by omega), Option.bind_some]
          exact E2.lg (by decide) (E2.rg (by omega) (E2.r (OpO.ex R (by decide) (by decide))))
    · exact E2.lf (by omega) (E2.rf d (E2.r (OpO.ex R (by decide) (by decide))))
  · rw [if_neg c, if_neg (show ¬ (0 ≤ v ∧ v ≤ 5) by omega)]
    exact E2.lf (fun z => z rfl) (E2.rf (fun z => z rfl) (E2.r (OpO.ex R (by decide) (by decide))))
end State25
