/-! ===== PHASE 2: the component's formulas: calls of one, places, ends ===== -/
section CoEv5
variable {N w u x n t nv : Nat} {σ σ' s : gMem} {v a b : Vl} {cx : Cx}
/-- a call's cell: its name, its args -/
def CallF (σ : gMem) (q j m : Nat) : Prop := mT σ q = 18 ∧ j < 18 ∧ mR σ q 0 = mR σ 0 j ∧ mT σ (mR σ q 1) = 108 ∧ mN σ (mR σ q 1) = m
theorem CallF.ey {P : Nat → Nat → Prop} {q j m : Nat} (wl : WL σ x) (h : Ey x P σ σ') (g : CallF σ q j m) : CallF σ' q j m := by
  obtain ⟨g1, g2, g3, g4, g5⟩ := g
  have nq : q ≠ x + 13 := fun e => by rw [e, wl.1] at g1; cases g1
  exact ⟨by rw [h.rT]; exact g1, g2, by rw [h.rR (Or.inl nq), h.rR (by omega)]; exact g3, by rw [h.rR (Or.inl nq), h.rT]; exact g4, by rw [h.rR (Or.inl nq), h.rN]; exact g5⟩
theorem CallF.ch {q j m : Nat} (g : CallF σ q j m) (i : Nat) : mR σ (mR σ q 1) i = chd σ q i := by unfold chd; rw [if_neg (by rw [g.1]; decide), if_neg (by rw [g.1]; decide)]
theorem LabC.cf {q : Nat} {p : Pt} (k : LabC σ q p) (h : mT σ q = 18) : ∃ j, CallF σ q j (pA p) ∧ pK p = nmk j := by
  obtain ⟨j, h1, h2, h3, h4⟩ := k.kC h
  exact ⟨j, ⟨h, h1, h2, h3, by rw [h4]; rfl⟩, by rw [h4]; rfl⟩
theorem CallF.is {q j m i : Nat} (g : CallF σ q j m) (kn : KN σ) (hi : i < 18) : (mR σ q 0 = mR σ 0 i) ↔ j = i := by
  rw [g.2.2.1]
  constructor
  · intro e
    by_cases c : j = i
    · exact c
    · exact absurd e (kn.ne g.2.1 hi c)
  · intro e; rw [e]
theorem nmk_rng : ∀ j, j < 18 → 30 ≤ nmk j ∧ nmk j ≤ 47 := by decide
theorem evA_call {p : Pt} {xs : List (Pt × Vl)} (h : 30 ≤ pK p) : evA cx p xs = evCall cx (pK p) xs := by
  unfold evA
  rw [if_neg (by omega), if_neg (by omega), if_neg (by omega), if_neg (by omega), if_neg (by omega), if_neg (by omega), if_neg (by omega), if_neg (by omega)]
theorem c_one {q j m : Nat} (hN : 30 ≤ N) (kn : KN σ) (ck : Ck σ) (cf : CallF σ q j m) (ws : WS σ t) (g : VW σ t v) (h4 : v.1 ≠ 4) (hj : j = 3 ∨ j = 4 ∨ j = 9) : Ev (x20_one N q t σ) (fun r => HSw t σ r (evOne (nmk j) v)) := by
  unfold x20_one
  refine Ev.g cf.1 ?_
  by_cases c3 : j = 3
  · refine Ev.f (fun e => e ((cf.is kn (by decide)).mpr c3)) (Ev.g ws.1 (Ev.c (c_wantTruth ws g) (fun x3 _ q3 => ?_)))
    rw [q3.1]
    have e : evOne (nmk j) v = if (wantB v).1 ≠ 3 then wantB v else vIs (decide ((wantB v).2.1 = 0)) := by rw [c3]; unfold evOne; rw [if_neg (by decide), if_neg h4, if_neg (by decide), if_pos (by rfl)]
    rw [e]
    have ws3 := ws.ex q3.2.1
    by_cases w1 : (wantB v).1 = 3
    · rw [if_pos w1, if_neg (show ¬ ¬ (wantB v).1 = 3 from fun q => q w1)]
      refine Ev.f (by decide) ?_
      rw [q3.2.2.2.2.2.1]
      by_cases c : (wantB v).2.1 = 0
      · rw [decide_eq_true c]
        exact Ev.f (fun q => q (gcmp_eq.mpr c)) (Ev.c (c_is ws3) (fun r _ q => Ev.r (HSw.tr q3.2.1 q)))
      · rw [decide_eq_false c]
        exact Ev.g (fun q => c (gcmp_eq.mp q)) (Ev.c (c_is ws3) (fun r _ q => Ev.r (HSw.tr q3.2.1 q)))
    · rw [if_neg w1, if_pos (show ¬ (wantB v).1 = 3 from w1)]
      exact Ev.g rfl (Ev.r q3.2)
  · refine Ev.g (fun e => c3 ((cf.is kn (by decide)).mp e)) ?_
    by_cases c4 : j = 4
    · refine Ev.f (fun e => e ((cf.is kn (by decide)).mpr c4)) (Ev.g ws.1 (Ev.c (c_wantNumber ws g) (fun x3 _ q3 => ?_)))
      rw [q3.1]
      have e : evOne (nmk j) v = if (wantN v).1 ≠ 1 then wantN v else vBe (if (wantN v).2.1 < 0 then -(wantN v).2.1 else (wantN v).2.1) := by rw [c4]; unfold evOne; rw [if_neg (by decide), if_neg h4, if_neg (by decide), if_neg (by decide)]
      rw [e]
      have ws3 := ws.ex q3.2.1
      by_cases w1 : (wantN v).1 = 1
      · rw [if_pos w1, if_neg (show ¬ ¬ (wantN v).1 = 1 from fun q => q w1)]
        obtain ⟨-, b1, b2⟩ := q3.2.2.1.k1 w1
        refine Ev.f (by decide) ?_
        rw [q3.2.2.2.2.2.1]
        have ea : w64 (if 0 < (wantN v).2.1 then (wantN v).2.1 else -(wantN v).2.1) = if (wantN v).2.1 < 0 then -(wantN v).2.1 else (wantN v).2.1 := by
          rw [iabs, w64_i (by omega) (by omega)]; split <;> omega
        rw [ea]
        exact Ev.c (c_be ws3 (by split <;> omega)) (fun r _ q => Ev.r (HSw.tr q3.2.1 q))
      · rw [if_neg w1, if_pos (show ¬ (wantN v).1 = 1 from w1)]
        exact Ev.g rfl (Ev.r q3.2)
    · refine Ev.g (fun e => c4 ((cf.is kn (by decide)).mp e)) (Ev.g ws.1 (Ev.c (c_wantText ws hN ck g h4) (fun s1 _ q1 => ?_)))
      have e : evOne (nmk j) v = vBe (wantT v).2.2.length := by rw [show j = 9 by omega]; unfold evOne; rw [if_neg (by decide), if_neg h4, if_pos (by rfl)]
      have lt := q1.2.1.txt.1
      rw [e, q1.2.2.2.1]
      exact Ev.c (c_be (ws.ex q1.1) (by omega)) (fun r _ q => Ev.r (HSw.tr q1.1 q))
theorem EC.hs {s1 : gMem} (Y : Ey x (Pe x t u) σ s1) (h3 : mI s1 (x + 13) 3 = u) (ht : Tg x u t) (q : HSw t s1 σ' v) : EC x t u σ σ' v :=
  ⟨Y.tr (q.1.mono (fun _ _ p => p.pe)).y, by rw [q.1.rI (by unfold Wp; unfold Tg at ht; omega)]; exact h3, q.2⟩
theorem mostA_1 {k : Nat} (h : 37 ≤ k) (h2 : k ≤ 42) : leastA k = 1 ∧ mostA k = 1 := by
  have e1 : leastA k = 1 := by unfold leastA; rw [if_neg (by omega), if_pos (by omega)]
  exact ⟨e1, by unfold mostA; rw [if_neg (by omega), e1]⟩
theorem mostA_2 {k : Nat} (h : 43 ≤ k) : leastA k = 2 ∧ mostA k = 2 := by
  have e1 : leastA k = 2 := by unfold leastA; rw [if_neg (by omega), if_neg (by omega)]
  exact ⟨e1, by unfold mostA; rw [if_neg (by omega), e1]⟩
theorem AC.cnt {q : Nat} {p : Pt} {ls : List Fm} (A : AC σ x nv cx n q p ls) (h : 30 ≤ pK p) : leastA (pK p) ≤ ls.length ∧ ls.length ≤ mostA (pK p) := by
  have ca := A.2.2.2.2.1.call h
  have := A.2.2.2.2.2.1
  exact ⟨by omega, by omega⟩
/-- LEFT and RIGHT: the first one is at t -/
theorem c_cutE {q j : Nat} {p : Pt} {ls : List Fm} {W : Nat → Nat → Nat → gMem → Option gMem} {σ0 : gMem} (A : AC σ x nv cx n q p ls) (hW : HC x nv cx n W) (hN : 70 ≤ N) (cf : CallF σ q j (pA p)) (hk : pK p = nmk j) (hj : j = 10 ∨ j = 11) (ht : Tg x u t) (h3 : mI σ (x + 13) 3 = u) (hu : u + ls.flatten.length + 4 ≤ 700) (ga : VW σ t a) (Y0 : Ey x (Pe x t u) σ0 σ) : Ev (x20_cut N W q (x + 13) t σ) (fun r => EC x t u σ0 r (evEnd (pK p) a (xv (ls.map (fun y => (lab y, ev cx y))) 1))) := by
  have kr : pK p = 43 ∨ pK p = 44 := by rw [hk]; rcases hj with e | e <;> rw [e]; exact Or.inl rfl; exact Or.inr rfl
  have cn := A.cnt (by omega)
  have ma := mostA_2 (k := pK p) (by omega)
  have hl : ls.length = 2 := by omega
  have f1 := A.2.2.fit (i := 1) (by omega)
  have z1 := A.2.2.nz (i := 1) (by omega)
  have hA := A.2.2.2.2.2.1
  rw [xv_at (by omega)]
  unfold x20_cut evEnd
  refine Ev.g A.1.1 (A.take ht h3 (by omega) (fun s2 Y2 A2 u2 _ k2 _ => ?_))
  dsimp only
  have cf2 := cf.ey A.1 Y2
  have tw : Tg x (u + 1) (x + 29 + 2 * u) := Tg.new _ rfl
  have tne : t ≠ x + 29 + 2 * u := by unfold Tg at ht; omega
  refine Ev.g cf2.1 (Ev.g cf2.2.2.2.1 (Ev.g (by rw [cf2.2.2.2.2]; omega) (Ev.c (A2.go (k := 1) hW (by omega) (cf2.ch 1) tw u2 (by omega)) (fun s3 _ q3 => ?_))))
  have A3 := A2.pe tw (by omega) q3.1
  have cf3 := cf2.ey A2.1 q3.1
  have Y3 : Ey x (Pe x t u) σ0 s3 := (Y0.tr Y2).tr (q3.1.mono (fun _ _ p => p.up rfl (by omega)))
  have g0 : VW s3 t a := (k2 t _ ht ga).pe q3.1 tw ht.up tne
  have g1 := q3.2.2
  have ws := Tg.ws A3.1 ht (by omega)
  have us := Tg.ws A3.1 tw (by omega)
  have GV : ∀ (s4 : gMem) (v : Vl), WL s4 x → Ex (Wq t (x + 29 + 2 * u)) s3 s4 → VW s4 t v → Ev ((x3_give (x + 13) s4).bind (fun r => some r)) (fun r => EC x t u σ0 r v) := by
    intro s4 v wl X4 g4
    have e3 : mI s4 (x + 13) 3 = ((u + 1 : Nat) : Int) := by rw [X4.rI (by unfold Wq; unfold Tg at ht; omega)]; exact q3.2.1
    refine Ev.c (c_give wl e3 (by omega)) (fun r _ q5 => Ev.r ⟨?_, q5.2, ?_⟩)
    · exact (Y3.tr (X4.mono (fun _ _ p => p.pe rfl (by omega))).y).tr (q5.1.mono (fun a k p => Or.inl p.1)).y
    · exact g4.ex q5.1 (fun k p => by unfold Tg at ht; omega) (fun k p => by unfold Tg at ht; omega)
  refine Ev.g ws.1 ?_
  rw [c_failed ws g0, Option.bind_some]
  by_cases e0 : a.1 = 4
  · rw [if_pos e0, if_pos e0]
    exact Ev.g (by decide) (GV s3 _ A3.1 Ex.rf g0)
  · rw [if_neg e0, if_neg e0]
    refine Ev.f (fun q => q rfl) (Ev.c (c_wantText ws (by omega) A3.2.1.2.2.1 g0 e0) (fun s4 _ q4 => ?_))
    have us4 := us.ex q4.1
    have ws4 := ws.ex q4.1
    have g14 := g1.nw q4.1 us ws tne.symm
    have X4 : Ex (Wq t (x + 29 + 2 * u)) s3 s4 := q4.1.mono (fun _ _ p => p.q1)
    refine Ev.g us4.1 ?_
    rw [c_failed us4 g14, Option.bind_some]
    have J43 : ∀ (s5 : gMem) (v : Vl), Ex (Wq t (x + 29 + 2 * u)) s3 s5 → VW s5 (x + 29 + 2 * u) v → Ev (x20_cut_j43 N W (x + 13) t (x + 29 + 2 * u) s5) (fun r => EC x t u σ0 r v) := by
      intro s5 v X5 g5
      have ws5 := ws.ex X5
      have us5 := us.ex X5
      unfold x20_cut_j43
      refine Ev.g ws5.1 (Ev.c (c_copy ws5 us5 g5 tne) (fun s6 _ q6 => ?_))
      have wl : WL s6 x := (A3.1.ey X5.y).ey q6.1.y
      exact Ev.g wl.1 (GV s6 _ wl (X5.tr (q6.1.mono (fun _ _ p => p.q1))) q6.2)
    by_cases e1 : (ev cx ls[1]).1 = 4
    · rw [if_pos e1, if_pos e1]
      exact Ev.g (by decide) (J43 s4 _ X4 g14)
    · rw [if_neg e1, if_neg e1]
      refine Ev.f (fun q => q rfl) (Ev.c (c_wantNumber us4 g14) (fun x5 _ q5 => ?_))
      have X5 : Ex (Wq t (x + 29 + 2 * u)) s3 x5.2 := X4.tr (q5.2.1.mono (fun _ _ p => p.q2))
      rw [q5.1]
      by_cases w2 : (wantN (ev cx ls[1])).1 = 1
      · rw [if_pos w2, if_neg (show ¬ ¬ (wantN (ev cx ls[1])).1 = 1 from fun q => q w2)]
        obtain ⟨-, b1, b2⟩ := q5.2.2.1.k1 w2
        refine Ev.g (by decide) ?_
        rw [q5.2.2.2.2.2.1]
        have ws5 := ws.ex X5
        have wl5 : WL x5.2 x := A3.1.ey X5.y
        have g05 : VW x5.2 t (wantT a) := q4.2.nw q5.2.1 ws4 us4 tne
        have et := q4.2.1.k2 (wantT_2 g0.1)
        by_cases c0 : (wantN (ev cx ls[1])).2.1 < 0
        · rw [if_pos c0]
          exact Ev.f (fun q => by have := gcmp_nn.mp q; omega) (Ev.c (c_fail ws5 (by decide) (by decide)) (fun s6 _ q6 => GV s6 _ (wl5.ey q6.1.y) (X5.tr (q6.1.mono (fun _ _ p => p.q1))) q6.2))
        · rw [if_neg c0]
          refine Ev.g (gcmp_nn.mpr (by omega)) ?_
          rw [et] at g05
          have cf5 := cf3.ey A3.1 (X5.y (x := x))
          have kn5 : KN x5.2 := (A3.2.1.pe (t := t) (u := u) A3.1 ht (by omega) (X5.mono (fun _ _ p => p.pe rfl (by omega))).y).2.2.2.1
          by_cases c11 : j = 11
          · have k44 : pK p = 44 := by rw [hk, c11]; rfl
            rw [decide_eq_true k44]
            exact Ev.f (fun e => e ((cf5.is kn5 (by decide)).mpr c11)) (Ev.c (c_cut ws5 g05 (by omega) (by omega)) (fun s6 _ q6 => GV s6 _ (wl5.ey q6.1.y) (X5.tr (q6.1.mono (fun _ _ p => p.q1))) q6.2))
          · have k44 : ¬ pK p = 44 := by rw [hk, show j = 10 by omega]; decide
            rw [decide_eq_false k44]
            exact Ev.g (fun e => c11 ((cf5.is kn5 (by decide)).mp e)) (Ev.c (c_cut ws5 g05 (by omega) (by omega)) (fun s6 _ q6 => GV s6 _ (wl5.ey q6.1.y) (X5.tr (q6.1.mono (fun _ _ p => p.q1))) q6.2))
      · rw [if_neg w2, if_pos (show ¬ (wantN (ev cx ls[1])).1 = 1 from w2)]
        exact Ev.f (by decide) (J43 x5.2 _ X5 q5.2.2)
theorem LabC.kS {q : Nat} {p : Pt} (k : LabC σ q p) (h : mT σ q = 15) : mT σ (mR σ q 0) = 14 ∧ p = mkS (mI σ (mR σ q 0) 0) (mI σ (mR σ q 0) 1) (cfx σ (mR σ q 0)) (mI σ q 1) := by
  rcases k with ⟨k1, -⟩ | ⟨k1, -⟩ | ⟨k1, -⟩ | ⟨k1, -⟩ | ⟨k1, k2, k3, -⟩ | ⟨k1, -⟩ | ⟨k1, -⟩ | ⟨k1, -⟩ | ⟨k1, -⟩
  all_goals first | (exfalso; omega) | exact ⟨k2, k3⟩
theorem LabC.kind {q : Nat} {p : Pt} (k : LabC σ q p) : (mT σ q = 15 ↔ pK p = 5) ∧ (mT σ q = 17 ↔ pK p = 6) ∧ (mT σ q = 13 ↔ pK p = 4) ∧ gNode (mT σ q) = true := by
  have cv : ∀ y z : Nat, pK p = y → mT σ q = z → ((z = 15 ↔ y = 5) ∧ (z = 17 ↔ y = 6) ∧ (z = 13 ↔ y = 4) ∧ gNode z = true) → (mT σ q = 15 ↔ pK p = 5) ∧ (mT σ q = 17 ↔ pK p = 6) ∧ (mT σ q = 13 ↔ pK p = 4) ∧ gNode (mT σ q) = true := fun y z e1 e2 h => by rw [e1, e2]; exact h
  rcases k with ⟨k1, k2⟩ | ⟨k1, -, -, k2⟩ | ⟨k1, k2, -⟩ | ⟨k1, k2⟩ | ⟨k1, -, k2, -⟩ | ⟨k1, -, -, k2, -⟩ | ⟨k1, k2⟩ | ⟨k1, j, kj, -, k2⟩ | ⟨k1, j, kj, -, -, k2⟩
  · exact cv 1 11 (by rw [k2]; rfl) k1 (by decide)
  · exact cv 2 12 (by rw [k2]; rfl) k1 (by decide)
  · exact cv 3 16 (by rw [k2]; rfl) k1 (by decide)
  · exact cv 4 13 (by rw [k2]; rfl) k1 (by decide)
  · exact cv 5 15 (by rw [k2]; rfl) k1 (by decide)
  · exact cv 6 17 (by rw [k2]; rfl) k1 (by decide)
  · exact cv 7 19 (by rw [k2]; rfl) k1 (by decide)
  · refine cv (10 + j) 20 (by rw [k2]; rfl) k1 ⟨⟨fun h => (by cases h), fun h => (by omega)⟩, ⟨fun h => (by cases h), fun h => (by omega)⟩, ⟨fun h => (by cases h), fun h => (by omega)⟩, by decide⟩
  · have := nmk_rng j kj
    refine cv (nmk j) 18 (by rw [k2]; rfl) k1 ⟨⟨fun h => (by cases h), fun h => (by omega)⟩, ⟨fun h => (by cases h), fun h => (by omega)⟩, ⟨fun h => (by cases h), fun h => (by omega)⟩, by decide⟩
theorem c_place {q j : Nat} {p : Pt} {ls : List Fm} (A : AC σ x nv cx n q p ls) (hN : 70 ≤ N) (cf : CallF σ q j (pA p)) (hk : pK p = nmk j) (hj : j = 16 ∨ j = 17) (ht : Tg x u t) (h3 : mI σ (x + 13) 3 = u) (hu : u ≤ 700) : Ev (x20_place N q (x + 13) t σ) (fun r => EC x t u σ r (evPlace cx (pK p) (xp (ls.map (fun y => (lab y, ev cx y))) 0))) := by
  have kr : pK p = 41 ∨ pK p = 42 := by rw [hk]; rcases hj with e | e <;> rw [e]; exact Or.inl rfl; exact Or.inr rfl
  have cn := A.cnt (by omega)
  have ma := mostA_1 (k := pK p) (by omega) (by omega)
  have hl : ls.length = 1 := by omega
  have hA := A.2.2.2.2.2.1
  have sp := A.2.2.2.2.2.2.1 0 (by omega)
  obtain ⟨L, O⟩ := sp.lab
  have kd := L.kind
  have hv := A.2.2.ver (i := 0) (by omega)
  have ws := Tg.ws A.1 ht hu
  have ver : pW (lab (ls[0]'(by omega))) < nv := by
    cases n with
    | zero => exact sp.elim
    | succ n =>
      obtain ⟨p', ls', e, -⟩ := sp
      rw [e, lab_app]
      exact hv _ (by rw [e]; exact List.mem_append_right _ List.mem_cons_self)
  rw [xp_at (by omega)]
  unfold x20_place evPlace
  have c0 := cf.ch 0
  have nz : ((0 : Int)).toNat = 0 := rfl
  refine Ev.g cf.1 (Ev.g cf.2.2.2.1 (Ev.g (by rw [cf.2.2.2.2]; omega) ?_))
  rw [nz, c0]
  refine Ev.g (Or.inr kd.2.2.2) ?_
  have F : Ev ((x5_fail t 1 σ).bind (fun r => some r)) (fun r => EC x t u σ r (vErr 1)) := Ev.c (c_fail ws (by decide) (by decide)) (fun r _ q => Ev.r (EC.hs Ey.rf h3 ht q))
  by_cases k5 : pK (lab (ls[0]'(by omega))) = 5
  · have t15 := kd.1.mpr k5
    obtain ⟨t14, ep⟩ := L.kS t15
    rw [if_neg (show ¬ pK (lab (ls[0]'(by omega))) ≠ 5 from fun q => q k5)]
    refine Ev.g t15 (Ev.g (by rw [cf.2.2.2.2]; omega) (Ev.g (Or.inr t15) (Ev.g t15 (Ev.g A.1.1 ?_))))
    have eW : mI σ (chd σ q 0) 1 = pW (lab (ls[0]'(by omega))) := by rw [ep]; rfl
    have e1 : mI σ (mR σ (chd σ q 0) 0) 0 = pR1 (lab (ls[0]'(by omega))) := by rw [ep]; rfl
    have e2 : mI σ (mR σ (chd σ q 0) 0) 1 = pC1 (lab (ls[0]'(by omega))) := by rw [ep]; rfl
    have pv := O.ver
    obtain ⟨-, sh, -, -⟩ := A.2.1.2.2.2.2 _ pv.1 ver
    have lR := sh.2.1.2.2.1
    have lC := sh.2.2.2
    rw [eW]
    refine Ev.e (c_sheetOf A.1 A.2.1 pv.1 ver) (Ev.g t14 (Ev.e (c_isIn (by omega) t14 sh) ?_))
    rw [e1, e2]
    have b1 := pl_ge (cx.1 (pW (lab (ls[0]'(by omega))))).1 (pR1 (lab (ls[0]'(by omega))))
    have b2 := pl_ge (cx.1 (pW (lab (ls[0]'(by omega))))).2 (pC1 (lab (ls[0]'(by omega))))
    have es : cxSpot cx (lab (ls[0]'(by omega))) < 0 ↔ (pl (cx.1 (pW (lab (ls[0]'(by omega))))).1 (pR1 (lab (ls[0]'(by omega)))) < 0 ∨ pl (cx.1 (pW (lab (ls[0]'(by omega))))).2 (pC1 (lab (ls[0]'(by omega)))) < 0) := by
      unfold cxSpot spotAt
      split <;> omega
    by_cases o : pl (cx.1 (pW (lab (ls[0]'(by omega))))).1 (pR1 (lab (ls[0]'(by omega)))) < 0 ∨ pl (cx.1 (pW (lab (ls[0]'(by omega))))).2 (pC1 (lab (ls[0]'(by omega)))) < 0
    · rw [if_pos o, if_pos (es.mpr o)]
      exact Ev.f (fun q => q rfl) (Ev.g ws.1 F)
    · rw [if_neg o, if_neg (fun q => o (es.mp q))]
      refine Ev.g (by decide) ?_
      by_cases c16 : j = 16
      · have k41 : pK p = 41 := by rw [hk, c16]; rfl
        rw [if_pos k41]
        refine Ev.f (fun e => e ((cf.is A.2.1.2.2.2.1 (by decide)).mpr c16)) (Ev.g sh.1 (Ev.e (c_row (by omega) sh _) (Ev.g ws.1 ?_)))
        rw [w32_i (by omega) (by omega)]
        exact Ev.c (c_be ws (by omega)) (fun r _ q => Ev.r (EC.hs Ey.rf h3 ht q))
      · have k41 : ¬ pK p = 41 := by rw [hk, show j = 17 by omega]; decide
        rw [if_neg k41]
        refine Ev.g (fun e => c16 ((cf.is A.2.1.2.2.2.1 (by decide)).mp e)) (Ev.g sh.1 (Ev.e (c_column (by omega) sh _) (Ev.g ws.1 ?_)))
        rw [w32_i (by omega) (by omega)]
        exact Ev.c (c_be ws (by omega)) (fun r _ q => Ev.r (EC.hs Ey.rf h3 ht q))
  · rw [if_pos (show pK (lab (ls[0]'(by omega))) ≠ 5 from k5)]
    exact Ev.f (fun q => k5 (kd.1.mp q)) (Ev.g ws.1 F)
end CoEv5
