/-! ===== PHASE 2: the component's values: cut, compared, reckoned ===== -/
section CoWorth3
variable {N w u : Nat} {σ σ' s : gMem} {v a b : Vl}
theorem c_cut {x : Int} {last : Int} {t : List Int} (ws : WS σ w) (g : VW σ w (vTx t)) (h0 : 0 ≤ x) (hx : x ≤ 1000000000000000) : Ev (x5_cut w x last σ) (fun r => HSw w σ r (vTx (vCut x (decide (last ≠ 0)) t))) := by
  have ht := g.1.txt
  have hl : t.length ≤ 24 := ht.1
  have e1 : mI σ w 1 = t.length := g.2.2.1
  have em : w32 (if mI σ w 1 < x then mI σ w 1 else x) = ((min x.toNat t.length : Nat) : Int) := by
    rw [e1]
    by_cases c : (t.length : Int) < x
    · rw [if_pos c, w32_i (by omega) (by omega)]; omega
    · rw [if_neg c, w32_i (by omega) (by omega)]; omega
  unfold x5_cut
  refine Ev.g ws.1 ?_
  rw [em]
  generalize hm : min x.toNat t.length = m
  have hml : m ≤ t.length := by omega
  by_cases c : last = 0
  · refine Ev.g c (Ev.l (Ev.r ⟨Ex.rf.I Wp.o, ?_⟩))
    have ev : vCut x (decide (last ≠ 0)) t = t.take m := by unfold vCut; dsimp only; rw [hm, decide_eq_false (fun q => q c), if_neg Bool.false_ne_true]
    rw [ev]
    refine ⟨VOk.tx (by rw [List.length_take]; omega) (fun y hy => ht.2 y (List.mem_of_mem_take hy)), ?_, ?_, ?_, fun i hi => ?_⟩
    · rw [mI_wI, if_neg (by omega)]; exact g.2.1
    · rw [mI_wI, if_pos ⟨rfl, rfl⟩, w32_i (by omega) (by omega)]
      show _ = (((t.take m).length : Nat) : Int)
      rw [List.length_take]; omega
    · rw [mL_wI]; exact g.2.2.2.1
    · have hi' : i < (t.take m).length := hi
      rw [List.length_take] at hi'
      rw [mI_wI, if_neg (by omega)]
      show _ = gl (t.take m) i
      rw [gl_take (by omega)]; exact g.2.2.2.2 i (by show i < t.length; omega)
  · refine Ev.f c ?_
    rw [ws.2.1, e1, show w32 ((t.length : Int) - (m : Int)) = ((t.length - m : Nat) : Int) by rw [w32_i (by omega) (by omega)]; omega]
    refine Ev.g ws.2.2.1 (Ev.g (by rw [ws.2.2.2]; omega) (Ev.l (Ev.l (Ev.r ?_))))
    rw [tn, tn, show ((0 : Int)).toNat = 0 from rfl]
    have ev : vCut x (decide (last ≠ 0)) t = t.drop (t.length - m) := by unfold vCut; dsimp only; rw [hm, decide_eq_true c, if_pos rfl]
    rw [ev]
    refine ⟨(Ex.rf.CI (fun j _ _ => Wp.t)).I Wp.o, VOk.tx (by rw [List.length_drop]; omega) (fun y hy => ht.2 y (List.mem_of_mem_drop hy)), ?_, ?_, ?_, fun i hi => ?_⟩
    · rw [mI_wI, if_neg (by omega), mI_wCI, if_neg (by omega)]; exact g.2.1
    · rw [mI_wI, if_pos ⟨rfl, rfl⟩, w32_i (by omega) (by omega)]
      show _ = (((t.drop (t.length - m)).length : Nat) : Int)
      rw [List.length_drop]; omega
    · rw [mL_wI, mL_wCI]; exact g.2.2.2.1
    · have hi' : i < (t.drop (t.length - m)).length := hi
      rw [List.length_drop] at hi'
      rw [mI_wI, if_neg (by omega), mI_wCI, if_pos ⟨rfl, by omega, by omega⟩]
      show _ = gl (t.drop (t.length - m)) i
      rw [gl_drop, show t.length - m + (i - 0) = t.length - m + i by omega]
      exact g.2.2.2.2 _ (by show t.length - m + i < t.length; omega)
/-- the sign of an order -/
def sgnI (x : Int) : Int := if x < 0 then -1 else if 0 < x then 1 else 0
theorem c_against_l {t y : List Int} {K : Option Int} (ws : WS σ w) (us : WS σ u) (l1 : t.length ≤ 24) (l2 : y.length ≤ 24) (r1 : ∀ c ∈ t, 32 ≤ c ∧ c ≤ 126) (r2 : ∀ c ∈ y, 32 ≤ c ∧ c ≤ 126) (e1 : mI σ w 1 = t.length) (e2 : mI σ u 1 = y.length) (g1 : ∀ i, i < t.length → mI σ (w + 1) i = gl t i) (g2 : ∀ i, i < y.length → mI σ (u + 1) i = gl y i) (hK : (∀ i, i < min t.length y.length → gl t i = gl y i) → ∃ x, K = some x ∧ sgnI x = ordT t y) : ∀ (m i f : Nat), i + m = min t.length y.length → m < f → (∀ j, j < i → gl t j = gl y j) → ∃ x, x5_against_l22 N σ w u K f i = some x ∧ sgnI x = ordT t y := by
  intro m
  induction m with
  | zero =>
    intro i f h1 h2 h3
    obtain ⟨f, rfl⟩ : ∃ g, f = g + 1 := ⟨f - 1, by omega⟩
    unfold x5_against_l22
    rw [if_pos ws.1, e1]
    by_cases c : t.length ≤ i
    · rw [if_pos (by omega)]; exact hK (fun j hj => h3 j (by omega))
    · rw [if_neg (by omega), if_pos us.1, e2, if_pos (by omega)]; exact hK (fun j hj => h3 j (by omega))
  | succ m ih =>
    intro i f h1 h2 h3
    obtain ⟨f, rfl⟩ : ∃ g, f = g + 1 := ⟨f - 1, by omega⟩
    unfold x5_against_l22
    rw [if_pos ws.1, e1, if_neg (by omega), if_pos us.1, e2, if_neg (by omega), ws.2.1, us.2.1, if_pos ws.2.2.1, if_pos (by rw [ws.2.2.2]; omega), if_pos us.2.2.1, if_pos (by rw [us.2.2.2]; omega), tn, g1 i (by omega), g2 i (by omega)]
    by_cases q : gl t i = gl y i
    · rw [if_pos q, inc32 (by omega)]
      exact ih (i + 1) f (by omega) (by omega) (fun j hj => by
        by_cases hj' : j = i
        · rw [hj']; exact q
        · exact h3 j (by omega))
    · have b1 := r1 _ (gl_mem (l := t) (i := i) (by omega))
      have b2 := r2 _ (gl_mem (l := y) (i := i) (by omega))
      rw [if_neg q, if_pos (by rw [ws.2.2.2]; omega), if_pos (by rw [us.2.2.2]; omega), w32_i (by omega) (by omega)]
      refine ⟨_, rfl, ?_⟩
      rw [ordT_at t y i (by omega) (by omega) h3, drop_cons (l := t) (by omega), drop_cons (l := y) (by omega)]
      unfold ordT sgnI
      rw [if_neg q]
      by_cases q' : gl t i < gl y i
      · rw [if_pos (by omega), if_pos q']
      · rw [if_neg (by omega), if_pos (by omega), if_neg q']
theorem c_against (hN : 30 ≤ N) (ws : WS σ w) (us : WS σ u) (ga : VW σ w a) (gb : VW σ u b) (hk : a.1 = b.1) : ∃ x, x5_against N w u σ = some x ∧ sgnI x = ordV a b := by
  unfold x5_against
  rw [if_pos ws.1, ga.2.1]
  by_cases h2 : a.1 = 2
  · have la := ga.1.txt
    have lb := gb.1.txt
    rw [if_pos h2]
    have ev : ordV a b = ordT a.2.2 b.2.2 := by unfold ordV; rw [if_pos h2]
    rw [ev]
    refine c_against_l ws us la.1 lb.1 la.2 lb.2 ga.2.2.1 gb.2.2.1 ga.2.2.2.2 gb.2.2.2.2 (fun hall => ?_) (min a.2.2.length b.2.2.length) 0 N (by omega) (by omega) (fun j hj => by omega)
    rw [if_pos us.1, ga.2.2.1, gb.2.2.1, w32_i (by omega) (by omega)]
    refine ⟨_, rfl, ?_⟩
    rw [ordT_at _ _ (min a.2.2.length b.2.2.length) (by omega) (by omega) hall, ordT_nil _ _ (by
      by_cases q : a.2.2.length ≤ b.2.2.length
      · exact Or.inl (List.drop_eq_nil_of_le (by omega))
      · exact Or.inr (List.drop_eq_nil_of_le (by omega))), List.length_drop, List.length_drop]
    unfold sgnI
    by_cases q1 : a.2.2.length < b.2.2.length
    · rw [if_pos (by omega), if_pos (by omega)]
    · rw [if_neg (by omega), if_neg (c := a.2.2.length - _ < _) (by omega)]
      by_cases q2 : b.2.2.length < a.2.2.length
      · rw [if_pos (by omega), if_pos (by omega)]
      · rw [if_neg (by omega), if_neg (by omega)]
  · rw [if_neg h2, if_pos us.1, ga.2.2.2.1, gb.2.2.2.1]
    unfold j15_compare ordV
    rw [if_neg h2]
    by_cases q1 : b.2.1 ≤ a.2.1
    · rw [if_pos (gcmp_nn.mpr q1), if_neg (show ¬ a.2.1 < b.2.1 by omega)]
      by_cases q2 : a.2.1 = b.2.1
      · rw [if_neg (fun q => q (gcmp_eq.mpr q2)), if_neg (show ¬ b.2.1 < a.2.1 by omega)]
        exact ⟨0, rfl, rfl⟩
      · rw [if_pos (fun q => q2 (gcmp_eq.mp q)), if_pos (show b.2.1 < a.2.1 by omega)]
        exact ⟨1, rfl, rfl⟩
    · rw [if_neg (fun q => q1 (gcmp_nn.mp q)), if_pos (show a.2.1 < b.2.1 by omega)]
      exact ⟨-1, rfl, rfl⟩
theorem sgn_rng (x : Int) : (x < 0 ↔ sgnI x < 0) ∧ (x = 0 ↔ sgnI x = 0) ∧ (0 < x ↔ 0 < sgnI x) := by
  unfold sgnI
  by_cases c : x < 0
  · rw [if_pos c]; omega
  · rw [if_neg c]
    by_cases c' : 0 < x
    · rw [if_pos c']; omega
    · rw [if_neg c']; omega
/-- constants of signs: kind, how tightly they bind -/
def sgRank (k : Nat) : Nat := if k < 6 then 1 else if k = 6 then 2 else if k < 9 then 3 else 4
def KS (σ : gMem) : Prop := ∀ k, k < 12 → mT σ (mR σ 0 (20 + k)) = 92 ∧ mI σ (mR σ 0 (20 + k)) 0 = k ∧ mI σ (mR σ 0 (20 + k)) 2 = sgRank k
theorem KS.ne (g : KS σ) {k j : Nat} (hk : k < 12) (hj : j < 12) (h : k ≠ j) : mR σ 0 (20 + k) ≠ mR σ 0 (20 + j) := by
  intro e
  have a := (g k hk).2.1
  rw [e, (g j hj).2.1] at a
  omega
theorem KS.ex {P : Nat → Nat → Prop} (x : Ex P σ σ') (hP : ∀ a k, P a k → mT σ a ≠ 92) (g : KS σ) : KS σ' := by
  intro k hk
  have h := g k hk
  rw [x.rR, x.rT, x.rI (fun q => hP _ _ q h.1), x.rI (fun q => hP _ _ q h.1)]
  exact h
theorem Wp.nt {k : Nat} (ws : WS σ w) {q : Nat} (p : Wp w q k) : mT σ q = 5 ∨ mT σ q = 102 := by
  rcases p with p | p
  · rw [p]; exact Or.inl ws.1
  · rw [p]; exact Or.inr ws.2.2.1
/-- two Worths and nothing else -/
def Wq (w u a : Nat) (_ : Nat) : Prop := a = w ∨ a = w + 1 ∨ a = u ∨ a = u + 1
theorem Wp.q1 {q k : Nat} (p : Wp w q k) : Wq w u q k := by unfold Wp at p; unfold Wq; omega
theorem Wp.q2 {q k : Nat} (p : Wp u q k) : Wq w u q k := by unfold Wp at p; unfold Wq; omega
theorem c_compare {k : Nat} (hN : 30 ≤ N) (ks : KS σ) (ws : WS σ w) (us : WS σ u) (ga : VW σ w a) (gb : VW σ u b) (hne : w ≠ u) (hk : k < 6) : Ev (x1_compare N (mR σ 0 (20 + k)) w u σ) (fun r => Ex (Wq w u) σ r ∧ VW r w (vCmp k a b)) := by
  unfold x1_compare
  refine Ev.g ws.1 (Ev.c (c_adapt ws us ga gb) (fun s1 _ q1 => Ev.g (us.ex q1.1).1 ?_))
  refine Ev.c (c_adapt (us.ex q1.1) (ws.ex q1.1) (gb.nw q1.1 us ws hne.symm) q1.2) (fun s2 _ q2 => ?_)
  have ws2 := (ws.ex q1.1).ex q2.1
  have us2 := (us.ex q1.1).ex q2.1
  have ga2 := q1.2.nw q2.1 (ws.ex q1.1) (us.ex q1.1) hne
  have gb2 := q2.2
  have X : Ex (Wq w u) σ s2 := (q1.1.mono (fun _ _ p => p.q1)).tr (q2.1.mono (fun _ _ p => p.q2))
  have ks2 : KS s2 := (ks.ex q1.1 (fun q k p => by rcases Wp.nt ws p with e | e <;> rw [e] <;> decide)).ex q2.1 (fun q k p => by rcases Wp.nt (us.ex q1.1) p with e | e <;> rw [e] <;> decide)
  have er : mR σ 0 (20 + k) = mR s2 0 (20 + k) := by rw [X.rR]
  have F : ∀ {x : Option gMem} {V : Vl}, Ev x (fun r => HSw w s2 r V) → Ev x (fun r => Ex (Wq w u) σ r ∧ VW r w V) := fun h => Ev.m h (fun r q => ⟨X.tr (q.1.mono (fun _ _ p => p.q1)), q.2⟩)
  have kk := ks2 k (by omega)
  rw [ga2.2.1, gb2.2.1, er]
  unfold vCmp
  dsimp only
  by_cases c : (adapt a b).1 = (adapt b (adapt a b)).1
  · refine Ev.g c ?_
    rw [if_neg (show ¬ (adapt a b).1 ≠ (adapt b (adapt a b)).1 from fun q => q c)]
    obtain ⟨x, ex, sx⟩ := c_against (N := N) hN ws2 us2 ga2 gb2 c
    refine Ev.e ex (Ev.g kk.1 ?_)
    rw [kk.2.1]
    rw [← sx]
    have sr := sgn_rng x
    generalize sgnI x = y at sr
    have I : ∀ (b : Bool) (n : Int), (decide (n ≠ 0) = b) → Ev ((x5_is w n s2).bind (fun r => some r)) (fun r => Ex (Wq w u) σ r ∧ VW r w (vIs b)) := fun b n hb => by
      rw [← hb]; exact F (Ev.c (c_is ws2) (fun r _ q => Ev.r q))
    rcases (by omega : k = 0 ∨ k = 1 ∨ k = 2 ∨ k = 3 ∨ k = 4 ∨ k = 5) with rfl | rfl | rfl | rfl | rfl | rfl
    · refine Ev.g rfl ?_
      by_cases q : x = 0
      · exact Ev.f (fun z => z q) (I _ 1 (by show true = decide (y = 0); rw [decide_eq_true (by omega)]))
      · exact Ev.g q (I _ 0 (by show false = decide (y = 0); rw [decide_eq_false (by omega)]))
    · refine Ev.f (by decide) (Ev.g rfl ?_)
      by_cases q : x = 0
      · exact Ev.g q (I _ 0 (by show false = decide (y ≠ 0); rw [decide_eq_false (by omega)]))
      · exact Ev.f q (I _ 1 (by show true = decide (y ≠ 0); rw [decide_eq_true (by omega)]))
    · refine Ev.f (by decide) (Ev.f (by decide) (Ev.g rfl ?_))
      by_cases q : 0 ≤ x
      · exact Ev.g q (I _ 0 (by show false = decide (y < 0); rw [decide_eq_false (by omega)]))
      · exact Ev.f q (I _ 1 (by show true = decide (y < 0); rw [decide_eq_true (by omega)]))
    · refine Ev.f (by decide) (Ev.f (by decide) (Ev.f (by decide) (Ev.g rfl ?_)))
      by_cases q : 0 < x
      · exact Ev.g q (I _ 0 (by show false = decide (y ≤ 0); rw [decide_eq_false (by omega)]))
      · exact Ev.f q (I _ 1 (by show true = decide (y ≤ 0); rw [decide_eq_true (by omega)]))
    · refine Ev.f (by decide) (Ev.f (by decide) (Ev.f (by decide) (Ev.f (by decide) (Ev.g rfl ?_))))
      by_cases q : x ≤ 0
      · exact Ev.g q (I _ 0 (by show false = decide (0 < y); rw [decide_eq_false (by omega)]))
      · exact Ev.f q (I _ 1 (by show true = decide (0 < y); rw [decide_eq_true (by omega)]))
    · refine Ev.f (by decide) (Ev.f (by decide) (Ev.f (by decide) (Ev.f (by decide) (Ev.f (by decide) ?_))))
      by_cases q : x < 0
      · exact Ev.g q (I _ 0 (by show false = decide (0 ≤ y); rw [decide_eq_false (by omega)]))
      · exact Ev.f q (I _ 1 (by show true = decide (0 ≤ y); rw [decide_eq_true (by omega)]))
  · refine Ev.f c ?_
    rw [if_pos (show (adapt a b).1 ≠ (adapt b (adapt a b)).1 from c)]
    have J : k < 2 → Ev (x1_compare_j35 N (mR s2 0 (20 + k)) w s2) (fun r => Ex (Wq w u) σ r ∧ VW r w (vIs (decide (k = 1)))) := by
      intro k2
      unfold x1_compare_j35
      by_cases k1 : k = 1
      · rw [decide_eq_true k1]
        refine Ev.f (fun q => q (by rw [k1])) (Ev.g ws2.1 (F (Ev.c (c_is ws2) (fun r _ q => Ev.r q))))
      · rw [decide_eq_false k1]
        exact Ev.g (ks2.ne (by omega) (j := 1) (by omega) k1) (Ev.g ws2.1 (F (Ev.c (c_is ws2) (fun r _ q => Ev.r q))))
    by_cases k2 : k < 2
    · rw [if_pos k2]
      by_cases k0 : k = 0
      · exact Ev.g (by rw [k0]) (J k2)
      · refine Ev.f (ks2.ne (by omega) (j := 0) (by omega) k0) (Ev.f (fun q => q ?_) (J k2))
        rw [show k = 1 by omega]
    · rw [if_neg k2]
      exact Ev.f (ks2.ne (by omega) (j := 0) (by omega) (by omega)) (Ev.g (ks2.ne (by omega) (j := 1) (by omega) (by omega)) (F (Ev.c (c_fail ws2 (by decide) (by decide)) (fun r _ q => Ev.r q))))
theorem iabs (x : Int) : (if 0 < x then x else -x) = ((x.natAbs : Nat) : Int) := by split <;> omega
theorem c_reckon {k : Nat} {n : Int} (ks : KS σ) (ws : WS σ w) (ga : VW σ w a) (ka : a.1 = 1) (hn : n.natAbs ≤ 1000000000000000) (h1 : 7 ≤ k) (h2 : k < 12) : Ev (x1_reckon (mR σ 0 (20 + k)) w n σ) (fun r => HSw w σ r (vReck (10 + k) a.2.1 n)) := by
  obtain ⟨-, a1, a2⟩ := ga.1.k1 ka
  have kk := ks k h2
  unfold x1_reckon vReck
  refine Ev.g ws.1 (Ev.g kk.1 ?_)
  rw [kk.2.1, ga.2.2.2.1]
  by_cases c7 : k = 7
  · rw [if_pos (show 10 + k = 17 by omega)]
    refine Ev.g (by omega) ?_
    rw [w64_i (by omega) (by omega)]
    exact Ev.c (c_be ws (by omega)) (fun r _ q => Ev.r q)
  · rw [if_neg (show ¬ 10 + k = 17 by omega)]
    refine Ev.f (by omega) ?_
    by_cases c8 : k = 8
    · rw [if_pos (show 10 + k = 18 by omega)]
      refine Ev.g (by omega) ?_
      rw [w64_i (by omega) (by omega)]
      exact Ev.c (c_be ws (by omega)) (fun r _ q => Ev.r q)
    · rw [if_neg (show ¬ 10 + k = 18 by omega)]
      refine Ev.f (by omega) ?_
      by_cases c9 : k = 9
      · rw [if_pos (show 10 + k = 19 by omega)]
        refine Ev.g (by omega) ?_
        generalize hx : a.2.1 = x at *
        have hm : (x * n).natAbs = x.natAbs * n.natAbs := Int.natAbs_mul x n
        have J : x.natAbs * n.natAbs ≤ 1000000000000000 → Ev (x1_reckon_j96 w n x σ) (fun r => HSw w σ r (vBe (x * n))) := by
          intro hb
          unfold x1_reckon_j96
          rw [← hm] at hb
          generalize x * n = z at *
          refine Ev.g ws.1 ?_
          rw [w64_i (by omega) (by omega)]
          exact Ev.c (c_be ws (by omega)) (fun r _ q => Ev.r q)
        by_cases x0 : x = 0
        · exact Ev.g (gcmp_eq.mpr x0) (J (by rw [x0]; simp))
        · refine Ev.f (fun q => x0 (gcmp_eq.mp q)) ?_
          by_cases n0 : n = 0
          · exact Ev.g (gcmp_eq.mpr n0) (J (by rw [n0]; simp))
          · refine Ev.f (fun q => n0 (gcmp_eq.mp q)) ?_
            have ex : w64 (if 0 < x then x else -x) = ((x.natAbs : Nat) : Int) := by rw [iabs, w64_i (by omega) (by omega)]
            have en : w64 (if 0 < n then n else -n) = ((n.natAbs : Nat) : Int) := by rw [iabs, w64_i (by omega) (by omega)]
            have ed : w64 (Int.tdiv 1000000000000000 (n.natAbs : Int)) = ((1000000000000000 / n.natAbs : Nat) : Int) := by
              have : Int.tdiv 1000000000000000 (n.natAbs : Int) = ((1000000000000000 / n.natAbs : Nat) : Int) := by
                rw [show (1000000000000000 : Int) = ((1000000000000000 : Nat) : Int) from rfl, ← Int.ofNat_tdiv]
              have hl : 1000000000000000 / n.natAbs ≤ 1000000000000000 := Nat.div_le_self _ _
              rw [this]
              generalize 1000000000000000 / n.natAbs = t at hl ⊢
              exact w64_i (by omega) (by omega)
            rw [ex, en, ed]
            refine Ev.g (by omega) ?_
            by_cases c1 : x.natAbs ≤ 1000000000000000 / n.natAbs
            · exact Ev.g (gcmp_np.mpr (Int.ofNat_le.mpr c1)) (J ((Nat.le_div_iff_mul_le (by omega)).mp c1))
            · refine Ev.f (fun q => c1 (Int.ofNat_le.mp (gcmp_np.mp q))) (Ev.c (c_fail ws (by decide) (by decide)) (fun r _ q => Ev.r ?_))
              have hb : 1000000000000000 < x.natAbs * n.natAbs := Nat.lt_of_not_le (fun q => c1 ((Nat.le_div_iff_mul_le (by omega)).mpr q))
              rw [vBe_big (by rw [hm]; exact hb)]; exact q
      · rw [if_neg (show ¬ 10 + k = 19 by omega)]
        refine Ev.f (by omega) ?_
        by_cases n0 : n = 0
        · rw [if_pos n0]
          exact Ev.f (fun q => q (gcmp_eq.mpr n0)) (Ev.c (c_fail ws (by decide) (by decide)) (fun r _ q => Ev.r q))
        · rw [if_neg n0]
          refine Ev.g (fun q => n0 (gcmp_eq.mp q)) ?_
          by_cases c10 : k = 10
          · rw [if_pos (show 10 + k = 20 by omega)]
            refine Ev.f (fun q => q (by rw [c10])) (Ev.g n0 ?_)
            have m : (Int.tdiv a.2.1 n).natAbs ≤ a.2.1.natAbs := by rw [Int.natAbs_tdiv]; exact Nat.div_le_self _ _
            rw [w64_i (by omega) (by omega)]
            exact Ev.c (c_be ws (by omega)) (fun r _ q => Ev.r q)
          · rw [if_neg (show ¬ 10 + k = 20 by omega)]
            refine Ev.g (ks.ne h2 (j := 10) (by omega) c10) (Ev.g n0 ?_)
            have m : (Int.tmod a.2.1 n).natAbs ≤ a.2.1.natAbs := by rw [Int.natAbs_tmod]; exact Nat.mod_le _ _
            rw [w64_i (by omega) (by omega)]
            exact Ev.c (c_be ws (by omega)) (fun r _ q => Ev.r q)
end CoWorth3
