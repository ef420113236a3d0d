/-! ===== PHASE 2: the component's values at work ===== -/
section CoWorth
variable {N w u : Nat} {σ σ' s : gMem} {v a b : Vl}
/-- a Worth at w, its text behind it -/
def WS (σ : gMem) (w : Nat) : Prop := mT σ w = 5 ∧ mR σ w 3 = w + 1 ∧ mT σ (w + 1) = 102 ∧ mN σ (w + 1) = 24
theorem WS.ex {P : Nat → Nat → Prop} (x : Ex P σ σ') (g : WS σ w) : WS σ' w := by unfold WS; rw [x.rT, x.rN, x.rR]; exact g
/-- its value -/
def VW (σ : gMem) (w : Nat) (v : Vl) : Prop := VOk v ∧ mI σ w 0 = v.1 ∧ mI σ w 1 = v.2.2.length ∧ mL σ w 2 = v.2.1 ∧ ∀ i, i < v.2.2.length → mI σ (w + 1) i = gl v.2.2 i
def Wp (w a : Nat) (_ : Nat) : Prop := a = w ∨ a = w + 1
def HSw (w : Nat) (σ σ' : gMem) (v : Vl) : Prop := Ex (Wp w) σ σ' ∧ VW σ' w v
theorem Wp.o {k : Nat} : Wp w w k := Or.inl rfl
theorem Wp.t {k : Nat} : Wp w (w + 1) k := Or.inr rfl
theorem VW.ex {P : Nat → Nat → Prop} (x : Ex P σ σ') (g : VW σ w v) (n0 : ∀ k, ¬ P w k) (n1 : ∀ k, ¬ P (w + 1) k) : VW σ' w v :=
  ⟨g.1, by rw [x.rI (n0 _)]; exact g.2.1, by rw [x.rI (n0 _)]; exact g.2.2.1, by rw [x.rL (n0 _)]; exact g.2.2.2.1, fun i hi => by rw [x.rI (n1 _)]; exact g.2.2.2.2 i hi⟩
theorem VW.ne (x : Ex (Wp u) σ σ') (g : VW σ w v) (h1 : w ≠ u) (h2 : w ≠ u + 1) (h3 : u ≠ w + 1) : VW σ' w v := g.ex x (fun k q => by unfold Wp at q; omega) (fun k q => by unfold Wp at q; omega)
theorem HSw.tr (x : Ex (Wp w) σ s) (y : HSw w s σ' v) : HSw w σ σ' v := ⟨x.tr y.1, y.2⟩
theorem HSw.rf (g : VW σ w v) : HSw w σ σ v := ⟨Ex.rf, g⟩
/-- two Worths lie apart -/
theorem WS.ne (g : WS σ w) (g' : WS σ u) (h : w ≠ u) : w ≠ u + 1 ∧ u ≠ w + 1 := ⟨fun e => absurd (g'.2.2.1.symm.trans ((congrArg (mT σ) e.symm).trans g.1)) (by decide), fun e => absurd (g.2.2.1.symm.trans ((congrArg (mT σ) e.symm).trans g'.1)) (by decide)⟩
theorem VW.nw (x : Ex (Wp u) σ σ') (g : VW σ w v) (hw : WS σ w) (hu : WS σ u) (h : w ≠ u) : VW σ' w v := g.ne x h (hw.ne hu h).1 (hw.ne hu h).2
def w3 (σ : gMem) (w : Nat) (k n l : Int) : gMem := wI (wL (wI σ w 0 k) w 2 n) w 1 l
theorem w3_ex {k n l : Int} : Ex (Wp w) σ (w3 σ w k n l) := ((Ex.rf.I Wp.o).L Wp.o).I Wp.o
theorem w3_0 {k n l : Int} (h : g32 k) : mI (w3 σ w k n l) w 0 = k := by unfold w3; rw [mI_wI, if_neg (by omega), mI_wL, mI_wI, if_pos ⟨rfl, rfl⟩]; exact w32_id h
theorem w3_1 {k n l : Int} (h : g32 l) : mI (w3 σ w k n l) w 1 = l := by unfold w3; rw [mI_wI, if_pos ⟨rfl, rfl⟩]; exact w32_id h
theorem w3_2 {k n l : Int} (h : g64 n) : mL (w3 σ w k n l) w 2 = n := by unfold w3; rw [mL_wI, mL_wL, if_pos ⟨rfl, rfl⟩]; exact w64_id h
theorem w3_t {k n l : Int} (i : Nat) : mI (w3 σ w k n l) (w + 1) i = mI σ (w + 1) i := by unfold w3; rw [mI_wI, if_neg (by omega), mI_wL, mI_wI, if_neg (by omega)]
/-- a value without a text -/
theorem w3_hs {k n : Int} (hk : VOk (k, (n, []))) (h64 : g64 n) : HSw w σ (w3 σ w k n 0) (k, (n, [])) :=
  ⟨w3_ex, hk, w3_0 (by have := hk.k; show g32 k; have a : (k, (n, ([] : List Int))).1 = k := rfl; rw [a] at this; omega), w3_1 (by decide), w3_2 h64, fun i hi => absurd hi (Nat.not_lt_zero i)⟩
theorem c_none (ws : WS σ w) : Ev (x5_none w σ) (fun r => HSw w σ r vE) := by
  unfold x5_none
  exact Ev.g ws.1 (Ev.l (Ev.l (Ev.l (Ev.r (w3_hs VOk.e (by decide))))))
theorem c_fail {n : Int} (ws : WS σ w) (h1 : 1 ≤ n) (h2 : n ≤ 7) : Ev (x5_fail w n σ) (fun r => HSw w σ r (vErr n)) := by
  unfold x5_fail
  exact Ev.g ws.1 (Ev.l (Ev.l (Ev.l (Ev.r (w3_hs (VOk.err h1 h2) (by omega))))))
theorem c_is {n : Int} (ws : WS σ w) : Ev (x5_is w n σ) (fun r => HSw w σ r (vIs (decide (n ≠ 0)))) := by
  unfold x5_is
  refine Ev.g ws.1 (Ev.l ?_)
  by_cases c : n = 0
  · rw [decide_eq_false (fun q => q c)]
    exact Ev.g c (Ev.l (Ev.l (Ev.r (w3_hs (VOk.is (b := false)) (by decide)))))
  · rw [decide_eq_true c]
    exact Ev.f c (Ev.l (Ev.l (Ev.r (w3_hs (VOk.is (b := true)) (by decide)))))
theorem c_be {n : Int} (ws : WS σ w) (hn : g64 n) : Ev (x5_be w n σ) (fun r => HSw w σ r (vBe n)) := by
  unfold x5_be vBe
  by_cases c1 : 1000000000000000 < n
  · rw [if_pos (Or.inl c1)]
    exact Ev.g (gcmp_pos.mpr c1) (Ev.g ws.1 (Ev.c (c_fail ws (by decide) (by decide)) (fun r _ q => Ev.r q)))
  · refine Ev.f (fun q => c1 (gcmp_pos.mp q)) ?_
    by_cases c2 : -1000000000000000 ≤ n
    · refine Ev.g (gcmp_nn.mpr c2) ?_
      rw [if_neg (show ¬ (1000000000000000 < n ∨ n < -1000000000000000) by omega)]
      exact (Ev.g ws.1 (Ev.l (Ev.l (Ev.l (Ev.r (w3_hs (VOk.num c2 (by omega)) hn))))))
    · refine Ev.f (fun q => c2 (gcmp_nn.mp q)) ?_
      rw [if_pos (show (1000000000000000 < n ∨ n < -1000000000000000) by omega)]
      exact (Ev.g ws.1 (Ev.c (c_fail ws (by decide) (by decide)) (fun r _ q => Ev.r q)))
theorem c_failed (ws : WS σ w) (g : VW σ w v) : x5_failed w σ = some (if v.1 = 4 then 1 else 0) := by
  unfold x5_failed
  rw [if_pos ws.1, g.2.1]
  by_cases c : v.1 = 4
  · rw [if_neg (fun q => q c), if_pos c]
  · rw [if_pos c, if_neg c]
theorem c_wantNumber (ws : WS σ w) (g : VW σ w v) : Ev (x5_wantNumber w σ) (fun r => r.1 = (if (wantN v).1 = 1 then 1 else 0) ∧ HSw w σ r.2 (wantN v)) := by
  unfold x5_wantNumber
  refine Ev.g ws.1 ?_
  rw [g.2.1]
  have J : ∀ (s : gMem) (u : Vl), WS s w → VW s w u → u.1 = 1 → Ev (x5_wantNumber_j25 w s) (fun r => r = (1, s)) := by
    intro s u ws' gu hu
    unfold x5_wantNumber_j25
    refine Ev.g ws'.1 (Ev.f (fun q => q ?_) (Ev.r rfl))
    rw [gu.2.1]; exact hu
  by_cases h0 : v.1 = 0
  · refine Ev.f (fun q => q h0) (Ev.c (c_be ws (by decide)) (fun r _ q => ?_))
    unfold x5_wantNumber_j12
    have e1 : wantN v = vBe 0 := by unfold wantN; rw [if_pos h0]
    refine Ev.g (ws.ex q.1).1 (Ev.g (by rw [q.2.2.1]; rfl) (Ev.m (J r _ (ws.ex q.1) q.2 rfl) (fun a ha => ?_)))
    rw [ha, e1]
    exact ⟨rfl, q⟩
  · refine Ev.g h0 ?_
    unfold x5_wantNumber_j12
    refine Ev.g ws.1 ?_
    rw [g.2.1]
    by_cases h1 : v.1 = 1
    · refine Ev.g h1 (Ev.m (J σ _ ws g h1) (fun a ha => ?_))
      rw [ha, wantN_1 h1, if_pos h1]
      exact ⟨rfl, HSw.rf g⟩
    · refine Ev.f h1 (Ev.c (c_fail ws (by decide) (by decide)) (fun r _ q => ?_))
      unfold x5_wantNumber_j25
      refine Ev.g (ws.ex q.1).1 (Ev.g (by rw [q.2.2.1]; decide) (Ev.r ?_))
      rw [wantN_x h0 h1]
      exact ⟨rfl, q⟩
theorem c_wantTruth (ws : WS σ w) (g : VW σ w v) : Ev (x5_wantTruth w σ) (fun r => r.1 = (if (wantB v).1 = 3 then 1 else 0) ∧ HSw w σ r.2 (wantB v)) := by
  unfold x5_wantTruth
  refine Ev.g ws.1 ?_
  rw [g.2.1]
  have J : ∀ (s : gMem) (u : Vl), WS s w → VW s w u → u.1 = 3 → Ev (x5_wantTruth_j25 w s) (fun r => r = (1, s)) := by
    intro s u ws' gu hu
    unfold x5_wantTruth_j25
    refine Ev.g ws'.1 (Ev.f (fun q => q ?_) (Ev.r rfl))
    rw [gu.2.1]; exact hu
  by_cases h0 : v.1 = 0
  · refine Ev.f (fun q => q h0) (Ev.c (c_is ws) (fun r _ q => ?_))
    unfold x5_wantTruth_j12
    have e1 : wantB v = vIs false := by unfold wantB; rw [if_pos h0]
    refine Ev.g (ws.ex q.1).1 (Ev.g (by rw [q.2.2.1]; rfl) (Ev.m (J r _ (ws.ex q.1) q.2 rfl) (fun a ha => ?_)))
    rw [ha, e1]
    exact ⟨rfl, q⟩
  · refine Ev.g h0 ?_
    unfold x5_wantTruth_j12
    refine Ev.g ws.1 ?_
    rw [g.2.1]
    by_cases h1 : v.1 = 3
    · refine Ev.g h1 (Ev.m (J σ _ ws g h1) (fun a ha => ?_))
      rw [ha, wantB_3 h1, if_pos h1]
      exact ⟨rfl, HSw.rf g⟩
    · refine Ev.f h1 (Ev.c (c_fail ws (by decide) (by decide)) (fun r _ q => ?_))
      unfold x5_wantTruth_j25
      refine Ev.g (ws.ex q.1).1 (Ev.g (by rw [q.2.2.1]; decide) (Ev.r ?_))
      rw [wantB_x h0 h1]
      exact ⟨rfl, q⟩
/-- bytes of an array become the text -/
theorem c_words {fr n : Nat} {t : List Int} (ws : WS σ w) (hn : t.length = n) (h24 : n ≤ 24) (hr : ∀ c ∈ t, 32 ≤ c ∧ c ≤ 126) (h0 : fr ≠ w) (h1 : fr ≠ w + 1) (hT : mT σ fr = 102) (hL : n ≤ mN σ fr) (ht : ∀ i, i < n → mI σ fr i = gl t i) : Ev (x5_words w fr 0 n σ) (fun r => HSw w σ r (vTx t)) := by
  unfold x5_words
  refine Ev.g ws.1 (Ev.l (Ev.l (Ev.l ?_)))
  rw [show wI (wL (wI σ w 0 2) w 2 (((0 : Fin 2) : Nat) : Int)) w 1 (n : Int) = w3 σ w 2 0 n from rfl]
  have ws1 := ws.ex (w3_ex (σ := σ) (w := w) (k := 2) (n := 0) (l := n))
  have eR : mR (w3 σ w 2 0 n) w 3 = w + 1 := ws1.2.1
  have hL' : n ≤ mN (w3 σ w 2 0 n) fr := hL
  have hz : mN (w3 σ w 2 0 n) (w + 1) = 24 := ws1.2.2.2
  rw [eR]
  refine Ev.g hT (Ev.g ws1.2.2.1 (Ev.g (by rw [hz]; omega) (Ev.l (Ev.r ?_))))
  rw [tn, show ((0 : Int)).toNat = 0 from rfl]
  refine ⟨w3_ex.CI (fun j _ _ => Wp.t), VOk.tx (by omega) hr, ?_, ?_, ?_, fun i hi => ?_⟩
  · rw [mI_wCI, if_neg (by omega)]; exact w3_0 (by decide)
  · rw [mI_wCI, if_neg (by omega), w3_1 (by omega), ← hn]; rfl
  · rw [mL_wCI]; exact w3_2 (by decide)
  · have hi' : i < n := by rw [← hn]; exact hi
    rw [mI_wCI, if_pos ⟨rfl, by omega, by omega⟩, show 0 + (i - 0) = i by omega, w3_ex.rI (P := Wp w) (a := fr) (k := i)]
    · exact ht i hi'
    · intro q
      rcases q with q | q
      · exact h0 q
      · exact h1 q
theorem c_copy (ws : WS σ w) (us : WS σ u) (g : VW σ u v) (hne : w ≠ u) : Ev (x5_copy w u σ) (fun r => HSw w σ r v) := by
  have hk := g.1.k
  have ht := g.1.txt
  have nn := ws.ne us hne
  unfold x5_copy
  refine Ev.g us.1 (Ev.g ws.1 (Ev.l (Ev.l (Ev.l ?_))))
  have e1 : mL (wI σ w 0 (mI σ u 0)) u 2 = v.2.1 := by rw [mL_wI]; exact g.2.2.2.1
  have e2 : mI (wL (wI σ w 0 (mI σ u 0)) w 2 v.2.1) u 1 = v.2.2.length := by rw [mI_wL, mI_wI, if_neg (by omega)]; exact g.2.2.1
  rw [e1, e2, g.2.1, show wI (wL (wI σ w 0 v.1) w 2 v.2.1) w 1 (v.2.2.length : Int) = w3 σ w v.1 v.2.1 v.2.2.length from rfl]
  have X := w3_ex (σ := σ) (w := w) (k := v.1) (n := v.2.1) (l := v.2.2.length)
  have ws1 := ws.ex X
  have us1 := us.ex X
  have e3 : mI (w3 σ w v.1 v.2.1 v.2.2.length) u 1 = v.2.2.length := by rw [X.rI (by unfold Wp; omega)]; exact g.2.2.1
  rw [ws1.2.1, us1.2.1, e3]
  refine Ev.g us1.2.2.1 (Ev.g ws1.2.2.1 (Ev.g (by rw [ws1.2.2.2, us1.2.2.2]; omega) (Ev.l (Ev.r ?_))))
  rw [tn, show ((0 : Int)).toNat = 0 from rfl]
  refine ⟨X.CI (fun j _ _ => Wp.t), g.1, ?_, ?_, ?_, fun i hi => ?_⟩
  · rw [mI_wCI, if_neg (by omega)]; exact w3_0 (by omega)
  · rw [mI_wCI, if_neg (by omega)]; exact w3_1 (by omega)
  · rw [mL_wCI]
    refine w3_2 ?_
    have := mL_rng σ u 2
    rw [g.2.2.2.1] at this
    exact this
  · rw [mI_wCI, if_pos ⟨rfl, by omega, by omega⟩, show 0 + (i - 0) = i by omega, X.rI (by unfold Wp; omega)]
    exact g.2.2.2.2 i hi
theorem c_adapt (ws : WS σ w) (us : WS σ u) (ga : VW σ w a) (gb : VW σ u b) : Ev (x5_adapt w u σ) (fun r => HSw w σ r (adapt a b)) := by
  unfold x5_adapt adapt
  refine Ev.g ws.1 ?_
  rw [ga.2.1]
  by_cases c0 : a.1 = 0
  · rw [if_neg (show ¬ a.1 ≠ 0 from fun q => q c0)]
    refine Ev.g c0 (Ev.g us.1 ?_)
    rw [gb.2.1]
    by_cases c2 : b.1 = 2
    · rw [if_pos c2]
      refine Ev.f (fun q => q c2) (Ev.l (Ev.r ⟨Ex.rf.I Wp.o, VOk.tx (by decide) (by decide), ?_, ?_, ?_, fun i hi => absurd hi (Nat.not_lt_zero i)⟩))
      · rw [mI_wI, if_pos ⟨rfl, rfl⟩]; exact w32_id (by decide)
      · rw [mI_wI, if_neg (by omega), ga.2.2.1, ga.1.k0 c0]; rfl
      · rw [mL_wI, ga.2.2.2.1, ga.1.k0 c0]; rfl
    · rw [if_neg c2]
      refine Ev.g c2 ?_
      by_cases c3 : b.1 = 3
      · rw [if_pos c3]
        exact Ev.f (fun q => q c3) (Ev.c (c_is ws) (fun r _ q => Ev.r q))
      · rw [if_neg c3]
        exact Ev.g c3 (Ev.c (c_be ws (by decide)) (fun r _ q => Ev.r q))
  · rw [if_pos (show a.1 ≠ 0 from c0)]
    exact Ev.f c0 (Ev.r (HSw.rf ga))
theorem c_join (ws : WS σ w) (us : WS σ u) (ga : VW σ w a) (gb : VW σ u b) (hne : w ≠ u) (ka : a.1 = 2) (kb : b.1 = 2) : Ev (x5_join w u σ) (fun r => HSw w σ r (vJoin a b)) := by
  have ha := ga.1.txt
  have hb := gb.1.txt
  have nn := ws.ne us hne
  unfold x5_join vJoin
  refine Ev.g ws.1 (Ev.g us.1 ?_)
  rw [ga.2.2.1, gb.2.2.1, w32_i (by omega) (by omega)]
  by_cases c : 24 < a.2.2.length + b.2.2.length
  · rw [if_pos c]
    exact Ev.f (by omega) (Ev.c (c_fail ws (by decide) (by decide)) (fun r _ q => Ev.r q))
  · rw [if_neg c]
    refine Ev.g (by omega) ?_
    rw [ws.2.1, us.2.1]
    refine Ev.g us.2.2.1 (Ev.g ws.2.2.1 (Ev.g (by rw [ws.2.2.2, us.2.2.2]; omega) (Ev.l (Ev.l (Ev.r ?_)))))
    rw [tn, tn, show ((0 : Int)).toNat = 0 from rfl]
    have X : Ex (Wp w) σ (wCI σ (u + 1) 0 (w + 1) a.2.2.length b.2.2.length) := Ex.rf.CI (fun j _ _ => Wp.t)
    rw [X.rI (a := u) (by unfold Wp; omega), gb.2.2.1, mI_wCI, if_neg (by omega), ga.2.2.1, w32_i (by omega) (by omega)]
    refine ⟨X.I Wp.o, VOk.tx (by rw [List.length_append]; omega) (fun c hc => ?_), ?_, ?_, ?_, fun i hi => ?_⟩
    · rcases List.mem_append.mp hc with q | q
      · exact ha.2 c q
      · exact hb.2 c q
    · rw [mI_wI, if_neg (by omega), mI_wCI, if_neg (by omega), ga.2.1, ka]; rfl
    · rw [mI_wI, if_pos ⟨rfl, rfl⟩, w32_i (by omega) (by omega)]
      show _ = (((a.2.2 ++ b.2.2).length : Nat) : Int)
      rw [List.length_append]; omega
    · rw [mL_wI, mL_wCI, ga.2.2.2.1, ga.1.k2 ka]; rfl
    · have hi' : i < (a.2.2 ++ b.2.2).length := hi
      rw [List.length_append] at hi'
      rw [mI_wI, if_neg (by omega), mI_wCI]
      show _ = gl (a.2.2 ++ b.2.2) i
      by_cases hl : i < a.2.2.length
      · rw [if_neg (by omega), gl_app1 hl]; exact ga.2.2.2.2 i hl
      · rw [if_pos ⟨rfl, by omega, by omega⟩, gl_app2 (by omega), show 0 + (i - a.2.2.length) = i - a.2.2.length by omega]
        exact gb.2.2.2.2 _ (by omega)
end CoWorth
