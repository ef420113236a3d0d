/-! ===== PHASE 2: the twin's formulas: calls of one, ends, looks ===== -/
section TwEv7
variable {N h d s n : Nat} {σ σ' : gMem} {v w a b : Vl} {cx : Cx}
theorem Nd.last {q : Nat} {p : Pt} {ls : List Fm} (g : Nd σ h n q p ls) (hl : ls.length = 1) : SpT σ h n (q - 1) (ls[0]'(by omega)) ∧ w32 ((q : Int) - 1) = ((q - 1 : Nat) : Int) := by
  have := g.2.2.2.2.2 0 (by omega)
  have hq := g.1.1
  have nz := g.nz (i := 0) (by omega)
  have f := g.fit (i := 0) (by omega)
  have h5 := g.2.2.2.2.1
  rw [List.drop_eq_nil_of_le (by omega)] at this
  exact ⟨this, by rw [w32_i (by omega) (by omega)]; omega⟩
theorem t_workOne {q : Nat} {p : Pt} {ls : List Fm} {W : Int → Int → Int → gMem → Option gMem} (g : Nd σ h n q p ls) (hW : HW h s cx n W) (hN : 70 ≤ N) (h1 : 37 ≤ pK p) (h2 : pK p ≤ 40) (tc : TCx σ h s cx) (tb : TB σ h) (hd : d + ls.flatten.length + 4 ≤ 200) : Ev (tw_workOne N W h q s d σ) (fun r => EP h d σ r (evOne (pK p) (xv (ls.map (fun y => (lab y, ev cx y))) 0))) := by
  have ca := g.2.2.1.call (by omega)
  have hl : ls.length = 1 := by
    have e1 : leastA (pK p) = 1 := by unfold leastA; rw [if_neg (by omega), if_pos (by omega)]
    have e2 : mostA (pK p) = 1 := by unfold mostA; rw [if_neg (by omega), e1]
    have := g.2.2.2.1
    omega
  have f0 := g.fit (i := 0) (by omega)
  have n6 : pK (lab (ls[0]'(by omega))) ≠ 6 := takes_n6 (g.tk (by omega) (by omega)) (by omega) (by omega)
  obtain ⟨sp, eq⟩ := g.last hl
  have hq := g.1.1
  rw [xv_at (by omega)]
  unfold tw_workOne
  rw [eq]
  refine Ev.c (hW _ _ _ _ sp n6 tc tb (by omega)) (fun s1 _ q1 => Ev.g (by omega) ?_)
  have L := g.1.pv q1.1
  rw [tn, L.2.1]
  unfold evOne
  by_cases c40 : pK p = 40
  · rw [if_pos c40]
    refine Ev.f (by omega) (Ev.g (dG (by omega)) ?_)
    rw [tn, q1.2.2.2.1]
    by_cases e0 : (ev cx ls[0]).1 = 4
    · rw [decide_eq_true e0]
      exact Ev.f (fun q => q e0) (Ev.c (t_truth (by omega)) (fun r _ q => Ev.r (EP.hs q1.1 q1.2.1 q)))
    · rw [decide_eq_false e0]
      exact Ev.g e0 (Ev.c (t_truth (by omega)) (fun r _ q => Ev.r (EP.hs q1.1 q1.2.1 q)))
  · rw [if_neg c40]
    refine Ev.g (by omega) (Ev.g (dG (by omega)) ?_)
    rw [tn, q1.2.2.2.1]
    by_cases e0 : (ev cx ls[0]).1 = 4
    · rw [if_pos e0]
      exact Ev.f (fun q => q e0) (Ev.r q1)
    · rw [if_neg e0]
      refine Ev.g e0 ?_
      by_cases c39 : pK p = 39
      · rw [if_pos c39]
        refine Ev.f (by omega) (Ev.c (t_wantsText (by omega) (by omega) q1.2.1 (tc.pv q1.1).1 (tc.pv q1.1).2.1 q1.2.2 e0) (fun s2 _ q2 => Ev.g (dG (by omega)) ?_))
        have lt := q2.2.2.1.txt.1
        rw [(q2.2.2.2.2.2 (wantT_2 q1.2.2.1)).1]
        refine Ev.c (t_number (by omega) (by omega)) (fun r _ q => Ev.r (EP.hs q1.1 q1.2.1 (HS.tr' q2 q)))
      · rw [if_neg c39]
        refine Ev.g (by omega) ?_
        by_cases c37 : pK p = 37
        · rw [if_pos c37]
          refine Ev.f (by omega) (Ev.c (t_wantsTruth (by omega) q1.2.2) (fun x3 _ q3 => ?_))
          rw [q3.1]
          by_cases w1 : (wantB (ev cx ls[0])).1 = 3
          · rw [if_pos w1, if_neg (show ¬ ¬ (wantB (ev cx ls[0])).1 = 3 from fun q => q w1)]
            refine Ev.f (by decide) (Ev.g (dG (by omega)) ?_)
            rw [q3.2.2.2.2.2.1 (by omega) (by omega)]
            by_cases c : (wantB (ev cx ls[0])).2.1 = 0
            · rw [decide_eq_true c]
              exact Ev.f (fun q => q (gcmp_eq.mpr c)) (Ev.c (t_truth (by omega)) (fun r _ q => Ev.r (EP.hs q1.1 q1.2.1 (HS.tr' q3.2 q))))
            · rw [decide_eq_false c]
              exact Ev.g (fun q => c (gcmp_eq.mp q)) (Ev.c (t_truth (by omega)) (fun r _ q => Ev.r (EP.hs q1.1 q1.2.1 (HS.tr' q3.2 q))))
          · rw [if_neg w1, if_pos w1]
            exact Ev.g rfl (Ev.r (EP.hs q1.1 q1.2.1 q3.2))
        · rw [if_neg c37]
          refine Ev.g (by omega) (Ev.c (t_wantsNumber (by omega) q1.2.2) (fun x3 _ q3 => ?_))
          rw [q3.1]
          by_cases w1 : (wantN (ev cx ls[0])).1 = 1
          · rw [if_pos w1, if_neg (show ¬ ¬ (wantN (ev cx ls[0])).1 = 1 from fun q => q w1)]
            obtain ⟨-, b1, b2⟩ := q3.2.2.2.1.k1 w1
            refine Ev.f (by decide) (Ev.g (dG (by omega)) ?_)
            rw [q3.2.2.2.2.2.1 (by omega) (by omega)]
            by_cases c : (0 : Int) ≤ (wantN (ev cx ls[0])).2.1
            · refine Ev.g (gcmp_nn.mpr c) ?_
              rw [if_neg (show ¬ (wantN (ev cx ls[0])).2.1 < 0 by omega)]
              exact (Ev.g (dG (by omega)) (Ev.c (t_number (by omega) (by omega)) (fun r _ q => Ev.r (EP.hs q1.1 q1.2.1 (HS.tr' q3.2 q)))))
            · refine Ev.f (fun q => c (gcmp_nn.mp q)) ?_
              rw [if_pos (show (wantN (ev cx ls[0])).2.1 < 0 by omega), w64_i (by omega) (by omega)]
              exact (Ev.g (dG (by omega)) (Ev.c (t_number (by omega) (by omega)) (fun r _ q => Ev.r (EP.hs q1.1 q1.2.1 (HS.tr' q3.2 q)))))
          · rw [if_neg w1, if_pos w1]
            exact Ev.g rfl (Ev.r (EP.hs q1.1 q1.2.1 q3.2))
theorem t_workEnd_l {W : Int → Int → Int → gMem → Option gMem} {m0 fr : Nat} {K : gMem → Option gMem} (hd : d < 200) (hn : fr + m0 ≤ 24) : ∀ (m i f : Nat) (s : gMem), i + m = m0 → m < f → By s (h + 36) → tw_workEnd_l161 N W h d m0 fr K f i s = K (wCI s (h + 36) (24 * d + fr + i) (h + 36) (24 * d + i) m) := by
  intro m
  induction m with
  | zero =>
    intro i f s h1 h2 _
    obtain ⟨f, rfl⟩ : ∃ g, f = g + 1 := ⟨f - 1, by omega⟩
    unfold tw_workEnd_l161
    rw [if_pos (by omega), wCI_zero]
  | succ m ih =>
    intro i f s h1 h2 h6
    obtain ⟨f, rfl⟩ : ∃ g, f = g + 1 := ⟨f - 1, by omega⟩
    unfold tw_workEnd_l161
    have e1 : (24 * (d : Int) + (fr : Int) + (i : Int)).toNat = 24 * d + fr + i := by omega
    have e2 : (24 * (d : Int) + (i : Int)).toNat = 24 * d + i := by omega
    rw [if_neg (by omega), if_pos (by omega), e1, if_pos (h6 _), if_pos (by omega), e2, inc32 (by omega)]
    unfold gLet
    dsimp only
    rw [ih (i + 1) f _ (by omega) (by omega) (h6.I (fun _ => h6 _))]
    congr 1
    exact wCI_front (by omega)
theorem gl_drop {l : List Int} {m i : Nat} : gl (l.drop m) i = gl l (m + i) := by unfold gl; rw [List.getElem?_drop]
theorem gl_take {l : List Int} {m i : Nat} (hi : i < m) : gl (l.take m) i = gl l i := by unfold gl; rw [List.getElem?_take_of_lt hi]
/-- m bytes from fr on come to the begin -/
theorem t_workEnd_j156 {W : Int → Int → Int → gMem → Option gMem} {t : List Int} {m fr : Nat} (hd : d < 200) (hN : 30 ≤ N) (tb : TB σ h) (g : VH σ h d (vTx t)) (hm : fr + m ≤ t.length) : Ev (tw_workEnd_j156 N W h d m fr σ) (fun r => HS h d σ r (vTx ((t.drop fr).take m))) := by
  have ht := g.1.txt
  have g2 := g.2.2.2 rfl
  have hlen : t.length ≤ 24 := ht.1
  unfold tw_workEnd_j156
  have e := t_workEnd_l (N := N) (h := h) (W := W) (m0 := m) (fr := fr) (K := fun s34 => if 0 ≤ (d : Int) ∧ (d : Int) < ((200 : Nat) : Int) then gLet (wI s34 (h + 35) (d : Int).toNat (m : Int)) (fun s36 => some s36) else none) hd (by omega) m 0 N σ (by omega) (by omega) tb.1
  rw [show ((0 : Nat) : Int) = 0 from rfl] at e
  rw [e]
  refine Ev.g (dG hd) (Ev.l (Ev.r ?_))
  rw [tn]
  refine ⟨(Ex.rf.CI (fun j a b => Hp.t (by omega) (by omega))).I Hp.l, fun _ => (tb.CI (fun i _ => tb.1 _)).I (fun e => by omega), ?_⟩
  refine VG.tx ?_ (fun c hc => ht.2 c (List.mem_of_mem_drop (List.mem_of_mem_take hc))) ?_ ?_ (fun i hi => ?_)
  · rw [List.length_take, List.length_drop]; omega
  · rw [mI_wI, if_neg (by omega), mI_wCI, if_neg (by omega)]; exact g.2.1
  · rw [mI_wI, if_pos ⟨rfl, rfl⟩, w32_i (by omega) (by omega), List.length_take, List.length_drop]; omega
  · rw [List.length_take, List.length_drop] at hi
    rw [mI_wI, if_neg (by omega), mI_wCI, if_pos ⟨rfl, by omega, by omega⟩, gl_take (by omega), gl_drop, show 24 * d + fr + 0 + (24 * d + i - (24 * d + 0)) = 24 * d + (fr + i) by omega]
    exact g2.2 (fr + i) (by show fr + i < t.length; omega)
theorem t_workEnd {q : Nat} {p : Pt} {ls : List Fm} {W : Int → Int → Int → gMem → Option gMem} (g : Nd σ h n q p ls) (hW : HW h s cx n W) (hN : 70 ≤ N) (h1 : pK p = 43 ∨ pK p = 44) (tc : TCx σ h s cx) (tb : TB σ h) (hd : d + ls.flatten.length + 4 ≤ 200) : Ev (tw_workEnd N W h q s d σ) (fun r => EP h d σ r (evEnd (pK p) (xv (ls.map (fun y => (lab y, ev cx y))) 0) (xv (ls.map (fun y => (lab y, ev cx y))) 1))) := by
  have ca := g.2.2.1.call (by omega)
  have hl : ls.length = 2 := by
    have e1 : leastA (pK p) = 2 := by unfold leastA; rw [if_neg (by omega), if_neg (by omega)]
    have e2 : mostA (pK p) = 2 := by unfold mostA; rw [if_neg (by omega), e1]
    have := g.2.2.2.1
    omega
  have n6 : ∀ i (hi : i < ls.length), pK (lab ls[i]) ≠ 6 := fun i hi => takes_n6 (g.tk (by omega) hi) (by omega) (by omega)
  have f0 := g.fit (i := 0) (by omega)
  have f1 := g.fit (i := 1) (by omega)
  have hq := g.1.1
  unfold evEnd
  rw [xv_at (by omega), xv_at (by omega)]
  unfold tw_workEnd
  refine g.go (k := 0) hW hN rfl (by omega) (n6 0 _) tc tb (by omega) (fun s1 q1 => Ev.g (dG (by omega)) ?_)
  rw [tn, q1.2.2.2.1]
  by_cases e0 : (ev cx ls[0]).1 = 4
  · rw [if_pos e0]
    exact Ev.f (fun q => q e0) (Ev.r q1)
  · rw [if_neg e0, sc32 (by omega)]
    refine Ev.g e0 ((g.pv q1.1).go (k := 1) hW hN rfl (by omega) (n6 1 _) (tc.pv q1.1) q1.2.1 (by omega) (fun s2 q2 => Ev.g (dG1 (by omega)) ?_))
    have X2 : Ex (Pv h d) σ s2 := q1.1.tr (q2.1.mono (fun _ _ p => p.mono (Nat.le_succ _)))
    have ga := q2.in q1.2.2 (by omega)
    have gb := q2.2.2
    have cw := (tc.pv X2).2.1
    have ta := (tc.pv X2).1
    have T2 := q2.2.1
    rw [tn1, gb.2.1]
    by_cases e1 : (ev cx ls[1]).1 = 4
    · rw [if_pos e1]
      exact Ev.f (fun q => q e1) (Ev.c (t_bring (by omega) (by omega) (by omega) T2 gb) (fun r _ q => Ev.r (EP.hs X2 T2 q)))
    · rw [if_neg e1]
      refine Ev.g e1 (Ev.c (t_wantsText (by omega) (by omega) T2 ta cw ga e0) (fun s3 _ q3 => ?_))
      have X3 : Ex (Pv h d) σ s3 := X2.tr (q3.1.mono (fun _ _ p => (p.g (Nat.le_refl _)).tv))
      have T3 := q3.2.1 T2
      refine Ev.c (t_wantsNumber (by omega) (VH.ne q3.1 gb (by omega))) (fun x4 _ q4 => ?_)
      rw [q4.1]
      have X4 : Ex (Pv h d) σ x4.2 := X3.tr (q4.2.1.mono (fun _ _ p => (p.g (Nat.le_succ _)).tv))
      have T4 := q4.2.2.1 T3
      have ga4 := VH.ne q4.2.1 q3.2.2 (by omega)
      by_cases w2 : (wantN (ev cx ls[1])).1 = 1
      · rw [if_pos w2, if_neg (show ¬ ¬ (wantN (ev cx ls[1])).1 = 1 from fun q => q w2)]
        refine Ev.f (by decide) (Ev.g (dG1 (by omega)) ?_)
        rw [q4.2.2.2.2.2.1 (by omega) (by omega)]
        have et := ga4.1.k2 (wantT_2 ga.1)
        have ht := ga4.1.txt
        have gt := ga4.2.2.2 (wantT_2 ga.1)
        rw [et] at ga4
        generalize (wantT (ev cx ls[0])).2.2 = t at *
        obtain ⟨-, b1, b2⟩ := q4.2.2.2.1.k1 w2
        generalize (wantN (ev cx ls[1])).2.1 = x at *
        by_cases c0 : x < 0
        · rw [if_pos c0]
          exact Ev.f (fun q => by have := gcmp_nn.mp q; omega) (Ev.c (t_error (by omega) (by decide) (by decide)) (fun r _ q => Ev.r (EP.hs X4 T4 q)))
        · rw [if_neg c0]
          refine Ev.g (gcmp_nn.mpr (by omega)) (Ev.g (dG1 (by omega)) (Ev.g (dG (by omega)) ?_))
          rw [gt.1]
          have L4 := g.1.pv X4
          have J : ∀ m : Nat, m = min x.toNat t.length → Ev (tw_workEnd_j130 N W h q d m x4.2) (fun r => EP h d σ r (vTx (vCut x (decide (pK p = 44)) t))) := by
            intro m hm
            unfold tw_workEnd_j130
            refine Ev.g (by omega) ?_
            rw [tn, L4.2.1]
            unfold vCut
            dsimp only
            rw [← hm]
            by_cases c44 : pK p = 44
            · rw [decide_eq_true c44]
              refine Ev.g (by omega) (Ev.g (dG (by omega)) ?_)
              rw [tn, gt.1, show w32 ((t.length : Int) - (m : Int)) = ((t.length - m : Nat) : Int) by rw [w32_i (by omega) (by omega)]; omega]
              refine Ev.m (t_workEnd_j156 (by omega) (by omega) T4 ga4 (by omega)) (fun r q => EP.hs X4 T4 ?_)
              rw [if_pos rfl]
              rw [List.take_of_length_le (by rw [List.length_drop]; omega)] at q
              exact q
            · rw [decide_eq_false c44]
              refine Ev.f (by omega) ?_
              rw [if_neg Bool.false_ne_true]
              have := t_workEnd_j156 (N := N) (W := W) (m := m) (fr := 0) (by omega) (by omega) T4 ga4 (by omega)
              rw [List.drop_zero, show ((0 : Nat) : Int) = 0 from rfl] at this
              exact Ev.m this (fun r q => EP.hs X4 T4 q)
          by_cases cl : x ≤ t.length
          · refine Ev.g (gcmp_np.mpr cl) (Ev.g (dG1 (by omega)) ?_)
            rw [w32_i (by omega) (by omega)]
            have := J x.toNat (by omega)
            rwa [show ((x.toNat : Nat) : Int) = x by omega] at this
          · refine Ev.f (fun q => cl (gcmp_np.mp q)) (Ev.g (dG (by omega)) ?_)
            exact J t.length (by omega)
      · rw [if_neg w2, if_pos (show ¬ (wantN (ev cx ls[1])).1 = 1 from w2)]
        have ew : wantN (ev cx ls[1]) = vErr 3 := by
          unfold wantN at w2 ⊢
          by_cases z : (ev cx ls[1]).1 = 0
          · rw [if_pos z] at w2; exact absurd rfl w2
          · rw [if_neg z] at w2 ⊢
            by_cases z1 : (ev cx ls[1]).1 = 1
            · rw [if_pos z1] at w2; exact absurd z1 w2
            · rw [if_neg z1]
        rw [ew]
        exact Ev.g rfl (Ev.c (t_error (by omega) (by decide) (by decide)) (fun r _ q => Ev.r (EP.hs X4 T4 q)))
end TwEv7
