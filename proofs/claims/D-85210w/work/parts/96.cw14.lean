/-! ===== PHASE 2: the component's formulas: all parts ===== -/
section CoEv11
variable {N w u x n t nv : Nat} {σ σ' s : gMem} {v a b : Vl} {cx : Cx}
theorem nmk_nu : ∀ j, j < 18 → (nmk j = 33 ↔ j = 5) ∧ (nmk j = 34 ↔ j = 6) ∧ (nmk j = 35 ↔ j = 7) ∧ (nmk j = 36 ↔ j = 8) := by decide
theorem c_numbers {q j : Nat} {p : Pt} {ls : List Fm} {W : Nat → Nat → Nat → gMem → Option gMem} (A : AC σ x nv cx n q p ls) (hW : HC x nv cx n W) (hN : 400 ≤ N) (cf : CallF σ q j (pA p)) (hk : pK p = nmk j) (hj : 5 ≤ j ∧ j ≤ 8) (ht : Tg x u t) (h3 : mI σ (x + 13) 3 = u) (hu : u + ls.flatten.length + 4 ≤ 700) : Ev (x20_numbers N W q (x + 13) t σ) (fun r => EC x t u σ r (evMany cx (pK p) (ls.map (fun y => (lab y, ev cx y))))) := by
  have nt := nmk_nu j cf.2.1
  have kr : 33 ≤ pK p ∧ pK p ≤ 36 := by omega
  have h8 := A.2.2.2.2.1.le
  have hA := A.2.2.2.2.2.1
  have hlen : ls.length ≤ ls.flatten.length := by
    rcases Nat.eq_zero_or_pos ls.length with e | e
    · omega
    · have := A.2.2.fit (i := ls.length - 1) (by omega)
      have := A.2.2.nz (i := ls.length - 1) (by omega)
      omega
  have J : ∀ t0 : Int, (t0 = if pK p = 36 then 1 else 0) → Ev (x20_numbers_j20 N W q (x + 13) t u t0 σ) (fun r => EC x t u σ r (evMany cx (pK p) (ls.map (fun y => (lab y, ev cx y))))) := by
    intro t0 ht0
    unfold x20_numbers_j20 x20_workAll
    refine Ev.g cf.1 ?_
    have wa := c_workAll_l (N := N) (x := x) (u := u) (t := t) (nv := nv) (n := n) (cx := cx) (q := q) (j := j) (p := p) (ls := ls) (W := W) (K := fun y15 s16 => if y15 = 0 ∨ y15 = 1 then some (y15, s16) else none) (ps := t0) (σ0 := σ)
      (Φ := fun r => SA σ r.2 x t u nv cx n q j p ls 0 ∧ ((r.1 = 1 ∧ (t0 = 0 → firstErr (ls.map (fun y => (lab y, ev cx y))) = none)) ∨ (r.1 = 0 ∧ t0 = 0 ∧ ∃ e, firstErr (ls.map (fun y => (lab y, ev cx y))) = some e ∧ VW r.2 t e)))
      hW (by omega) (by omega) ht hu (fun s g Y A' cf' u' gv hg => by
        refine Ev.g (by rcases hg with a | a <;> omega) (Ev.r ⟨⟨Y, A', cf', u', fun k hk _ => gv k hk⟩, ?_⟩)
        exact hg) ls.length 0 N σ 1 (by omega) (by omega) Ey.rf A cf (by rw [h3]; rfl) (fun k _ hl => by omega) (Or.inl ⟨rfl, fun _ => by rw [List.drop_zero]⟩)
    refine Ev.c wa (fun r _ q1 => ?_)
    obtain ⟨sa, hg⟩ := q1
    have F : ∀ (s : gMem) (g : Int) (i : Nat), SA σ s x t u nv cx n q j p ls i → ((∃ acc, evMany cx (pK p) (ls.map (fun y => (lab y, ev cx y))) = mCome (pK p) acc ∧ g = 1 ∧ CoC s x acc ∧ AccOk 2560 acc) ∨ (∃ e, evMany cx (pK p) (ls.map (fun y => (lab y, ev cx y))) = e ∧ g = 0 ∧ VW s t e)) → Ev (x20_numbers_j250 N W q (x + 13) t u t0 g s) (fun r => EC x t u σ r (evMany cx (pK p) (ls.map (fun y => (lab y, ev cx y))))) := by
      intro s g i sa hh
      obtain ⟨b1, b2, b3, b4, b5⟩ := sa
      have ws := Tg.ws b2.1 ht (by omega)
      have kn := b2.2.1.2.2.2.1
      unfold x20_numbers_j250
      have R : ∀ (s2 : gMem) (v : Vl), Ex (Wp t) s s2 → VW s2 t v → EC x t u σ (wI s2 (x + 13) 3 u) v := by
        intro s2 v X g
        have X2 : Ex (fun a _ => a = x + 13) s2 (wI s2 (x + 13) 3 (u : Int)) := Ex.I (P := fun a _ => a = x + 13) Ex.rf rfl
        refine ⟨(b1.tr (X.mono (fun _ _ p => p.pe)).y).tr (X2.mono (fun a k p => Or.inl p)).y, by rw [mI_wI, if_pos ⟨rfl, rfl⟩, w32_i (by omega) (by omega)], ?_⟩
        exact g.ex X2 (fun k p => by unfold Tg at ht; omega) (fun k p => by unfold Tg at ht; omega)
      rcases hh with ⟨acc, e1, e3, co, ok⟩ | ⟨e, e1, e2, e3⟩
      · have sb := ok.sum
        have lb := ok.1
        rw [e1]
        refine Ev.f (by omega) (Ev.g b3.1 ?_)
        unfold mCome
        rw [if_neg (show ¬ pK p = 31 by omega), if_neg (show ¬ pK p = 32 by omega)]
        by_cases c5 : j = 5
        · rw [if_neg (show ¬ pK p = 36 by omega), if_pos (show pK p = 33 by omega)]
          refine Ev.f (fun e => e ((b3.is kn (by decide)).mpr c5)) (Ev.g b2.1.1 (Ev.g ws.1 ?_))
          rw [co.1]
          exact Ev.c (c_be ws (by omega)) (fun s2 _ q2 => Ev.l (Ev.r (R s2 _ q2.1 q2.2)))
        · refine Ev.g (fun e => c5 ((b3.is kn (by decide)).mp e)) ?_
          by_cases c8 : j = 8
          · rw [if_pos (show pK p = 36 by omega)]
            refine Ev.f (by rw [ht0, if_pos (show pK p = 36 by omega)]; decide) (Ev.g b2.1.1 (Ev.g ws.1 ?_))
            rw [co.2.1]
            exact Ev.c (c_be ws (by omega)) (fun s2 _ q2 => Ev.l (Ev.r (R s2 _ q2.1 q2.2)))
          · rw [if_neg (show ¬ pK p = 36 by omega), if_neg (show ¬ pK p = 33 by omega)]
            refine Ev.g (by rw [ht0, if_neg (show ¬ pK p = 36 by omega)]) (Ev.g b2.1.1 ?_)
            rw [co.2.1]
            by_cases c0 : acc.length = 0
            · rw [if_pos c0]
              exact Ev.f (by omega) (Ev.g ws.1 (Ev.c (c_fail ws (by decide) (by decide)) (fun s2 _ q2 => Ev.l (Ev.r (R s2 _ q2.1 q2.2)))))
            · rw [if_neg c0]
              have he : acc ≠ [] := fun q => c0 (by rw [q]; rfl)
              have bm := mL_rng s (x + 13) 16
              have bM := mL_rng s (x + 13) 17
              rw [(co.2.2 he).1] at bm
              rw [(co.2.2 he).2] at bM
              refine Ev.g (by omega) ?_
              by_cases c6 : j = 6
              · rw [if_pos (show pK p = 34 by omega)]
                refine Ev.f (fun e => e ((b3.is kn (by decide)).mpr c6)) (Ev.g ws.1 ?_)
                rw [(co.2.2 he).1]
                exact Ev.c (c_be ws bm) (fun s2 _ q2 => Ev.l (Ev.r (R s2 _ q2.1 q2.2)))
              · rw [if_neg (show ¬ pK p = 34 by omega)]
                refine Ev.g (fun e => c6 ((b3.is kn (by decide)).mp e)) (Ev.g ws.1 ?_)
                rw [(co.2.2 he).2]
                exact Ev.c (c_be ws bM) (fun s2 _ q2 => Ev.l (Ev.r (R s2 _ q2.1 q2.2)))
      · rw [e1]
        exact Ev.g e2 (Ev.g b2.1.1 (Ev.l (Ev.r (R s _ Ex.rf e3))))
    have wl1 := sa.2.1.1
    refine Ev.g wl1.1 ?_
    have XC : Ex (Pt15 x) r.2 (wI (wL r.2 (x + 13) 15 (((0 : Fin 2) : Nat) : Int)) (x + 13) 18 0) := (Ex.rf.L ⟨rfl, by decide⟩).I ⟨rfl, by decide⟩
    have ec : x3_clear (x + 13) r.2 = some (wI (wL r.2 (x + 13) 15 (((0 : Fin 2) : Nat) : Int)) (x + 13) 18 0) := by
      unfold x3_clear; rw [if_pos wl1.1]; rfl
    have co : CoC (wI (wL r.2 (x + 13) 15 (((0 : Fin 2) : Nat) : Int)) (x + 13) 18 0) x [] := ⟨by rw [mL_wI, mL_wL, if_pos ⟨rfl, rfl⟩]; rfl, by rw [mI_wI, if_pos ⟨rfl, rfl⟩]; rfl, fun q => absurd rfl q⟩
    have sa2 : SA σ (wI (wL r.2 (x + 13) 15 (((0 : Fin 2) : Nat) : Int)) (x + 13) 18 0) x t u nv cx n q j p ls 0 := by
      obtain ⟨c1, c2, c3, c4, c5⟩ := sa
      have Y3 : Ey x (Pe x t u) r.2 (wI (wL r.2 (x + 13) 15 (((0 : Fin 2) : Nat) : Int)) (x + 13) 18 0) := (XC.mono (fun a k p => Or.inl p.1)).y
      exact ⟨c1.tr Y3, c2.pe ht (by omega) Y3, c3.ey c2.1 Y3, by rw [XC.rI (by unfold Pt15; omega)]; exact c4, fun k hk hl => (c5 k hk hl).ex XC (fun c p => by unfold Pt15 pw at p; omega) (fun c p => by unfold Pt15 pw at p; omega)⟩
    have gt : ∀ e, VW r.2 t e → VW (wI (wL r.2 (x + 13) 15 (((0 : Fin 2) : Nat) : Int)) (x + 13) 18 0) t e := fun e g => g.ex XC (fun c p => by unfold Pt15 at p; unfold Tg at ht; omega) (fun c p => by unfold Pt15 at p; unfold Tg at ht; omega)
    refine Ev.e ec ?_
    generalize wI (wL r.2 (x + 13) 15 (((0 : Fin 2) : Nat) : Int)) (x + 13) 18 0 = s9 at *
    rcases hg with ⟨a1, a2⟩ | ⟨a1, a0, e, a2, a3⟩
    · rw [a1]
      have fe : (if pK p = 36 then none else firstErr (ls.map (fun y => (lab y, ev cx y)))) = none := by
        by_cases c : pK p = 36
        · rw [if_pos c]
        · rw [if_neg c]; exact a2 (by rw [ht0, if_neg c])
      refine c_numbers_l (σ0 := σ) (R := mArgs cx (pK p) (ls.map (fun y => (lab y, ev cx y))) []) (n := n) (j := j) (p := p) (nv := nv) hN kr ht0 (by omega) ht (by omega) (fun c => firstErr_none ls (by rw [if_neg c] at fe; exact fe)) (fun s g i sa hh => F s g i sa ?_) ls.length 0 N s9 [] (by omega) (by omega) sa2 co ⟨by simp, by simp⟩ (by rw [List.drop_zero])
      rcases hh with ⟨acc, e1, e2, e3, e4⟩ | ⟨e, e1, e2, e3⟩
      · refine Or.inl ⟨acc, ?_, e2, e3, e4⟩
        unfold evMany
        rw [fe]
        dsimp only
        rw [e1]
      · refine Or.inr ⟨e, ?_, e2, e3⟩
        unfold evMany
        rw [fe]
        dsimp only
        rw [e1]
    · obtain ⟨N', rfl⟩ : ∃ j, N = j + 1 := ⟨N - 1, by omega⟩
      rw [a1]
      have c36 : ¬ pK p = 36 := fun c => by rw [ht0, if_pos c] at a0; cases a0
      unfold x20_numbers_l39
      refine Ev.g rfl (F s9 0 0 sa2 (Or.inr ⟨e, ?_, rfl, gt e a3⟩))
      unfold evMany
      rw [if_neg c36, a2]
  unfold x20_numbers
  refine Ev.g A.1.1 (Ev.g cf.1 ?_)
  rw [h3]
  by_cases c8 : j = 8
  · exact Ev.f (fun e => e ((cf.is A.2.1.2.2.2.1 (by decide)).mpr c8)) (J 1 (by rw [if_pos (by omega)]))
  · exact Ev.g (fun e => c8 ((cf.is A.2.1.2.2.2.1 (by decide)).mp e)) (J 0 (by rw [if_neg (by omega)]))
/-- calls of one and ends -/
theorem c_work_j184 {q j : Nat} {p : Pt} {ls : List Fm} {W : Nat → Nat → Nat → gMem → Option gMem} (A : AC σ x nv cx n q p ls) (hW : HC x nv cx n W) (hN : 400 ≤ N) (cf : CallF σ q j (pA p)) (hk : pK p = nmk j) (hj : j = 3 ∨ j = 4 ∨ j = 9 ∨ j = 10 ∨ j = 11 ∨ j = 15) (ht : Tg x u t) (h3 : mI σ (x + 13) 3 = u) (hu : u + ls.flatten.length + 4 ≤ 700) : Ev (x20_work_j184 N W q (x + 13) t σ) (fun r => EC x t u σ r (evCall cx (pK p) (ls.map (fun y => (lab y, ev cx y))))) := by
  have hA := A.2.2.2.2.2.1
  have kr : (37 ≤ pK p ∧ pK p ≤ 40) ∨ pK p = 43 ∨ pK p = 44 := by rw [hk]; rcases hj with e | e | e | e | e | e <;> rw [e] <;> decide
  have cn := A.cnt (by omega)
  have hl : 1 ≤ ls.length := by
    rcases kr with k | k
    · have := mostA_1 (k := pK p) k.1 (by omega); omega
    · have := mostA_2 (k := pK p) (by omega); omega
  unfold x20_work_j184
  refine Ev.g cf.1 (Ev.g cf.2.2.2.1 (Ev.g (by rw [cf.2.2.2.2]; omega) (Ev.c (A.go (k := 0) hW (by omega) (cf.ch 0) ht h3 (by omega)) (fun s1 _ q1 => ?_))))
  have A1 := A.pe ht (by omega) q1.1
  have cf1 := cf.ey A.1 q1.1
  have kn := A1.2.1.2.2.2.1
  have ws := Tg.ws A1.1 ht (by omega)
  unfold evCall
  rw [if_neg (show ¬ pK p = 30 by omega), if_neg (show ¬ (31 ≤ pK p ∧ pK p ≤ 36) by omega), if_neg (show ¬ (pK p = 41 ∨ pK p = 42) by omega)]
  by_cases c15 : j = 15
  · have k40 : pK p = 40 := by rw [hk, c15]; rfl
    rw [if_pos (show 37 ≤ pK p ∧ pK p ≤ 40 by omega), xv_at (by omega)]
    have ee : evOne (pK p) (ev cx ls[0]) = vIs (decide ((ev cx ls[0]).1 = 4)) := by unfold evOne; rw [if_pos k40]
    rw [ee]
    refine Ev.f (fun e => e ((cf1.is kn (by decide)).mpr c15)) (Ev.g ws.1 ?_)
    rw [c_failed ws q1.2.2, Option.bind_some]
    refine Ev.c (c_is ws) (fun r _ q2 => Ev.r (EC.hs q1.1 q1.2.1 ht ?_))
    have e : decide ((if (ev cx ls[0]).1 = 4 then (1 : Int) else 0) ≠ 0) = decide ((ev cx ls[0]).1 = 4) := by
      by_cases c : (ev cx ls[0]).1 = 4
      · rw [if_pos c, decide_eq_true c]; rfl
      · rw [if_neg c, decide_eq_false c]; rfl
    rw [e] at q2; exact q2
  · refine Ev.g (fun e => c15 ((cf1.is kn (by decide)).mp e)) ?_
    by_cases c10 : j = 10 ∨ j = 11
    · have k4 : pK p = 43 ∨ pK p = 44 := by rw [hk]; rcases c10 with e | e <;> rw [e] <;> decide
      rw [if_neg (show ¬ (37 ≤ pK p ∧ pK p ≤ 40) by omega), if_pos k4, xv_at (i := 0) (by omega)]
      have E := c_cutE (N := N) A1 hW (by omega) cf1 hk c10 ht q1.2.1 (by omega) q1.2.2 q1.1
      by_cases c : j = 10
      · exact Ev.g ((cf1.is kn (by decide)).mpr c) (Ev.c E (fun r _ q => Ev.r q))
      · exact Ev.f (fun e => c ((cf1.is kn (by decide)).mp e)) (Ev.f (fun e => e ((cf1.is kn (by decide)).mpr (by omega))) (Ev.c E (fun r _ q => Ev.r q)))
    · have k4 : 37 ≤ pK p ∧ pK p ≤ 40 := by rw [hk]; rcases (by omega : j = 3 ∨ j = 4 ∨ j = 9) with e | e | e <;> rw [e] <;> decide
      rw [if_pos k4, xv_at (by omega)]
      refine Ev.f (fun e => c10 (Or.inl ((cf1.is kn (by decide)).mp e))) (Ev.g (fun e => c10 (Or.inr ((cf1.is kn (by decide)).mp e))) (Ev.g ws.1 ?_))
      rw [c_failed ws q1.2.2, Option.bind_some]
      by_cases e4 : (ev cx ls[0]).1 = 4
      · rw [if_pos e4]
        refine Ev.g (by decide) (Ev.r ?_)
        have ee : evOne (pK p) (ev cx ls[0]) = ev cx ls[0] := by
          unfold evOne
          rw [if_neg (show ¬ pK p = 40 by rw [hk]; rcases (by omega : j = 3 ∨ j = 4 ∨ j = 9) with e | e | e <;> rw [e] <;> decide), if_pos e4]
        rw [ee]; exact q1
      · rw [if_neg e4]
        refine Ev.f (fun q => q rfl) ?_
        have E := c_one (N := N) (by omega) kn A1.2.1.2.2.1 cf1 ws q1.2.2 e4 (by omega)
        rw [hk]
        exact Ev.c E (fun r _ q => Ev.r (EC.hs q1.1 q1.2.1 ht q))
theorem c_workIf {q j : Nat} {p : Pt} {ls : List Fm} {W : Nat → Nat → Nat → gMem → Option gMem} (A : AC σ x nv cx n q p ls) (hW : HC x nv cx n W) (hN : 400 ≤ N) (cf : CallF σ q j (pA p)) (kn0 : mT σ (mR σ q 0) = 91) (i0 : mI σ (mR σ q 0) 0 = 0) (hk : pK p = 30) (ht : Tg x u t) (h3 : mI σ (x + 13) 3 = u) (hu : u + ls.flatten.length + 4 ≤ 700) : Ev (x20_work N W q (x + 13) t σ) (fun r => EC x t u σ r (evCall cx (pK p) (ls.map (fun y => (lab y, ev cx y))))) := by
  have hA := A.2.2.2.2.2.1
  have cn := A.cnt (by omega)
  have e1 : leastA (pK p) = 3 := by rw [hk]; rfl
  have e2 : mostA (pK p) = 3 := by rw [hk]; rfl
  have hl : ls.length = 3 := by omega
  unfold evCall evIf
  rw [if_pos hk, xv_at (i := 0) (by omega), xv_at (i := 1) (by omega), xv_at (i := 2) (by omega)]
  unfold x20_work
  refine Ev.g cf.1 (Ev.g kn0 (Ev.g i0 (Ev.g cf.2.2.2.1 (Ev.g (by rw [cf.2.2.2.2]; omega) (Ev.c (A.go (k := 0) hW (by omega) (cf.ch 0) ht h3 (by omega)) (fun s1 _ q1 => ?_))))))
  have A1 := A.pe ht (by omega) q1.1
  have cf1 := cf.ey A.1 q1.1
  have ws := Tg.ws A1.1 ht (by omega)
  refine Ev.g ws.1 ?_
  rw [c_failed ws q1.2.2, Option.bind_some]
  by_cases e0 : (ev cx ls[0]).1 = 4
  · rw [if_pos e0]
    refine Ev.g (by decide) (Ev.r ?_)
    rw [if_pos e0]; exact q1
  · rw [if_neg e0]
    refine Ev.f (fun q => q rfl) (Ev.c (c_wantTruth ws q1.2.2) (fun x3 _ q3 => ?_))
    rw [q3.1, if_neg e0]
    have Y3 : Ey x (Pe x t u) s1 x3.2 := (q3.2.1.mono (fun _ _ p => p.pe)).y
    have A3 := A1.pe ht (by omega) Y3
    have cf3 := cf1.ey A1.1 Y3
    have m3 : mI x3.2 (x + 13) 3 = u := by rw [q3.2.1.rI (by unfold Wp; unfold Tg at ht; omega)]; exact q1.2.1
    by_cases w1 : (wantB (ev cx ls[0])).1 = 3
    · rw [if_pos w1, if_neg (show ¬ ¬ (wantB (ev cx ls[0])).1 = 3 from fun q => q w1)]
      refine Ev.f (by decide) ?_
      rw [q3.2.2.2.2.2.1]
      by_cases c : (wantB (ev cx ls[0])).2.1 = 1
      · rw [if_pos c]
        refine Ev.f (fun q => q (gcmp_eq.mpr c)) (Ev.g cf3.2.2.2.1 (Ev.g (by rw [cf3.2.2.2.2]; omega) (Ev.c (A3.go (k := 1) hW (by omega) (cf3.ch 1) ht m3 (by omega)) (fun r _ q => Ev.r ⟨(q1.1.tr Y3).tr q.1, q.2⟩))))
      · rw [if_neg c]
        refine Ev.g (fun q => c (gcmp_eq.mp q)) (Ev.g cf3.2.2.2.1 (Ev.g (by rw [cf3.2.2.2.2]; omega) (Ev.c (A3.go (k := 2) hW (by omega) (cf3.ch 2) ht m3 (by omega)) (fun r _ q => Ev.r ⟨(q1.1.tr Y3).tr q.1, q.2⟩))))
    · rw [if_neg w1, if_pos (show ¬ (wantB (ev cx ls[0])).1 = 3 from w1)]
      exact Ev.g rfl (Ev.r (EC.hs q1.1 q1.2.1 ht q3.2))
theorem c_workCall {q : Nat} {p : Pt} {ls : List Fm} {W : Nat → Nat → Nat → gMem → Option gMem} (A : AC σ x nv cx n q p ls) (hW : HC x nv cx n W) (hN : 400 ≤ N) (hT : mT σ q = 18) (ht : Tg x u t) (h3 : mI σ (x + 13) 3 = u) (hu : u + ls.flatten.length + 4 ≤ 700) : Ev (x20_work N W q (x + 13) t σ) (fun r => EC x t u σ r (evCall cx (pK p) (ls.map (fun y => (lab y, ev cx y))))) := by
  obtain ⟨j, cf, hk⟩ := A.2.2.1.cf hT
  have kn := A.2.1.2.2.2.1
  have k91 := kn j cf.2.1
  rw [← cf.2.2.1] at k91
  have J := fun hj => c_work_j184 (N := N) A hW hN cf hk hj ht h3 hu
  have evm : 31 ≤ pK p → pK p ≤ 36 → evCall cx (pK p) (ls.map (fun y => (lab y, ev cx y))) = evMany cx (pK p) (ls.map (fun y => (lab y, ev cx y))) := fun a b => by unfold evCall; rw [if_neg (by omega), if_pos ⟨a, b⟩]
  have evl : 45 ≤ pK p → evCall cx (pK p) (ls.map (fun y => (lab y, ev cx y))) = if pK p = 46 then evLook cx (pK p) (xp (ls.map (fun y => (lab y, ev cx y))) 1) (xv (ls.map (fun y => (lab y, ev cx y))) 0) else evLook cx (pK p) (xp (ls.map (fun y => (lab y, ev cx y))) 0) (xv (ls.map (fun y => (lab y, ev cx y))) 1) := fun a => by unfold evCall; rw [if_neg (by omega), if_neg (by omega), if_neg (by omega), if_neg (by omega), if_neg (by omega)]
  have evp : pK p = 41 ∨ pK p = 42 → evCall cx (pK p) (ls.map (fun y => (lab y, ev cx y))) = evPlace cx (pK p) (xp (ls.map (fun y => (lab y, ev cx y))) 0) := fun a => by unfold evCall; rw [if_neg (by omega), if_neg (by omega), if_pos a]
  have hj18 := cf.2.1
  rcases (by omega : j = 0 ∨ j = 1 ∨ j = 2 ∨ j = 3 ∨ j = 4 ∨ j = 5 ∨ j = 6 ∨ j = 7 ∨ j = 8 ∨ j = 9 ∨ j = 10 ∨ j = 11 ∨ j = 12 ∨ j = 13 ∨ j = 14 ∨ j = 15 ∨ j = 16 ∨ j = 17) with hj | hj | hj | hj | hj | hj | hj | hj | hj | hj | hj | hj | hj | hj | hj | hj | hj | hj
  · exact c_workIf A hW hN cf k91.1 (by rw [k91.2, hj]; rfl) (by rw [hk, hj]; rfl) ht h3 hu
  · have kk : pK p = 31 := by rw [hk, hj]; rfl
    rw [evm (by omega) (by omega)]
    unfold x20_work
    refine Ev.g cf.1 (Ev.g k91.1 ?_)
    rw [k91.2, hj]
    exact Ev.f (by decide) (Ev.g rfl (Ev.c (c_truths A hW hN cf hk (by omega) ht h3 hu) (fun r _ q => Ev.r q)))
  · have kk : pK p = 32 := by rw [hk, hj]; rfl
    rw [evm (by omega) (by omega)]
    unfold x20_work
    refine Ev.g cf.1 (Ev.g k91.1 ?_)
    rw [k91.2, hj]
    exact Ev.f (by decide) (Ev.f (by decide) (Ev.g rfl (Ev.c (c_truths A hW hN cf hk (by omega) ht h3 hu) (fun r _ q => Ev.r q))))
  · have kk : pK p = 37 := by rw [hk, hj]; rfl
    unfold x20_work
    refine Ev.g cf.1 (Ev.g k91.1 ?_)
    rw [k91.2, hj]
    exact Ev.f (by decide) (Ev.f (by decide) (Ev.f (by decide) (Ev.g rfl (J (by omega)))))
  · have kk : pK p = 38 := by rw [hk, hj]; rfl
    unfold x20_work
    refine Ev.g cf.1 (Ev.g k91.1 ?_)
    rw [k91.2, hj]
    exact Ev.f (by decide) (Ev.f (by decide) (Ev.f (by decide) (Ev.f (by decide) (Ev.g rfl (J (by omega))))))
  · have kk : pK p = 33 := by rw [hk, hj]; rfl
    rw [evm (by omega) (by omega)]
    unfold x20_work
    refine Ev.g cf.1 (Ev.g k91.1 ?_)
    rw [k91.2, hj]
    exact Ev.f (by decide) (Ev.f (by decide) (Ev.f (by decide) (Ev.f (by decide) (Ev.f (by decide) (Ev.g rfl (Ev.c (c_numbers A hW hN cf hk (by omega) ht h3 hu) (fun r _ q => Ev.r q)))))))
  · have kk : pK p = 34 := by rw [hk, hj]; rfl
    rw [evm (by omega) (by omega)]
    unfold x20_work
    refine Ev.g cf.1 (Ev.g k91.1 ?_)
    rw [k91.2, hj]
    exact Ev.f (by decide) (Ev.f (by decide) (Ev.f (by decide) (Ev.f (by decide) (Ev.f (by decide) (Ev.f (by decide) (Ev.g rfl (Ev.c (c_numbers A hW hN cf hk (by omega) ht h3 hu) (fun r _ q => Ev.r q))))))))
  · have kk : pK p = 35 := by rw [hk, hj]; rfl
    rw [evm (by omega) (by omega)]
    unfold x20_work
    refine Ev.g cf.1 (Ev.g k91.1 ?_)
    rw [k91.2, hj]
    exact Ev.f (by decide) (Ev.f (by decide) (Ev.f (by decide) (Ev.f (by decide) (Ev.f (by decide) (Ev.f (by decide) (Ev.f (by decide) (Ev.g rfl (Ev.c (c_numbers A hW hN cf hk (by omega) ht h3 hu) (fun r _ q => Ev.r q)))))))))
  · have kk : pK p = 36 := by rw [hk, hj]; rfl
    rw [evm (by omega) (by omega)]
    unfold x20_work
    refine Ev.g cf.1 (Ev.g k91.1 ?_)
    rw [k91.2, hj]
    exact Ev.f (by decide) (Ev.f (by decide) (Ev.f (by decide) (Ev.f (by decide) (Ev.f (by decide) (Ev.f (by decide) (Ev.f (by decide) (Ev.f (by decide) (Ev.g rfl (Ev.c (c_numbers A hW hN cf hk (by omega) ht h3 hu) (fun r _ q => Ev.r q))))))))))
  · have kk : pK p = 39 := by rw [hk, hj]; rfl
    unfold x20_work
    refine Ev.g cf.1 (Ev.g k91.1 ?_)
    rw [k91.2, hj]
    exact Ev.f (by decide) (Ev.f (by decide) (Ev.f (by decide) (Ev.f (by decide) (Ev.f (by decide) (Ev.f (by decide) (Ev.f (by decide) (Ev.f (by decide) (Ev.f (by decide) (Ev.g rfl (J (by omega)))))))))))
  · have kk : pK p = 43 := by rw [hk, hj]; rfl
    unfold x20_work
    refine Ev.g cf.1 (Ev.g k91.1 ?_)
    rw [k91.2, hj]
    exact Ev.f (by decide) (Ev.f (by decide) (Ev.f (by decide) (Ev.f (by decide) (Ev.f (by decide) (Ev.f (by decide) (Ev.f (by decide) (Ev.f (by decide) (Ev.f (by decide) (Ev.f (by decide) (Ev.g rfl (J (by omega))))))))))))
  · have kk : pK p = 44 := by rw [hk, hj]; rfl
    unfold x20_work
    refine Ev.g cf.1 (Ev.g k91.1 ?_)
    rw [k91.2, hj]
    exact Ev.f (by decide) (Ev.f (by decide) (Ev.f (by decide) (Ev.f (by decide) (Ev.f (by decide) (Ev.f (by decide) (Ev.f (by decide) (Ev.f (by decide) (Ev.f (by decide) (Ev.f (by decide) (Ev.f (by decide) (Ev.g rfl (J (by omega)))))))))))))
  · have kk : pK p = 46 := by rw [hk, hj]; rfl
    rw [evl (by omega), if_pos kk]
    unfold x20_work
    refine Ev.g cf.1 (Ev.g k91.1 ?_)
    rw [k91.2, hj]
    exact Ev.f (by decide) (Ev.f (by decide) (Ev.f (by decide) (Ev.f (by decide) (Ev.f (by decide) (Ev.f (by decide) (Ev.f (by decide) (Ev.f (by decide) (Ev.f (by decide) (Ev.f (by decide) (Ev.f (by decide) (Ev.f (by decide) (Ev.g rfl (Ev.c (c_search A hW hN cf hk (by omega) ht h3 hu 1 0 (by omega)) (fun r _ q => Ev.r q))))))))))))))
  · have kk : pK p = 45 := by rw [hk, hj]; rfl
    rw [evl (by omega), if_neg (show ¬ pK p = 46 by omega)]
    unfold x20_work
    refine Ev.g cf.1 (Ev.g k91.1 ?_)
    rw [k91.2, hj]
    exact Ev.f (by decide) (Ev.f (by decide) (Ev.f (by decide) (Ev.f (by decide) (Ev.f (by decide) (Ev.f (by decide) (Ev.f (by decide) (Ev.f (by decide) (Ev.f (by decide) (Ev.f (by decide) (Ev.f (by decide) (Ev.f (by decide) (Ev.f (by decide) (Ev.g rfl (Ev.c (c_search A hW hN cf hk (by omega) ht h3 hu 0 1 (by omega)) (fun r _ q => Ev.r q)))))))))))))))
  · have kk : pK p = 47 := by rw [hk, hj]; rfl
    rw [evl (by omega), if_neg (show ¬ pK p = 46 by omega)]
    unfold x20_work
    refine Ev.g cf.1 (Ev.g k91.1 ?_)
    rw [k91.2, hj]
    exact Ev.f (by decide) (Ev.f (by decide) (Ev.f (by decide) (Ev.f (by decide) (Ev.f (by decide) (Ev.f (by decide) (Ev.f (by decide) (Ev.f (by decide) (Ev.f (by decide) (Ev.f (by decide) (Ev.f (by decide) (Ev.f (by decide) (Ev.f (by decide) (Ev.f (by decide) (Ev.g rfl (Ev.c (c_search A hW hN cf hk (by omega) ht h3 hu 0 1 (by omega)) (fun r _ q => Ev.r q))))))))))))))))
  · have kk : pK p = 40 := by rw [hk, hj]; rfl
    unfold x20_work
    refine Ev.g cf.1 (Ev.g k91.1 ?_)
    rw [k91.2, hj]
    exact Ev.f (by decide) (Ev.f (by decide) (Ev.f (by decide) (Ev.f (by decide) (Ev.f (by decide) (Ev.f (by decide) (Ev.f (by decide) (Ev.f (by decide) (Ev.f (by decide) (Ev.f (by decide) (Ev.f (by decide) (Ev.f (by decide) (Ev.f (by decide) (Ev.f (by decide) (Ev.f (by decide) (Ev.g rfl (J (by omega)))))))))))))))))
  · have kk : pK p = 41 := by rw [hk, hj]; rfl
    rw [evp (by omega)]
    unfold x20_work
    refine Ev.g cf.1 (Ev.g k91.1 ?_)
    rw [k91.2, hj]
    exact Ev.f (by decide) (Ev.f (by decide) (Ev.f (by decide) (Ev.f (by decide) (Ev.f (by decide) (Ev.f (by decide) (Ev.f (by decide) (Ev.f (by decide) (Ev.f (by decide) (Ev.f (by decide) (Ev.f (by decide) (Ev.f (by decide) (Ev.f (by decide) (Ev.f (by decide) (Ev.f (by decide) (Ev.f (by decide) (Ev.g rfl (Ev.c (c_place A (by omega) cf hk (by omega) ht h3 (by omega)) (fun r _ q => Ev.r q))))))))))))))))))
  · have kk : pK p = 42 := by rw [hk, hj]; rfl
    rw [evp (by omega)]
    unfold x20_work
    refine Ev.g cf.1 (Ev.g k91.1 ?_)
    rw [k91.2, hj]
    exact Ev.f (by decide) (Ev.f (by decide) (Ev.f (by decide) (Ev.f (by decide) (Ev.f (by decide) (Ev.f (by decide) (Ev.f (by decide) (Ev.f (by decide) (Ev.f (by decide) (Ev.f (by decide) (Ev.f (by decide) (Ev.f (by decide) (Ev.f (by decide) (Ev.f (by decide) (Ev.f (by decide) (Ev.f (by decide) (Ev.f (by decide) (Ev.g rfl (Ev.c (c_place A (by omega) cf hk (by omega) ht h3 (by omega)) (fun r _ q => Ev.r q)))))))))))))))))))
theorem lst_len_gl {m : Nat} {f : Nat → Int} {i : Nat} (h : i < m) : f i = gl (lst m f) i := (gl_lst h).symm
/-- the component works out what a formula is told to be -/
theorem c_work (hN : 400 ≤ N) : ∀ (n m : Nat), n ≤ m → HC x nv cx n (dp_Part_work N m) := by
  intro n
  induction n with
  | zero => intro m _ q t u l σ sp; exact sp.elim
  | succ n ih =>
    intro m hm q t u l σ sp hv wl ccx ht h3 hu
    obtain ⟨m, rfl⟩ : ∃ j, m = j + 1 := ⟨m - 1, by omega⟩
    have hW := ih m (by omega)
    have hver := isp_verL sp hv
    obtain ⟨p, ls, e1, e2, L, O, ao, e8⟩ := sp
    have hfl : ls.flatten.length + 1 = l.length := by rw [e1, List.length_append]; rfl
    rw [e1, lab_app] at hver
    have A : AC σ x nv cx n q p ls := ⟨wl, ccx, L, O, ao, e2, e8, hver, fun y hy z hz => hv z (by rw [e1]; exact List.mem_append_left _ (List.mem_flatten.mpr ⟨y, hy, hz⟩))⟩
    have wf : ∀ y ∈ ls, Wf n y := fun y hy => by
      obtain ⟨i, hi, e⟩ := List.getElem_of_mem hy
      rw [← e]; exact IsP.wf _ _ _ (e8 i hi)
    have ee : ev cx l = evA cx p (ls.map (fun y => (lab y, ev cx y))) := by
      rw [e1]; exact fv_eq _ e2 wf
    rw [ee]
    have ws := Tg.ws wl ht (by omega)
    have H : ∀ {y : Option gMem} {v : Vl}, Ev y (fun r => HSw t σ r v) → Ev (y.bind (fun r => some r)) (fun r => EC x t u σ r v) := fun h => Ev.c h (fun r _ q => Ev.r (EC.hs Ey.rf h3 ht q))
    show Ev ((dp_Part_work N (m + 1)) q (x + 13) t σ) _
    unfold dp_Part_work
    have L0 := L
    rcases L with ⟨k1, k2⟩ | ⟨k1, kR, kT, k2⟩ | ⟨k1, k2, -⟩ | ⟨k1, k2⟩ | ⟨k1, kT, k2, -⟩ | ⟨k1, kT, kT', k2, -⟩ | ⟨k1, k2⟩ | ⟨k1, j, kj, kR, k2⟩ | ⟨k1, j, kj, kR, kT, k2⟩
    · -- a whole number
      have kp : pK p = 1 := by rw [k2]; rfl
      have vp : pV p = mL σ q 0 := by rw [k2]; rfl
      refine Ev.g k1 ?_
      unfold x13_work evA
      rw [if_pos kp, vp]
      exact Ev.g k1 (Ev.g ws.1 (H (c_be ws (mL_rng _ _ _))))
    · -- words
      have kp : pK p = 2 := by rw [k2]; rfl
      have vp : pX p = lst (mN σ (q + 1)) (mI σ (q + 1)) := by rw [k2]; rfl
      have tok : (pX p).length ≤ 24 ∧ ∀ c ∈ pX p, 32 ≤ c ∧ c ≤ 126 := by
        rcases O with ⟨y, hp, -⟩ | ⟨y, hp, t1, t2⟩ | ⟨y, hp⟩ | hp | ⟨r, c, f, v, hp, -⟩ | ⟨r, c, r', c', f, v, hp, -⟩ | ⟨k, j, hp, hk⟩
        · rw [hp] at kp; cases kp
        · rw [hp]; exact ⟨t1, fun c hc => by have := t2 c hc; omega⟩
        · rw [hp] at kp; cases kp
        · rw [hp] at kp; cases kp
        · rw [hp] at kp; cases kp
        · rw [hp] at kp; cases kp
        · rw [hp] at kp; have : k = 2 := kp; omega
      have hlen : (pX p).length = mN σ (q + 1) := by rw [vp, lst_len]
      refine Ev.f (by omega) (Ev.g k1 ?_)
      unfold x14_work evA
      rw [if_neg (show ¬ pK p = 1 by omega), if_pos kp, kR]
      refine Ev.g k1 (Ev.g kT (Ev.g ws.1 ?_))
      rw [w32_i (by omega) (by omega), ← hlen]
      have nw : q + 1 ≠ t := fun e => by rw [e, ws.1] at kT; cases kT
      have nw1 : q + 1 ≠ t + 1 := fun e => by rw [show q = t by omega, ws.1] at k1; cases k1
      exact H (c_words ws rfl tok.1 tok.2 nw nw1 kT (by rw [hlen]; exact Nat.le_refl _) (fun i hi => by rw [vp]; exact lst_len_gl (by rw [← hlen]; exact hi)))
    · -- a truth
      have kp : pK p = 3 := by rw [k2]; rfl
      have vp : pV p = if decide (mI σ q 0 ≠ 0) then 1 else 0 := by rw [k2]; rfl
      refine Ev.f (by omega) (Ev.f (by omega) (Ev.g k1 ?_))
      unfold x18_work evA
      rw [if_neg (show ¬ pK p = 1 by omega), if_neg (show ¬ pK p = 2 by omega), if_pos kp, vp]
      have eb : decide ((if decide (mI σ q 0 ≠ 0) = true then (1 : Int) else 0) = 1) = decide (mI σ q 0 ≠ 0) := by
        cases decide (mI σ q 0 ≠ 0) <;> rfl
      rw [eb]
      exact Ev.g k1 (Ev.g ws.1 (H (c_is ws)))
    · -- gone
      have kp : pK p = 4 := by rw [k2]; rfl
      refine Ev.f (by omega) (Ev.f (by omega) (Ev.f (by omega) (Ev.g k1 ?_)))
      unfold x15_work evA
      rw [if_neg (show ¬ pK p = 1 by omega), if_neg (show ¬ pK p = 2 by omega), if_neg (show ¬ pK p = 3 by omega), if_pos kp]
      exact Ev.g ws.1 (H (c_fail ws (by decide) (by decide)))
    · -- a spot
      have kp : pK p = 5 := by rw [k2]; rfl
      have eW : mI σ q 1 = pW p := by rw [k2]; rfl
      have e1 : mI σ (mR σ q 0) 0 = pR1 p := by rw [k2]; rfl
      have e2 : mI σ (mR σ q 0) 1 = pC1 p := by rw [k2]; rfl
      have pv := O.ver
      obtain ⟨-, sh, hva, vv⟩ := ccx.2.2.2.2 _ pv.1 hver
      have lR := sh.2.1.2.2.1
      have lC := sh.2.2.2
      have b1 := pl_ge (cx.1 (pW p)).1 (pR1 p)
      have b2 := pl_ge (cx.1 (pW p)).2 (pC1 p)
      refine Ev.f (by omega) (Ev.f (by omega) (Ev.f (by omega) (Ev.f (by omega) (Ev.g k1 ?_))))
      unfold x17_work evA
      rw [if_neg (show ¬ pK p = 1 by omega), if_neg (show ¬ pK p = 2 by omega), if_neg (show ¬ pK p = 3 by omega), if_neg (show ¬ pK p = 4 by omega), if_pos kp]
      refine Ev.g k1 (Ev.g wl.1 ?_)
      rw [eW]
      refine Ev.e (c_sheetOf wl ccx pv.1 hver) (Ev.g kT (Ev.g sh.1 ?_))
      rw [e1, e2]
      refine Ev.e (c_row (by omega) sh _) (Ev.e (c_column (by omega) sh _) ?_)
      have fl : (pl (cx.1 (pW p)).1 (pR1 p) < 0 ∨ pl (cx.1 (pW p)).2 (pC1 p) < 0) → cxSpot cx p = -1 := fun o => by unfold cxSpot spotAt; rw [if_pos o]
      by_cases o1 : pl (cx.1 (pW p)).1 (pR1 p) < 0
      · rw [fl (Or.inl o1), if_pos (show (-1 : Int) < 0 by decide)]
        exact Ev.g (by omega) (Ev.g ws.1 (H (c_fail ws (by decide) (by decide))))
      · refine Ev.f (by omega) ?_
        by_cases o2 : pl (cx.1 (pW p)).2 (pC1 p) < 0
        · rw [fl (Or.inr o2), if_pos (show (-1 : Int) < 0 by decide)]
          exact Ev.f (by omega) (Ev.g ws.1 (H (c_fail ws (by decide) (by decide))))
        · have es : cxSpot cx p = 10 * pl (cx.1 (pW p)).1 (pR1 p) + pl (cx.1 (pW p)).2 (pC1 p) := by unfold cxSpot spotAt; rw [if_neg (by omega)]
          rw [es, if_neg (show ¬ 10 * pl (cx.1 (pW p)).1 (pR1 p) + pl (cx.1 (pW p)).2 (pC1 p) < 0 by omega)]
          refine Ev.g (by omega) (Ev.e (c_valuesOf wl ccx pv.1 hver) (Ev.g vv.1 ?_))
          have ek : w32 (10 * pl (cx.1 (pW p)).1 (pR1 p) + pl (cx.1 (pW p)).2 (pC1 p)) = (((10 * pl (cx.1 (pW p)).1 (pR1 p) + pl (cx.1 (pW p)).2 (pC1 p)).toNat : Nat) : Int) := by
            rw [w32_i (by omega) (by omega)]; omega
          rw [ek]
          exact H (c_giveV ws vv (by omega) (fun i hi => by unfold Tg at ht; omega))
    · -- an area
      have kp : pK p = 6 := by rw [k2]; rfl
      refine Ev.f (by omega) (Ev.f (by omega) (Ev.f (by omega) (Ev.f (by omega) (Ev.f (by omega) (Ev.g k1 ?_)))))
      unfold x19_work evA
      rw [if_neg (show ¬ pK p = 1 by omega), if_neg (show ¬ pK p = 2 by omega), if_neg (show ¬ pK p = 3 by omega), if_neg (show ¬ pK p = 4 by omega), if_neg (show ¬ pK p = 5 by omega), if_pos kp]
      exact Ev.g ws.1 (H (c_none ws))
    · -- minus
      have kp : pK p = 7 := by rw [k2]; rfl
      have ap : pA p = 1 := by rw [k2]; rfl
      have hl : ls.length = 1 := by omega
      refine Ev.f (by omega) (Ev.f (by omega) (Ev.f (by omega) (Ev.f (by omega) (Ev.f (by omega) (Ev.f (by omega) (Ev.g k1 ?_))))))
      unfold x21_work evA
      rw [if_neg (show ¬ pK p = 1 by omega), if_neg (show ¬ pK p = 2 by omega), if_neg (show ¬ pK p = 3 by omega), if_neg (show ¬ pK p = 4 by omega), if_neg (show ¬ pK p = 5 by omega), if_neg (show ¬ pK p = 6 by omega), if_pos kp, xv_at (by omega)]
      have ec : mR σ q 0 = chd σ q 0 := by unfold chd; rw [if_pos k1]
      refine Ev.g k1 (Ev.c (A.go (k := 0) hW (by omega) ec ht h3 (by omega)) (fun s1 _ q1 => ?_))
      have A1 := A.pe ht (by omega) q1.1
      have ws1 := Tg.ws A1.1 ht (by omega)
      refine Ev.g ws1.1 ?_
      rw [c_failed ws1 q1.2.2, Option.bind_some]
      by_cases e0 : (ev cx ls[0]).1 = 4
      · rw [if_pos e0]
        refine Ev.g (by decide) (Ev.r ?_)
        rw [if_pos e0]; exact q1
      · rw [if_neg e0]
        refine Ev.f (fun q => q rfl) (Ev.c (c_wantNumber ws1 q1.2.2) (fun x3 _ q3 => ?_))
        rw [q3.1, if_neg e0]
        by_cases w1 : (wantN (ev cx ls[0])).1 = 1
        · rw [if_pos w1, if_neg (show ¬ ¬ (wantN (ev cx ls[0])).1 = 1 from fun q => q w1)]
          obtain ⟨-, b1, b2⟩ := q3.2.2.1.k1 w1
          refine Ev.f (by decide) ?_
          rw [q3.2.2.2.2.2.1, w64_i (by omega) (by omega)]
          exact Ev.c (c_be (ws1.ex q3.2.1) (by omega)) (fun r _ q => Ev.r (EC.hs q1.1 q1.2.1 ht (HSw.tr q3.2.1 q)))
        · rw [if_neg w1, if_pos (show ¬ (wantN (ev cx ls[0])).1 = 1 from w1)]
          exact Ev.g rfl (Ev.r (EC.hs q1.1 q1.2.1 ht q3.2))
    · -- a sign of two
      refine Ev.f (by omega) (Ev.f (by omega) (Ev.f (by omega) (Ev.f (by omega) (Ev.f (by omega) (Ev.f (by omega) (Ev.f (by omega) (Ev.g k1 ?_)))))))
      exact c_workTwo A hW (by omega) k1 ht h3 (by omega)
    · -- a call
      have kp : pK p = nmk j := by rw [k2]; rfl
      have nr := nmk_rng j kj
      refine Ev.f (by omega) (Ev.f (by omega) (Ev.f (by omega) (Ev.f (by omega) (Ev.f (by omega) (Ev.f (by omega) (Ev.f (by omega) (Ev.f (by omega) (Ev.g k1 ?_))))))))
      rw [evA_call (by omega)]
      exact c_workCall A hW hN k1 ht h3 (by omega)
end CoEv11
