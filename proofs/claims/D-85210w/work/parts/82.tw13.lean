/-! ===== PHASE 2: the twin's formulas: calls of many, all parts ===== -/
section TwEv9
variable {N h d s n : Nat} {σ σ' : gMem} {v w a b : Vl} {cx : Cx}
theorem firstErr_cons (x : Pt × Vl) (xs : List (Pt × Vl)) : firstErr (x :: xs) = if x.2.1 = 4 then some x.2 else firstErr xs := rfl
theorem ev_area {m : Nat} {l : Fm} (g : Wf m l) (h6 : pK (lab l) = 6) : ev cx l = vE := by
  cases m with
  | zero => exact g.elim
  | succ m =>
    obtain ⟨p, ls, rfl, h2, h3, h4, h5⟩ := g
    rw [lab_app] at h6
    unfold ev
    rw [fv_eq _ h2 h5]
    unfold evA
    rw [if_neg (by omega), if_neg (by omega), if_neg (by omega), if_neg (by omega), if_neg (by omega), if_pos h6]
theorem ev_gone {m : Nat} {l : Fm} (g : Wf m l) (hg : isGone cx (lab l) = true) : ev cx l = vErr 1 := by
  cases m with
  | zero => exact g.elim
  | succ m =>
    obtain ⟨p, ls, rfl, h2, h3, h4, h5⟩ := g
    rw [lab_app] at hg
    unfold ev
    rw [fv_eq _ h2 h5]
    unfold evA
    unfold isGone at hg
    rw [Bool.or_eq_true, Bool.and_eq_true, decide_eq_true_eq, decide_eq_true_eq, decide_eq_true_eq] at hg
    rcases hg with q | ⟨q1, q2⟩
    · rw [if_neg (by omega), if_neg (by omega), if_neg (by omega), if_pos q]
    · rw [if_neg (by omega), if_neg (by omega), if_neg (by omega), if_neg (by omega), if_pos q1, if_pos q2]
theorem many_first {q : Nat} {p : Pt} {ls : List Fm} {W : Int → Int → Int → gMem → Option gMem} {K : gMem → Option gMem} {Φ : gMem → Prop} {σ0 : gMem} (hW : HW h s cx n W) (hN : 70 ≤ N) (h1 : 31 ≤ pK p) (h2 : pK p ≤ 36) (hd : d + ls.flatten.length + 4 ≤ 200)
    (hE : ∀ r e, (if pK p = 36 then none else firstErr (ls.map (fun y => (lab y, ev cx y)))) = some e → EP h d σ0 r e → Φ r)
    (hK : ∀ s', Ex (Pv h d) σ0 s' → TB s' h → (if pK p = 36 then none else firstErr (ls.map (fun y => (lab y, ev cx y)))) = none → (∀ j (hj : j < ls.length), pK (lab ls[j]) ≠ 6 → VH s' h (d + j) (ev cx ls[j])) → (∀ j (hj : j < ls.length), pK p ≠ 36 → (ev cx ls[j]).1 ≠ 4) → Ev (K s') Φ) :
    ∀ (m i fu : Nat) (s' : gMem), i + m = ls.length → m < fu → Nd s' h n q p ls → TCx s' h s cx → TB s' h → Ex (Pv h d) σ0 s' → (∀ j (hj : j < ls.length), j < i → pK (lab ls[j]) ≠ 6 → VH s' h (d + j) (ev cx ls[j])) → (∀ j (hj : j < ls.length), j < i → pK p ≠ 36 → (ev cx ls[j]).1 ≠ 4) →
      (pK p ≠ 36 → firstErr (ls.map (fun y => (lab y, ev cx y))) = firstErr ((ls.drop i).map (fun y => (lab y, ev cx y)))) → Ev (tw_workMany_l19 N W h q s d (pK p) (ls.length : Nat) K fu i s') Φ := by
  intro m
  induction m with
  | zero =>
    intro i fu s' a1 a2 g tc tb X gv ge fe
    obtain ⟨fu, rfl⟩ : ∃ j, fu = j + 1 := ⟨fu - 1, by omega⟩
    unfold tw_workMany_l19
    refine Ev.g (by omega) (hK s' X tb ?_ (fun j hj q => gv j hj (by omega) q) (fun j hj q => ge j hj (by omega) q))
    by_cases c : pK p = 36
    · rw [if_pos c]
    · rw [if_neg c, fe c, List.drop_eq_nil_of_le (by omega)]; rfl
  | succ m ih =>
    intro i fu s' a1 a2 g tc tb X gv ge fe
    obtain ⟨fu, rfl⟩ : ∃ j, fu = j + 1 := ⟨fu - 1, by omega⟩
    have hi : i < ls.length := by omega
    have sp := g.2.2.2.2.2 i hi
    have L := sp.lab
    have fi := g.fit hi
    have ca := g.2.2.1.le
    have h4 := g.2.2.2.1
    have hq := L.1
    have dr : (ls.drop i).map (fun y => (lab y, ev cx y)) = (lab ls[i], ev cx ls[i]) :: (ls.drop (i + 1)).map (fun y => (lab y, ev cx y)) := by rw [List.drop_eq_getElem_cons hi, List.map_cons]
    have J : ∀ s2, Nd s2 h n q p ls → TCx s2 h s cx → TB s2 h → Ex (Pv h d) σ0 s2 → (∀ j (hj : j < ls.length), j < i + 1 → pK (lab ls[j]) ≠ 6 → VH s2 h (d + j) (ev cx ls[j])) → (pK p ≠ 36 → (ev cx ls[i]).1 ≠ 4) → Ev (tw_workMany_l19_j88 N W h q s d (pK p) (ls.length : Nat) i (tw_workMany_l19 N W h q s d (pK p) (ls.length : Nat) K fu) K s2) Φ := by
      intro s2 g2 tc2 tb2 X2 gv2 e2
      unfold tw_workMany_l19_j88
      rw [inc32 (by omega)]
      refine ih (i + 1) fu s2 (by omega) (by omega) g2 tc2 tb2 X2 gv2 (fun j hj hl c => ?_) (fun c => ?_)
      · by_cases q : j = i
        · subst q; exact e2 c
        · exact ge j hj (by omega) c
      · rw [fe c, dr, firstErr_cons, if_neg (e2 c)]
    unfold tw_workMany_l19
    refine Ev.f (by omega) (Ev.e (g.under hN hi) (Ev.g (by omega) ?_))
    rw [tn, L.2.1]
    by_cases c6 : pK (lab ls[i]) = 6
    · refine Ev.g (by omega) (J s' g tc tb X (fun j hj hl q => ?_) (fun _ => ?_))
      · by_cases e : j = i
        · subst e; exact absurd c6 q
        · exact gv j hj (by omega) q
      · rw [ev_area (SpT.wf _ _ _ sp) c6]; decide
    · have ed : w32 ((d : Int) + (i : Int)) = ((d + i : Nat) : Int) := by rw [w32_i (by omega) (by omega)]; omega
      have td : ((d : Int) + (i : Int)).toNat = d + i := by omega
      rw [ed, td]
      refine Ev.f (by omega) (Ev.c (hW _ (d + i) _ s' sp c6 tc tb (by omega)) (fun s1 _ q1 => Ev.g (by omega) ?_))
      rw [q1.2.2.2.1]
      have X1 : Ex (Pv h d) s' s1 := q1.1.mono (fun _ _ p => p.mono (by omega))
      have gv1 : ∀ j (hj : j < ls.length), j < i + 1 → pK (lab ls[j]) ≠ 6 → VH s1 h (d + j) (ev cx ls[j]) := by
        intro j hj hl q
        by_cases e : j = i
        · subst e; exact q1.2.2
        · exact (gv j hj (by omega) q).pv q1.1 (by omega)
      by_cases c4 : (ev cx ls[i]).1 = 4
      · refine Ev.f (fun q => q c4) ?_
        by_cases c36 : pK p = 36
        · exact Ev.g (by omega) (J s1 (g.pv X1) (tc.pv X1) q1.2.1 (X.tr X1) gv1 (fun q => absurd c36 q))
        · refine Ev.f (by omega) (Ev.c (t_bring (by omega) (by omega) (by omega) q1.2.1 q1.2.2) (fun r _ q => Ev.r (hE r (ev cx ls[i]) ?_ (EP.hs (X.tr X1) q1.2.1 q))))
          rw [if_neg c36, fe c36, dr, firstErr_cons, if_pos c4]
      · exact Ev.g c4 (J s1 (g.pv X1) (tc.pv X1) q1.2.1 (X.tr X1) gv1 (fun _ => c4))
theorem many_second {q : Nat} {p : Pt} {ls : List Fm} {W : Int → Int → Int → gMem → Option gMem} {K : gMem → Option gMem} {Φ : gMem → Prop} {σ0 : gMem} (hN : 400 ≤ N) (hs : s ≤ 40) (h1 : 31 ≤ pK p) (h2 : pK p ≤ 36) (hd : d + ls.flatten.length + 4 ≤ 200) (h8 : ls.length ≤ 8)
    (ne : ∀ j (hj : j < ls.length), pK p ≠ 36 → (ev cx ls[j]).1 ≠ 4) {R : Vl ⊕ List Int}
    (hE : ∀ r e, R = .inl e → EP h d σ0 r e → Φ r)
    (hK : ∀ s' acc, Ex (Pv h d) σ0 s' → TB s' h → CoT s' h (pK p) acc → AccOk 2560 acc → R = .inr acc → Ev (K s') Φ) :
    ∀ (m i fu : Nat) (s' : gMem) (acc : List Int), i + m = ls.length → m < fu → Nd s' h n q p ls → TCx s' h s cx → TB s' h → Ex (Pv h d) σ0 s' → mI s' h 81 = s → CoT s' h (pK p) acc → AccOk (320 * i) acc → (∀ j (hj : j < ls.length), i ≤ j → pK (lab ls[j]) ≠ 6 → VH s' h (d + j) (ev cx ls[j])) →
      R = mArgs cx (pK p) ((ls.drop i).map (fun y => (lab y, ev cx y))) acc → Ev (tw_workMany_l127 N W h q s d (pK p) (ls.length : Nat) K fu i s') Φ := by
  intro m
  induction m with
  | zero =>
    intro i fu s' acc a1 a2 g tc tb X hw co ok gv hR
    obtain ⟨fu, rfl⟩ : ∃ j, fu = j + 1 := ⟨fu - 1, by omega⟩
    unfold tw_workMany_l127
    refine Ev.g (by omega) (hK s' acc X tb co (ok.mono (by omega)) ?_)
    rw [hR, List.drop_eq_nil_of_le (by omega)]; rfl
  | succ m ih =>
    intro i fu s' acc a1 a2 g tc tb X hw co ok gv hR
    obtain ⟨fu, rfl⟩ : ∃ j, fu = j + 1 := ⟨fu - 1, by omega⟩
    have hi : i < ls.length := by omega
    have sp := g.2.2.2.2.2 i hi
    have L := sp.lab
    have fi := g.fit hi
    have hq := L.1
    have Oa : PtOk (lab ls[i]) := by
      cases n with
      | zero => exact sp.elim
      | succ n =>
        obtain ⟨p', ls', e1, -, -, e4, -⟩ := sp
        rw [e1, lab_app]; exact e4
    have dr : (ls.drop i).map (fun y => (lab y, ev cx y)) = (lab ls[i], ev cx ls[i]) :: (ls.drop (i + 1)).map (fun y => (lab y, ev cx y)) := by rw [List.drop_eq_getElem_cons hi, List.map_cons]
    have ed : w32 ((d : Int) + (i : Int)) = ((d + i : Nat) : Int) := by rw [w32_i (by omega) (by omega)]; omega
    -- behind one argument
    have J : ∀ (r : Int) (s2 : gMem), Ex (Pw h (d + i)) s' s2 → TB s2 h → (match mStep cx (pK p) (lab ls[i], ev cx ls[i]) acc with
        | .inl e' => r = 0 ∧ VH s2 h (d + i) e'
        | .inr acc' => r = 1 ∧ CoT s2 h (pK p) acc' ∧ AccOk (320 * (i + 1)) acc' ∧ mI s2 h 81 = s) → Ev (tw_workMany_l127_j212 N W h q s d (pK p) (ls.length : Nat) i r (tw_workMany_l127 N W h q s d (pK p) (ls.length : Nat) K fu) K s2) Φ := by
      intro r s2 X2 T2 hm
      have X2' : Ex (Pv h d) s' s2 := X2.mono (fun _ _ p => p.tv (by omega))
      unfold tw_workMany_l127_j212
      rw [ed, inc32 (by omega)]
      rw [dr] at hR
      unfold mArgs at hR
      cases hst : mStep cx (pK p) (lab ls[i], ev cx ls[i]) acc with
      | inl e =>
        rw [hst] at hm hR
        obtain ⟨r0, gv2⟩ := hm
        refine Ev.f (fun q => q r0) (Ev.c (t_bring (by omega) (by omega) (by omega) T2 gv2) (fun r' _ q => Ev.r (hE r' e hR (EP.hs (X.tr X2') T2 q))))
      | inr acc' =>
        rw [hst] at hm hR
        obtain ⟨r1, co2, ok2, hw2⟩ := hm
        refine Ev.g (by omega) (ih (i + 1) fu s2 acc' (by omega) (by omega) (g.pv X2') (tc.pv X2') T2 (X.tr X2') hw2 co2 ok2 (fun j hj hl c => (gv j hj (by omega) c).pw X2 (by omega)) hR)
    unfold tw_workMany_l127
    refine Ev.f (by omega) (Ev.e (g.under (by omega) hi) (Ev.g (by omega) ?_))
    rw [tn, L.2.1, ed]
    by_cases c6 : pK (lab ls[i]) = 6
    · refine Ev.g (by omega) (Ev.c (t_area (by omega) hs tc L Oa) (fun x36 _ q1 => ?_))
      obtain ⟨qA, q12, -⟩ := q1
      have q11 := qA.mono (fun _ _ p => Ap.f p)
      have q12 := q12 c6
      have T1 : TB x36.2 h := tb.fp q11
      have XA : Ex (Pw h (d + i)) s' x36.2 := q11.mono (fun _ _ p => Fp.tw p)
      cases hcs : cxArea cx (lab ls[i]) with
      | none =>
        rw [hcs] at q12
        refine Ev.g q12 (Ev.c (t_error (by omega) (by decide) (by decide)) (fun s2 _ q => J 0 s2 (XA.tr (q.1.mono (fun _ _ p => Hp.tw p))) (q.2.1 T1) ?_))
        have es : mStep cx (pK p) (lab ls[i], ev cx ls[i]) acc = .inl (vErr 1) := by unfold mStep; rw [if_pos c6, hcs]
        rw [es]
        exact ⟨rfl, q.2.2⟩
      | some cs =>
        rw [hcs] at q12
        obtain ⟨r1, ar⟩ := q12
        have hv := Oa.ver
        have tcA := tc.pv (q11.mono (fun _ _ p => (Fp.tv0 (d := d) p)))
        have hl := ar.len.1
        have coA : CoT x36.2 h (pK p) acc := co.ex qA (fun i _ _ => by unfold Ap; omega)
        refine Ev.f (by omega) (Ev.c (t_countArea (n0 := 320 * i) (by omega) hN (by omega) tcA.1 T1 (tcA.va hv.1 hv.2) ar coA ok) (fun x46 _ q => J x46.1 x46.2 (XA.tr q.1) q.2.1 ?_))
        have es : mStep cx (pK p) (lab ls[i], ev cx ls[i]) acc = mArea (pK p) (cs.map (cx.2 (pW (lab ls[i])))) acc := by unfold mStep; rw [if_pos c6, hcs]
        rw [es]
        have q3 := q.2.2
        cases hma : mArea (pK p) (cs.map (cx.2 (pW (lab ls[i])))) acc with
        | inl e => rw [hma] at q3; exact q3
        | inr acc' =>
          rw [hma] at q3
          refine ⟨q3.1, q3.2.1, q3.2.2.mono (by omega), ?_⟩
          rw [(XA.tr q.1).rI (by unfold Pw Hp Fp; omega)]; exact hw
    · refine Ev.f (by omega) (Ev.c (t_countOne (n0 := 320 * i) (by omega) (by omega) hs tb tc L Oa c6 (gv i hi (by omega) c6) hw (ne i hi) (fun q => ev_gone (SpT.wf _ _ _ sp) q) co ok (by omega)) (fun x50 _ q => J x50.1 x50.2 q.1 q.2.1 ?_))
      have q3 := q.2.2
      cases hst : mStep cx (pK p) (lab ls[i], ev cx ls[i]) acc with
      | inl e => rw [hst] at q3; exact q3
      | inr acc' =>
        rw [hst] at q3
        refine ⟨q3.1, q3.2.1, q3.2.2.mono (by omega), ?_⟩
        rw [q.1.rI (by unfold Pw Hp Fp; omega)]; exact hw
theorem evA_many {p : Pt} {xs : List (Pt × Vl)} (h1 : 31 ≤ pK p) (h2 : pK p ≤ 36) : evA cx p xs = evMany cx (pK p) xs := by
  unfold evA evCall
  rw [if_neg (by omega), if_neg (by omega), if_neg (by omega), if_neg (by omega), if_neg (by omega), if_neg (by omega), if_neg (by omega), if_neg (by omega), if_neg (by omega), if_pos ⟨h1, h2⟩]
theorem t_workMany {q : Nat} {p : Pt} {ls : List Fm} {W : Int → Int → Int → gMem → Option gMem} (g : Nd σ h n q p ls) (hW : HW h s cx n W) (hN : 400 ≤ N) (hs : s ≤ 40) (h1 : 31 ≤ pK p) (h2 : pK p ≤ 36) (tc : TCx σ h s cx) (tb : TB σ h) (hd : d + ls.flatten.length + 4 ≤ 200) : Ev (tw_workMany N W h q s d σ) (fun r => EP h d σ r (evMany cx (pK p) (ls.map (fun y => (lab y, ev cx y))))) := by
  have hq := g.1.1
  have h8 := g.2.2.1.le
  have h4 := g.2.2.2.1
  unfold tw_workMany
  refine Ev.g (by omega) (Ev.g (by omega) ?_)
  rw [tn, g.1.2.1, g.1.2.2.1, ← h4]
  refine many_first (σ0 := σ) hW (by omega) h1 h2 hd (fun r e he q => ?_) (fun s1 X1 T1 hn gv ge => ?_) ls.length 0 N σ (by omega) (by omega) g tc tb Ex.rf (fun j _ hl _ => by omega) (fun j _ hl _ => by omega) (fun _ => by rw [List.drop_zero])
  · unfold evMany
    rw [he]; exact q
  · refine Ev.l (Ev.l (Ev.l (Ev.l (Ev.l (Ev.l ?_)))))
    have X2 : Ex (fun a k => a = h ∧ 76 ≤ k ∧ k ≤ 81) s1 (wI (wI (wL (wL (wI (wI s1 h 81 s) h 76 0) h 77 (((0 : Fin 2) : Nat) : Int)) h 78 (((0 : Fin 2) : Nat) : Int)) h 79 1) h 80 0) :=
      (((((Ex.rf.I ⟨rfl, by decide, by decide⟩).I ⟨rfl, by decide, by decide⟩).L ⟨rfl, by decide, by decide⟩).L ⟨rfl, by decide, by decide⟩).I ⟨rfl, by decide, by decide⟩).I ⟨rfl, by decide, by decide⟩
    have f81 : mI (wI (wI (wL (wL (wI (wI s1 h 81 s) h 76 0) h 77 (((0 : Fin 2) : Nat) : Int)) h 78 (((0 : Fin 2) : Nat) : Int)) h 79 1) h 80 0) h 81 = s := by
      rw [mI_wI, if_neg (by omega), mI_wI, if_neg (by omega), mI_wL, mI_wL, mI_wI, if_neg (by omega), mI_wI, if_pos ⟨rfl, rfl⟩, w32_i (by omega) (by omega)]
    have co : CoT (wI (wI (wL (wL (wI (wI s1 h 81 s) h 76 0) h 77 (((0 : Fin 2) : Nat) : Int)) h 78 (((0 : Fin 2) : Nat) : Int)) h 79 1) h 80 0) h (pK p) [] := by
      refine ⟨?_, ?_, fun q => absurd rfl q, ?_, ?_⟩
      · rw [mI_wI, if_neg (by omega), mI_wI, if_neg (by omega), mI_wL, mI_wL, mI_wI, if_pos ⟨rfl, rfl⟩]; rfl
      · rw [mL_wI, mL_wI, mL_wL, if_neg (by omega), mL_wL, if_pos ⟨rfl, rfl⟩]; rfl
      · rw [mI_wI, if_neg (by omega), mI_wI, if_pos ⟨rfl, rfl⟩]; rfl
      · rw [mI_wI, if_pos ⟨rfl, rfl⟩]; rfl
    generalize wI (wI (wL (wL (wI (wI s1 h 81 s) h 76 0) h 77 (((0 : Fin 2) : Nat) : Int)) h 78 (((0 : Fin 2) : Nat) : Int)) h 79 1) h 80 0 = s2 at *
    have X2' : Ex (Pv h d) s1 s2 := X2.mono (fun a k p => Or.inr ⟨p.1, by have := p.2; omega, p.2.2⟩)
    have T2 : TB s2 h := T1.ex X2 (fun o k _ p => by have := p.1; omega)
    refine many_second (n := n) (R := mArgs cx (pK p) (ls.map (fun y => (lab y, ev cx y))) []) (σ0 := σ) hN hs h1 h2 hd (by omega) ge (fun r e he q => ?_) (fun s3 acc X3 T3 co3 ok3 hR => ?_) ls.length 0 N s2 [] (by omega) (by omega) ((g.pv X1).pv X2') ((tc.pv X1).pv X2') T2 (X1.tr X2') f81 co ⟨by simp, by simp⟩ (fun j hj _ c => ?_) (by rw [List.drop_zero])
    · unfold evMany
      rw [hn]
      dsimp only
      rw [he]; exact q
    · unfold evMany
      rw [hn]
      dsimp only
      rw [hR]
      exact Ev.c (t_come (by omega) co3 ok3 h1 h2) (fun r _ q => Ev.r (EP.hs X3 T3 q))
    · exact VG.ex X2 (gv j hj c) (by omega) (by omega) (by omega) (fun i _ => by omega)
theorem t_workPlace {q : Nat} {p : Pt} {ls : List Fm} (g : Nd σ h n q p ls) (hN : 70 ≤ N) (hs : s ≤ 40) (h1 : pK p = 41 ∨ pK p = 42) (tc : TCx σ h s cx) (tb : TB σ h) (hd : d + ls.flatten.length + 4 ≤ 200) (W : Int → Int → Int → gMem → Option gMem) : Ev (tw_workCall_j57 N W h q s d (pK p) σ) (fun r => EP h d σ r (evPlace cx (pK p) (xp (ls.map (fun y => (lab y, ev cx y))) 0))) := by
  have ca := g.2.2.1.call (by omega)
  have hl : ls.length = 1 := by
    have e1 : leastA (pK p) = 1 := by unfold leastA; rw [if_neg (by omega), if_pos (by omega)]
    have e2 : mostA (pK p) = 1 := by unfold mostA; rw [if_neg (by omega), e1]
    have := g.2.2.2.1
    omega
  obtain ⟨sp, eq⟩ := g.last hl
  have L := sp.lab
  have hq := L.1
  have Oa : PtOk (lab (ls[0]'(by omega))) := by
    cases n with
    | zero => exact sp.elim
    | succ n =>
      obtain ⟨p', ls', e1, -, -, e4, -⟩ := sp
      rw [e1, lab_app]; exact e4
  rw [xp_at (by omega)]
  have J : ∀ t : Int, (t = if pK (lab (ls[0]'(by omega))) = 5 then (if cxSpot cx (lab (ls[0]'(by omega))) < 0 then -1 else ((320 * shn s (pW (lab (ls[0]'(by omega)))) + (cxSpot cx (lab (ls[0]'(by omega)))).toNat : Nat) : Int)) else -1) → Ev (tw_workCall_j84 N W h d (pK p) t σ) (fun r => EP h d σ r (evPlace cx (pK p) (lab (ls[0]'(by omega))))) := by
    intro t ht
    unfold tw_workCall_j84 evPlace
    by_cases c5 : pK (lab (ls[0]'(by omega))) = 5
    · rw [if_pos c5] at ht
      rw [if_neg (show ¬ pK (lab (ls[0]'(by omega))) ≠ 5 from fun q => q c5)]
      by_cases cg : cxSpot cx (lab (ls[0]'(by omega))) < 0
      · rw [if_pos cg] at ht
        rw [if_pos cg]
        exact Ev.f (by omega) (Ev.c (t_error (by omega) (by decide) (by decide)) (fun r _ q => Ev.r (EP.hs Ex.rf tb q)))
      · rw [if_neg cg] at ht
        rw [if_neg cg]
        have hv := Oa.ver
        obtain ⟨-, -, p3, p4⟩ := tc.place (N := N) (by omega) hs hv.1 hv.2 0
        have rg := spotAt_rng (r := pR1 (lab (ls[0]'(by omega)))) (c := pC1 (lab (ls[0]'(by omega)))) p3 p4 (by unfold cxSpot at cg; omega)
        have a := pl_ge (cx.1 (pW (lab (ls[0]'(by omega))))).1 (pR1 (lab (ls[0]'(by omega))))
        have b := pl_ge (cx.1 (pW (lab (ls[0]'(by omega))))).2 (pC1 (lab (ls[0]'(by omega))))
        have hsn := shn_lt (s := s) hs hv.2
        unfold cxSpot at ht cg
        obtain ⟨r1, r2, r3, r4⟩ := rg
        rw [r2] at ht
        generalize pl (cx.1 (pW (lab (ls[0]'(by omega))))).1 (pR1 (lab (ls[0]'(by omega)))) = x at *
        generalize pl (cx.1 (pW (lab (ls[0]'(by omega))))).2 (pC1 (lab (ls[0]'(by omega)))) = y at *
        have e1 : w32 (Int.tmod t 320) = 10 * x + y := by
          rw [Int.tmod_eq_emod_of_nonneg (by omega), w32_i (by omega) (by omega)]; omega
        rw [e1, Int.tmod_eq_emod_of_nonneg (by omega), Int.tdiv_eq_ediv_of_nonneg (by omega)]
        refine Ev.g (by omega) ?_
        by_cases c41 : pK p = 41
        · rw [if_pos c41]
          refine Ev.f (by omega) ?_
          rw [w32_i (by omega) (by omega), show (10 * x + y) / 10 + 1 = x + 1 by omega]
          exact Ev.c (t_number (by omega) (by omega)) (fun r _ q => Ev.r (EP.hs Ex.rf tb q))
        · rw [if_neg c41]
          refine Ev.g (by omega) ?_
          rw [w32_i (by omega) (by omega), show (10 * x + y) % 10 + 1 = y + 1 by omega]
          exact Ev.c (t_number (by omega) (by omega)) (fun r _ q => Ev.r (EP.hs Ex.rf tb q))
    · rw [if_neg c5] at ht
      rw [if_pos (show pK (lab (ls[0]'(by omega))) ≠ 5 from c5)]
      exact Ev.f (by omega) (Ev.c (t_error (by omega) (by decide) (by decide)) (fun r _ q => Ev.r (EP.hs Ex.rf tb q)))
  unfold tw_workCall_j57
  rw [eq]
  refine Ev.g (by omega) ?_
  rw [tn, L.2.1]
  by_cases c5 : pK (lab (ls[0]'(by omega))) = 5
  · refine Ev.f (by omega) (Ev.e (t_spotCell (by omega) hs tc L Oa) (J _ ?_))
    rw [if_pos c5]
  · exact Ev.g (by omega) (J _ (by rw [if_neg c5]))
theorem t_workCall {q : Nat} {p : Pt} {ls : List Fm} {W : Int → Int → Int → gMem → Option gMem} (g : Nd σ h n q p ls) (hW : HW h s cx n W) (hN : 400 ≤ N) (hs : s ≤ 40) (h1 : 30 ≤ pK p) (h2 : pK p ≤ 47) (tc : TCx σ h s cx) (tb : TB σ h) (hd : d + ls.flatten.length + 4 ≤ 200) : Ev (tw_workCall N W h q s d σ) (fun r => EP h d σ r (evCall cx (pK p) (ls.map (fun y => (lab y, ev cx y))))) := by
  have hq := g.1.1
  unfold tw_workCall
  refine Ev.g (by omega) ?_
  rw [tn, g.1.2.1]
  unfold evCall
  by_cases c30 : pK p = 30
  · rw [if_pos c30]
    exact Ev.f (by omega) (Ev.c (t_workIf g hW (by omega) c30 tc tb hd) (fun r _ q => Ev.r q))
  · rw [if_neg c30]
    refine Ev.g (by omega) ?_
    have em : tw_isMany (pK p) σ = some (if 31 ≤ pK p ∧ pK p ≤ 36 then 1 else 0) := by
      unfold tw_isMany tw_in
      by_cases c : 31 ≤ pK p ∧ pK p ≤ 36
      · rw [if_pos c, if_neg (by omega), if_neg (by omega), Option.bind_some, if_pos (by omega)]
      · rw [if_neg c]
        by_cases c' : pK p < 31
        · rw [if_pos (by omega), Option.bind_some, if_pos (by omega)]
        · rw [if_neg (by omega), if_pos (by omega), Option.bind_some, if_pos (by omega)]
    refine Ev.e em ?_
    by_cases cm : 31 ≤ pK p ∧ pK p ≤ 36
    · rw [if_pos cm, if_pos cm]
      exact Ev.f (by decide) (Ev.c (t_workMany g hW hN hs cm.1 cm.2 tc tb hd) (fun r _ q => Ev.r q))
    · rw [if_neg cm, if_neg cm]
      refine Ev.g rfl ?_
      by_cases c41 : pK p = 41
      · rw [if_pos (Or.inl c41)]
        exact Ev.g (by omega) (t_workPlace g (by omega) hs (Or.inl c41) tc tb hd W)
      · refine Ev.f (by omega) ?_
        by_cases c42 : pK p = 42
        · rw [if_pos (Or.inr c42)]
          exact Ev.f (by omega) (t_workPlace g (by omega) hs (Or.inr c42) tc tb hd W)
        · rw [if_neg (show ¬ (pK p = 41 ∨ pK p = 42) by omega)]
          refine Ev.g (by omega) ?_
          have ei : tw_in (pK p) 37 40 σ = some (if 37 ≤ pK p ∧ pK p ≤ 40 then 1 else 0) := by
            unfold tw_in
            by_cases c : 37 ≤ pK p ∧ pK p ≤ 40
            · rw [if_pos c, if_neg (by omega), if_neg (by omega)]
            · rw [if_neg c]
              by_cases c' : pK p < 37
              · rw [if_pos (by omega)]
              · rw [if_neg (by omega), if_pos (by omega)]
          refine Ev.e ei ?_
          by_cases c1 : 37 ≤ pK p ∧ pK p ≤ 40
          · rw [if_pos c1, if_pos c1]
            exact Ev.f (by decide) (Ev.c (t_workOne g hW (by omega) c1.1 c1.2 tc tb hd) (fun r _ q => Ev.r q))
          · rw [if_neg c1, if_neg c1]
            refine Ev.g rfl ?_
            have J : (pK p = 43 ∨ pK p = 44) → Ev (tw_workCall_j178 N W h q s d σ) (fun r => EP h d σ r (evEnd (pK p) (xv (ls.map (fun y => (lab y, ev cx y))) 0) (xv (ls.map (fun y => (lab y, ev cx y))) 1))) := by
              intro c
              unfold tw_workCall_j178
              exact Ev.c (t_workEnd g hW (by omega) c tc tb hd) (fun r _ q => Ev.r q)
            by_cases c43 : pK p = 43
            · rw [if_pos (Or.inl c43)]
              exact Ev.g (by omega) (J (Or.inl c43))
            · refine Ev.f (by omega) ?_
              by_cases c44 : pK p = 44
              · rw [if_pos (Or.inr c44)]
                exact Ev.f (by omega) (J (Or.inr c44))
              · rw [if_neg (show ¬ (pK p = 43 ∨ pK p = 44) by omega)]
                refine Ev.g (by omega) ?_
                by_cases c46 : pK p = 46
                · rw [if_pos c46]
                  exact Ev.c (t_workLook g hW hN hs (by omega) tc tb hd 1 0 (Or.inl ⟨c46, rfl, rfl⟩)) (fun r _ q => Ev.r q)
                · rw [if_neg c46]
                  exact Ev.c (t_workLook g hW hN hs (by omega) tc tb hd 0 1 (Or.inr ⟨c46, rfl, rfl⟩)) (fun r _ q => Ev.r q)
/-- the twin works out what a formula is told to be -/
theorem t_work (hN : 400 ≤ N) (hs : s ≤ 40) : ∀ (n m : Nat), n ≤ m → HW h s cx n (tw_work N h m) := by
  intro n
  induction n with
  | zero => intro m _ q d l σ sp; exact sp.elim
  | succ n ih =>
    intro m hm q d l σ sp h6 tc tb hd
    obtain ⟨m, rfl⟩ : ∃ j, m = j + 1 := ⟨m - 1, by omega⟩
    have hW := ih m (by omega)
    obtain ⟨p, ls, e1, e2, L, O, ao, e6, e7, e8⟩ := sp
    have hfl : ls.flatten.length + 1 = l.length := by rw [e1, List.length_append]; rfl
    have g : Nd σ h n q p ls := ⟨L, O, ao, e2, by omega, e8⟩
    have wf : ∀ x ∈ ls, Wf n x := fun x hx => by
      obtain ⟨i, hi, e⟩ := List.getElem_of_mem hx
      rw [← e]; exact SpT.wf _ _ _ (e8 i hi)
    have ee : ev cx l = evA cx p (ls.map (fun y => (lab y, ev cx y))) := by
      rw [e1]; exact fv_eq _ e2 wf
    rw [e1, lab_app] at h6
    rw [ee]
    have hq := L.1
    have hd' : d + ls.flatten.length + 4 ≤ 200 := by omega
    show Ev (tw_work_o N (tw_work N h m) h q s d σ) _
    unfold tw_work_o
    refine Ev.g (by omega) ?_
    rw [tn, L.2.1]
    unfold evA
    have ei : tw_in (pK p) 10 21 σ = some (if 10 ≤ pK p ∧ pK p ≤ 21 then 1 else 0) := by
      unfold tw_in
      by_cases c : 10 ≤ pK p ∧ pK p ≤ 21
      · rw [if_pos c, if_neg (by omega), if_neg (by omega)]
      · rw [if_neg c]
        by_cases c' : pK p < 10
        · rw [if_pos (by omega)]
        · rw [if_neg (by omega), if_pos (by omega)]
    have ok := O
    rcases O with ⟨x, hp, x1, x2⟩ | ⟨t, hp, t1, t2⟩ | ⟨b, hp⟩ | hp | ⟨r, c, f, v, hp, -⟩ | ⟨r, c, r', c', f, v, hp, -⟩ | ⟨k, j, hp, hk⟩
    · have kp : pK p = 1 := by rw [hp]; rfl
      have vp : pV p = x := by rw [hp]; rfl
      rw [if_pos kp]
      refine Ev.f (by omega) (Ev.g (by omega) ?_)
      rw [L.2.2.2.1]
      exact Ev.c (t_number (by omega) (by omega)) (fun r _ q => Ev.r (EP.hs Ex.rf tb q))
    · have kp : pK p = 2 := by rw [hp]; rfl
      have vp : pX p = t := by rw [hp]; rfl
      rw [if_neg (show ¬ pK p = 1 by omega), if_pos kp]
      refine Ev.g (by omega) (Ev.f (by omega) (Ev.g (by omega) (Ev.g (by omega) ?_)))
      obtain ⟨at', L1, L2, L3⟩ := L.2.2.2.2.1
      rw [L1, L.2.2.2.2.2.1]
      rw [vp] at L2 L3 ⊢
      exact Ev.c (t_text (by omega) (by omega) rfl t1 (fun c hc => by have := t2 c hc; omega) (by omega) (by omega) (by omega) tc.1.2.2.1 (by rw [tc.1.2.2.2.1]; exact L2) tb.2.2.1 L3) (fun r _ q => Ev.r (EP.hs Ex.rf tb q))
    · have kp : pK p = 3 := by rw [hp]; rfl
      have vp : pV p = if b then 1 else 0 := by rw [hp]; rfl
      rw [if_neg (show ¬ pK p = 1 by omega), if_neg (show ¬ pK p = 2 by omega), if_pos kp]
      refine Ev.g (by omega) (Ev.g (by omega) (Ev.f (by omega) (Ev.g (by omega) ?_)))
      rw [L.2.2.2.1, vp]
      cases b with
      | true => exact Ev.f (fun q => q rfl) (Ev.c (t_truth (by omega)) (fun r _ q => Ev.r (EP.hs Ex.rf tb q)))
      | false => exact Ev.g (by decide) (Ev.c (t_truth (by omega)) (fun r _ q => Ev.r (EP.hs Ex.rf tb q)))
    · have kp : pK p = 4 := by rw [hp]; rfl
      rw [if_neg (show ¬ pK p = 1 by omega), if_neg (show ¬ pK p = 2 by omega), if_neg (show ¬ pK p = 3 by omega), if_pos kp]
      refine Ev.g (by omega) (Ev.g (by omega) (Ev.g (by omega) (Ev.g (by omega) (Ev.g (by omega) (Ev.e ei ?_)))))
      rw [if_neg (show ¬ (10 ≤ pK p ∧ pK p ≤ 21) by omega)]
      exact Ev.g rfl (Ev.g (by omega) (Ev.c (t_error (by omega) (by decide) (by decide)) (fun r _ q => Ev.r (EP.hs Ex.rf tb q))))
    · have kp : pK p = 5 := by rw [hp]; rfl
      have hv := ok.ver
      have sc := t_spotCell (N := N) (by omega) hs tc L ok
      have hsn := shn_lt (s := s) hs hv.2
      obtain ⟨-, -, p3, p4⟩ := tc.place (N := N) (by omega) hs hv.1 hv.2 0
      rw [if_neg (show ¬ pK p = 1 by omega), if_neg (show ¬ pK p = 2 by omega), if_neg (show ¬ pK p = 3 by omega), if_neg (show ¬ pK p = 4 by omega), if_pos kp]
      refine Ev.g (by omega) (Ev.g (by omega) (Ev.g (by omega) (Ev.f (by omega) (Ev.e sc ?_))))
      by_cases c0 : cxSpot cx p < 0
      · rw [if_pos c0, if_pos c0]
        exact Ev.f (by decide) (Ev.c (t_error (by omega) (by decide) (by decide)) (fun r _ q => Ev.r (EP.hs Ex.rf tb q)))
      · rw [if_neg c0, if_neg c0]
        have rg := spotAt_rng (r := pR1 p) (c := pC1 p) p3 p4 (by unfold cxSpot at c0; omega)
        have h3 : (cxSpot cx p).toNat < 320 := by have := rg.1; unfold cxSpot at c0 ⊢; omega
        refine Ev.g (by omega) (Ev.c (t_load (by omega) (by omega) (by omega) tc.1.1 tc.1.2.1 tb (tc.2.2.2.2 _ hv.1 hv.2 _ h3)) (fun r _ q => Ev.r (EP.hs Ex.rf tb q)))
    · exact absurd (by rw [hp]; rfl) h6
    · have kp : pK p = k := by rw [hp]; rfl
      rw [if_neg (show ¬ pK p = 1 by omega), if_neg (show ¬ pK p = 2 by omega), if_neg (show ¬ pK p = 3 by omega), if_neg (show ¬ pK p = 4 by omega), if_neg (show ¬ pK p = 5 by omega), if_neg (show ¬ pK p = 6 by omega)]
      refine Ev.g (by omega) (Ev.g (by omega) (Ev.g (by omega) (Ev.g (by omega) ?_)))
      by_cases c7 : pK p = 7
      · have ao7 : pA p = 1 ∧ ∀ q ∈ ls.map lab, pK q ≠ 6 := by
          unfold argsOk at ao; rw [if_neg (by omega), if_pos c7] at ao; exact ao
        have hl : ls.length = 1 := by omega
        obtain ⟨sp, eq⟩ := g.last hl
        have f0 := g.fit (i := 0) (by omega)
        have k0 : pK (lab (ls[0]'(by omega))) ≠ 6 := ao7.2 _ (List.mem_map_of_mem (List.getElem_mem _))
        rw [if_pos c7, xv_at (by omega)]
        refine Ev.f (by omega) ?_
        rw [eq]
        refine Ev.c (hW _ _ _ _ sp k0 tc tb (by omega)) (fun s1 _ q1 => Ev.g (dG (by omega)) ?_)
        rw [tn, q1.2.2.2.1]
        by_cases e0 : (ev cx ls[0]).1 = 4
        · refine Ev.g e0 (Ev.r ?_)
          rw [if_pos e0]; exact q1
        · refine Ev.f e0 (Ev.c (t_wantsNumber (by omega) q1.2.2) (fun x3 _ q3 => ?_))
          rw [if_neg e0, q3.1]
          by_cases w1 : (wantN (ev cx ls[0])).1 = 1
          · rw [if_pos w1, if_neg (show ¬ ¬ (wantN (ev cx ls[0])).1 = 1 from fun q => q w1)]
            obtain ⟨-, b1, b2⟩ := q3.2.2.2.1.k1 w1
            refine Ev.f (by decide) (Ev.g (dG (by omega)) ?_)
            rw [q3.2.2.2.2.2.1 (by omega) (by omega), w64_i (by omega) (by omega)]
            exact Ev.c (t_number (by omega) (by omega)) (fun r _ q => Ev.r (EP.hs q1.1 q1.2.1 (HS.tr' q3.2 q)))
          · rw [if_neg w1, if_pos (show ¬ (wantN (ev cx ls[0])).1 = 1 from w1)]
            exact Ev.g rfl (Ev.r (EP.hs q1.1 q1.2.1 q3.2))
      · rw [if_neg c7]
        refine Ev.g (by omega) (Ev.e ei ?_)
        by_cases c2 : 10 ≤ pK p ∧ pK p ≤ 21
        · have tt := t_workTwo (N := N) g hW (by omega) (by omega) (by omega) tc tb hd'
          rw [evA_two (p := p) (by omega) (by omega)] at tt
          rw [if_pos c2, if_pos (show pK p < 30 by omega)]
          exact Ev.f (by decide) (Ev.c tt (fun r _ q => Ev.r q))
        · rw [if_neg c2, if_neg (show ¬ pK p < 30 by omega)]
          refine Ev.g rfl (Ev.f (by omega) (Ev.c (t_workCall g hW hN hs (by omega) (by omega) tc tb hd') (fun r _ q => Ev.r q)))
end TwEv9
