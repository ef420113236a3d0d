/-! ===== PHASE 2: the component's formulas: SUM, MIN, MAX, COUNT ===== -/
section CoEv10
variable {N w u x n t nv : Nat} {σ σ' s : gMem} {v a b : Vl} {cx : Cx}
/-- a tally is at hand -/
def CoC (σ : gMem) (x : Nat) (acc : List Int) : Prop := mL σ (x + 13) 15 = acc.sum ∧ mI σ (x + 13) 18 = acc.length ∧ (acc ≠ [] → mL σ (x + 13) 16 = lMin acc ∧ mL σ (x + 13) 17 = lMax acc)
theorem CoC.same {acc : List Int} (h : ∀ k, 15 ≤ k → mI σ' (x + 13) k = mI σ (x + 13) k ∧ mL σ' (x + 13) k = mL σ (x + 13) k) (g : CoC σ x acc) : CoC σ' x acc :=
  ⟨by rw [(h 15 (by omega)).2]; exact g.1, by rw [(h 18 (by omega)).1]; exact g.2.1, fun q => ⟨by rw [(h 16 (by omega)).2]; exact (g.2.2 q).1, by rw [(h 17 (by omega)).2]; exact (g.2.2 q).2⟩⟩
/-- the fields of a tally -/
def Pt15 (x a k : Nat) : Prop := a = x + 13 ∧ 15 ≤ k
theorem c_tally {acc : List Int} {y : Int} (wl : WL σ x) (g : CoC σ x acc) (ok : AccOk 2560 acc) (h1 : -1000000000000000 ≤ y) (h2 : y ≤ 1000000000000000) : Ev (x3_tally (x + 13) y σ) (fun r => Ex (Pt15 x) σ r ∧ CoC r x (acc ++ [y])) := by
  obtain ⟨g1, g2, g3⟩ := g
  have sb := ok.sum
  have lb := ok.1
  unfold x3_tally
  refine Ev.g wl.1 (Ev.l ?_)
  rw [g1, w64_i (by omega) (by omega)]
  generalize e0 : wL σ (x + 13) 15 (acc.sum + y) = s0
  have X0 : Ex (Pt15 x) σ s0 := by rw [← e0]; exact Ex.rf.L ⟨rfl, by decide⟩
  have f15 : mL s0 (x + 13) 15 = acc.sum + y := by rw [← e0, mL_wL, if_pos ⟨rfl, rfl⟩, w64_i (by omega) (by omega)]
  have f18 : mI s0 (x + 13) 18 = acc.length := by rw [← e0, mI_wL]; exact g2
  have f16 : mL s0 (x + 13) 16 = mL σ (x + 13) 16 := by rw [← e0, mL_wL, if_neg (by omega)]
  have f17 : mL s0 (x + 13) 17 = mL σ (x + 13) 17 := by rw [← e0, mL_wL, if_neg (by omega)]
  have wl0 := wl.ey X0.y
  have J30 : ∀ t0 : Int, t0 = lMin (acc ++ [y]) → Ev (x3_tally_j30 (x + 13) y t0 (x + 13) s0) (fun r => Ex (Pt15 x) σ r ∧ CoC r x (acc ++ [y])) := by
    intro t0 ht0
    unfold x3_tally_j30
    refine Ev.g wl0.1 (Ev.l ?_)
    have hb : g64 t0 := by
      rw [ht0]
      by_cases he : acc = []
      · rw [he]; show g64 y; omega
      · rw [lMin_snoc y acc he]
        have := mL_rng σ (x + 13) 16
        rw [(g3 he).1] at this
        omega
    generalize e1 : wL s0 (x + 13) 16 t0 = s1
    have X1 : Ex (Pt15 x) s0 s1 := by rw [← e1]; exact Ex.rf.L ⟨rfl, by decide⟩
    have p16 : mL s1 (x + 13) 16 = lMin (acc ++ [y]) := by rw [← e1, mL_wL, if_pos ⟨rfl, rfl⟩, w64_id hb]; exact ht0
    have p15 : mL s1 (x + 13) 15 = acc.sum + y := by rw [← e1, mL_wL, if_neg (by omega)]; exact f15
    have p17 : mL s1 (x + 13) 17 = mL σ (x + 13) 17 := by rw [← e1, mL_wL, if_neg (by omega)]; exact f17
    have p18 : mI s1 (x + 13) 18 = acc.length := by rw [← e1, mI_wL]; exact f18
    have wl1 := wl0.ey X1.y
    have J53 : ∀ t1 : Int, t1 = lMax (acc ++ [y]) → Ev (x3_tally_j53 (x + 13) t1 (x + 13) s1) (fun r => Ex (Pt15 x) σ r ∧ CoC r x (acc ++ [y])) := by
      intro t1 ht1
      have hb1 : g64 t1 := by
        rw [ht1]
        by_cases he : acc = []
        · rw [he]; show g64 y; omega
        · rw [lMax_snoc y acc he]
          have := mL_rng σ (x + 13) 17
          rw [(g3 he).2] at this
          omega
      unfold x3_tally_j53
      refine Ev.g wl1.1 (Ev.l (Ev.g wl1.1 (Ev.l (Ev.r ?_))))
      have e18 : mI (wL s1 (x + 13) 17 t1) (x + 13) 18 = acc.length := by rw [mI_wL]; exact p18
      rw [e18, inc32 (by omega)]
      refine ⟨X0.tr (X1.tr ((Ex.rf.L ⟨rfl, by decide⟩).I ⟨rfl, by decide⟩)), ?_, ?_, fun _ => ⟨?_, ?_⟩⟩
      · rw [mL_wI, mL_wL, if_neg (by omega), p15, sum_snoc]
      · rw [mI_wI, if_pos ⟨rfl, rfl⟩, w32_i (by omega) (by omega), List.length_append, List.length_singleton]
      · rw [mL_wI, mL_wL, if_neg (by omega), p16]
      · rw [mL_wI, mL_wL, if_pos ⟨rfl, rfl⟩, w64_id hb1]; exact ht1
    refine Ev.g wl1.1 ?_
    rw [p18, p17]
    by_cases he : acc = []
    · subst he
      refine Ev.f (fun q => q rfl) (J53 y rfl)
    · have hl : acc.length ≠ 0 := fun q => he (List.eq_nil_of_length_eq_zero q)
      have bm := mL_rng σ (x + 13) 17
      rw [(g3 he).2] at bm ⊢
      refine Ev.g (by omega) (J53 _ ?_)
      rw [lMax_snoc y acc he]
      by_cases c : y < lMax acc
      · rw [if_pos c, w64_id bm]; omega
      · rw [if_neg c, w64_i (by omega) (by omega)]; omega
  rw [f18, f16]
  by_cases he : acc = []
  · subst he
    refine Ev.f (fun q => q rfl) (J30 y rfl)
  · have hl : acc.length ≠ 0 := fun q => he (List.eq_nil_of_length_eq_zero q)
    have bm := mL_rng σ (x + 13) 16
    rw [(g3 he).1] at bm ⊢
    refine Ev.g (by omega) (J30 _ ?_)
    rw [lMin_snoc y acc he]
    by_cases c : y < lMin acc
    · rw [if_pos c, w64_i (by omega) (by omega)]; omega
    · rw [if_neg c, w64_id bm]; omega
/-- numbers of an area's cells -/
theorem c_numbers_a {k va u0 n0 : Nat} {qa : Nat} {a3 a4 : Int} {cs : List Nat} {V : Nat → Vl} {W : Nat → Nat → Nat → gMem → Option gMem} {K : Int → gMem → Option gMem} {Φ : gMem → Prop} {σ0 : gMem} {R : Vl ⊕ List Int} (hk : 33 ≤ k ∧ k ≤ 36) (ha4 : a4 = if k = 36 then 1 else 0) (ht : Tg x u t) (hu : u ≤ 700) (hv : va = x + 4 ∨ x + 1429 ≤ va) (hn : n0 + cs.length ≤ 2560)
    (hK : ∀ (s : gMem) (g : Int), Ey x (Pe x t u) σ0 s → (∀ i, i < 9 → mI s (x + 13) i = mI σ0 (x + 13) i ∧ mL s (x + 13) i = mL σ0 (x + 13) i) → (∀ i j, x + 29 ≤ i → i ≠ t → i ≠ t + 1 → mI s i j = mI σ0 i j ∧ mL s i j = mL σ0 i j) → ((∃ acc, R = .inr acc ∧ g = 1 ∧ CoC s x acc ∧ AccOk (n0 + cs.length) acc) ∨ (∃ e, R = .inl e ∧ g = 0 ∧ VW s t e)) → Ev (K g s) Φ) :
    ∀ (m i f : Nat) (s : gMem) (acc : List Int), i + m = cs.length → m + 2 < f → Ey x (Pe x t u) σ0 s → WL s x → VV s va V → ArC s x va cs i → (∀ i, i < 9 → mI s (x + 13) i = mI σ0 (x + 13) i ∧ mL s (x + 13) i = mL σ0 (x + 13) i) → (∀ i j, x + 29 ≤ i → i ≠ t → i ≠ t + 1 → mI s i j = mI σ0 i j ∧ mL s i j = mL σ0 i j) → CoC s x acc → AccOk (n0 + i) acc → R = mArea k ((cs.drop i).map V) acc → Ev (x20_numbers_l90 N W qa (x + 13) t u0 a4 a3 (x + 25) K f 1 s) Φ := by
  intro m
  induction m with
  | zero =>
    intro i f s acc h1 h2 Y wl vv ar zo zp co ok hR
    obtain ⟨f, rfl⟩ : ∃ j, f = j + 1 := ⟨f - 1, by omega⟩
    have hl := ar.len
    unfold x20_numbers_l90
    refine Ev.f (by decide) (Ev.g wl.1 (Ev.c (c_next wl ar vv hv) (fun r _ q => ?_)))
    rw [q.1 (by omega)]
    refine Ev.g rfl (hK s _ Y zo zp (Or.inl ⟨acc, ?_, rfl, co, ok.mono (by omega)⟩))
    rw [hR, List.drop_eq_nil_of_le (by omega)]; rfl
  | succ m ih =>
    intro i f s acc h1 h2 Y wl vv ar zo zp co ok hR
    obtain ⟨f, rfl⟩ : ∃ j, f = j + 1 := ⟨f - 1, by omega⟩
    have hl := ar.len
    have hi : i < cs.length := by omega
    have dr : (cs.drop i).map V = V cs[i] :: (cs.drop (i + 1)).map V := by rw [List.drop_eq_getElem_cons hi, List.map_cons]
    rw [dr] at hR
    unfold mArea at hR
    unfold x20_numbers_l90
    refine Ev.f (by decide) (Ev.g wl.1 (Ev.c (c_next wl ar vv hv) (fun r _ q => ?_)))
    obtain ⟨q1, q2, q3, q4, q5⟩ := q.2 hi
    have wl1 := wl.ey q2.y
    have cw1 := wl1.2.2.2.2.2.2.2.2.1
    have Y1 : Ey x (Pe x t u) s r.2 := (q2.mono (fun _ _ p => p.pe)).y
    have zo1 : ∀ i, i < 9 → mI r.2 (x + 13) i = mI σ0 (x + 13) i ∧ mL r.2 (x + 13) i = mL σ0 (x + 13) i := fun k hk => ⟨(q5 k (by omega)).1.trans (zo k hk).1, (q5 k (by omega)).2.trans (zo k hk).2⟩
    have zp1 : ∀ i j, x + 29 ≤ i → i ≠ t → i ≠ t + 1 → mI r.2 i j = mI σ0 i j ∧ mL r.2 i j = mL σ0 i j := fun i j a b c => ⟨by rw [q2.rI (by unfold Pn; omega)]; exact (zp i j a b c).1, by rw [q2.rL (by unfold Pn; omega)]; exact (zp i j a b c).2⟩
    have co1 : CoC r.2 x acc := co.same (fun k hk => q5 k (by omega))
    refine Ev.f (by omega) (Ev.g cw1.1 ?_)
    rw [c_failed cw1 q3, Option.bind_some]
    have J127 : ¬ ((V cs[i]).1 = 4 ∧ k ≠ 36) → Ev (x20_numbers_l90_j127 N W qa (x + 13) t u0 a4 1 a3 (x + 25) (x20_numbers_l90 N W qa (x + 13) t u0 a4 a3 (x + 25) K f) K r.2) Φ := by
      intro hne
      rw [if_neg hne] at hR
      have wk : wantK k = 1 := by unfold wantK; rw [if_neg (by omega)]
      rw [wk] at hR
      unfold x20_numbers_l90_j127
      refine Ev.g cw1.1 ?_
      rw [q3.2.1]
      by_cases c1 : (V cs[i]).1 = 1
      · rw [if_pos c1] at hR
        obtain ⟨-, b1, b2⟩ := q3.1.k1 c1
        refine Ev.f (fun q => q c1) (Ev.g wl1.1 ?_)
        rw [q3.2.2.2.1]
        refine Ev.c (c_tally wl1 co1 (ok.mono (by omega)) b1 b2) (fun s2 _ q6 => ?_)
        have Y2 : Ey x (Pe x t u) r.2 s2 := (q6.1.mono (fun a k p => Or.inl p.1)).y
        refine ih (i + 1) f s2 _ (by omega) (by omega) ((Y.tr Y1).tr Y2) (wl1.ey Y2) ((vv.pe ht hu Y1 hv).pe ht hu Y2 hv) (q4.same (by rw [q6.1.rR]) (fun k _ _ => q6.1.rI (by unfold Pt15; omega))) (fun k hk => ⟨by rw [q6.1.rI (by unfold Pt15; omega)]; exact (zo1 k hk).1, by rw [q6.1.rL (by unfold Pt15; omega)]; exact (zo1 k hk).2⟩) (fun i j a b c => ⟨by rw [q6.1.rI (by unfold Pt15; omega)]; exact (zp1 i j a b c).1, by rw [q6.1.rL (by unfold Pt15; omega)]; exact (zp1 i j a b c).2⟩) q6.2 (ok.snoc b1 b2) hR
      · rw [if_neg c1] at hR
        exact Ev.g c1 (ih (i + 1) f r.2 acc (by omega) (by omega) (Y.tr Y1) wl1 (vv.pe ht hu Y1 hv) q4 zo1 zp1 co1 (ok.mono (by omega)) hR)
    by_cases c4 : (V cs[i]).1 = 4
    · rw [if_pos c4]
      refine Ev.f (by decide) ?_
      by_cases c36 : k = 36
      · exact Ev.g (by rw [ha4, if_pos c36]; decide) (J127 (fun q => q.2 c36))
      · rw [if_pos ⟨c4, c36⟩] at hR
        have ws := Tg.ws wl1 ht hu
        refine Ev.f (fun q => q (by rw [ha4, if_neg c36])) (Ev.g ws.1 (Ev.c (c_copy ws cw1 q3 (by unfold Tg at ht; omega)) (fun s2 _ q6 => ?_)))
        obtain ⟨f, rfl⟩ : ∃ j, f = j + 1 := ⟨f - 1, by omega⟩
        unfold x20_numbers_l90
        refine Ev.g rfl (hK s2 _ ((Y.tr Y1).tr (q6.1.mono (fun _ _ p => p.pe)).y) (fun k hk => ⟨by rw [q6.1.rI (by unfold Wp; unfold Tg at ht; omega)]; exact (zo1 k hk).1, by rw [q6.1.rL (by unfold Wp; unfold Tg at ht; omega)]; exact (zo1 k hk).2⟩) (fun i j a b c => ⟨by rw [q6.1.rI (by unfold Wp; omega)]; exact (zp1 i j a b c).1, by rw [q6.1.rL (by unfold Wp; omega)]; exact (zp1 i j a b c).2⟩) (Or.inr ⟨_, hR, rfl, q6.2⟩))
    · rw [if_neg c4]
      exact Ev.g rfl (J127 (fun q => c4 q.1))
theorem c_isThere {q : Nat} {p : Pt} (hN : 40 ≤ N) (wl : WL σ x) (k : CCx σ x nv cx) (hL : LabC σ q p) (hp : PtOk p) (hn : pW p < nv) : x3_isThere N (x + 13) q σ = some (if isGone cx p = true then 0 else 1) := by
  have kd := hL.kind
  have hv := hp.ver
  unfold x3_isThere
  rw [if_pos (Or.inr kd.2.2.2)]
  by_cases k5 : pK p = 5
  · have t15 := kd.1.mpr k5
    obtain ⟨t14, ep⟩ := hL.kS t15
    have eW : mI σ q 1 = pW p := by rw [ep]; rfl
    have e1 : mI σ (mR σ q 0) 0 = pR1 p := by rw [ep]; rfl
    have e2 : mI σ (mR σ q 0) 1 = pC1 p := by rw [ep]; rfl
    obtain ⟨-, sh, -, -⟩ := k.2.2.2.2 _ hv.1 hn
    rw [if_pos t15, if_pos (Or.inr t15), if_pos t15, if_pos (Or.inr t15), if_pos wl.1, eW, c_sheetOf wl k hv.1 hn, Option.bind_some, if_pos t14, c_isIn hN t14 sh, Option.bind_some, e1, e2]
    have b1 := pl_ge (cx.1 (pW p)).1 (pR1 p)
    have b2 := pl_ge (cx.1 (pW p)).2 (pC1 p)
    have eg : isGone cx p = decide (cxSpot cx p < 0) := by unfold isGone; rw [decide_eq_false (show ¬ pK p = 4 by omega), decide_eq_true k5]; rfl
    have es : cxSpot cx p < 0 ↔ (pl (cx.1 (pW p)).1 (pR1 p) < 0 ∨ pl (cx.1 (pW p)).2 (pC1 p) < 0) := by
      unfold cxSpot spotAt
      split <;> omega
    by_cases o : pl (cx.1 (pW p)).1 (pR1 p) < 0 ∨ pl (cx.1 (pW p)).2 (pC1 p) < 0
    · rw [if_pos o, if_pos (Or.inl rfl), eg, if_pos (decide_eq_true (es.mpr o))]
    · rw [if_neg o, if_pos (Or.inr rfl), eg, if_neg (fun q => o (es.mp (of_decide_eq_true q)))]
  · rw [if_neg (fun e => k5 (kd.1.mp e)), if_pos (Or.inr kd.2.2.2)]
    have eg : isGone cx p = decide (pK p = 4) := by unfold isGone; rw [decide_eq_false k5, Bool.false_and, Bool.or_false]
    by_cases k4 : pK p = 4
    · rw [if_pos (kd.2.2.1.mpr k4), eg, if_pos (decide_eq_true k4)]
    · rw [if_neg (fun e => k4 (kd.2.2.1.mp e)), eg, if_neg (fun q => k4 (of_decide_eq_true q))]
theorem c_numbers_l {q j k : Nat} {p : Pt} {ls : List Fm} {a4 : Int} {W : Nat → Nat → Nat → gMem → Option gMem} {K : Int → gMem → Option gMem} {Φ : gMem → Prop} {σ0 : gMem} {R : Vl ⊕ List Int} (hN : 400 ≤ N) (hk : 33 ≤ k ∧ k ≤ 36) (ha4 : a4 = if k = 36 then 1 else 0) (h8 : ls.length ≤ 8) (ht : Tg x u t) (hu : u + ls.length ≤ 700) (ne : k ≠ 36 → ∀ j (hj : j < ls.length), (ev cx ls[j]).1 ≠ 4)
    (hK : ∀ (s : gMem) (g : Int) (i : Nat), SA σ0 s x t u nv cx n q j p ls i → ((∃ acc, R = .inr acc ∧ g = 1 ∧ CoC s x acc ∧ AccOk 2560 acc) ∨ (∃ e, R = .inl e ∧ g = 0 ∧ VW s t e)) → Ev (K g s) Φ) :
    ∀ (m i f : Nat) (s : gMem) (acc : List Int), i + m = ls.length → m + 1 < f → SA σ0 s x t u nv cx n q j p ls i → CoC s x acc → AccOk (320 * i) acc → R = mArgs cx k ((ls.drop i).map (fun y => (lab y, ev cx y))) acc → Ev (x20_numbers_l39 N W q (x + 13) t u a4 K f 1 i s) Φ := by
  intro m
  induction m with
  | zero =>
    intro i f s acc h1 h2 g co ok hR
    obtain ⟨f, rfl⟩ : ∃ j, f = j + 1 := ⟨f - 1, by omega⟩
    obtain ⟨g1, g2, g3, g4, g5⟩ := id g
    have hA := g2.2.2.2.2.2.1
    unfold x20_numbers_l39
    refine Ev.f (by decide) (Ev.g g3.1 (Ev.g g3.2.2.2.1 ?_))
    rw [g3.2.2.2.2, w32_i (by omega) (by omega)]
    refine Ev.g (by omega) (hK s _ i g (Or.inl ⟨acc, ?_, rfl, co, ok.mono (by omega)⟩))
    rw [hR, List.drop_eq_nil_of_le (by omega)]; rfl
  | succ m ih =>
    intro i f s acc h1 h2 g co ok hR
    obtain ⟨f, rfl⟩ : ∃ j, f = j + 1 := ⟨f - 1, by omega⟩
    obtain ⟨g1, g2, g3, g4, g5⟩ := id g
    have hi : i < ls.length := by omega
    have hA := g2.2.2.2.2.2.1
    have dr : (ls.drop i).map (fun y => (lab y, ev cx y)) = (lab ls[i], ev cx ls[i]) :: (ls.drop (i + 1)).map (fun y => (lab y, ev cx y)) := by rw [List.drop_eq_getElem_cons hi, List.map_cons]
    rw [dr] at hR
    unfold mArgs at hR
    have sp := g2.2.2.2.2.2.2.1 i hi
    obtain ⟨L, O⟩ := sp.lab
    have kd := L.kind
    have ver := isp_verL sp (g2.2.2.ver hi)
    have wl := g2.1
    have ws := Tg.ws wl ht (by omega)
    unfold x20_numbers_l39
    refine Ev.f (by decide) (Ev.g g3.1 (Ev.g g3.2.2.2.1 ?_))
    rw [g3.2.2.2.2, w32_i (by omega) (by omega), tn, g3.ch]
    refine Ev.f (by omega) (Ev.g (by omega) (Ev.g (Or.inr kd.2.2.2) ?_))
    have J : ∀ (gd : Int) (s2 : gMem), SA σ0 s2 x t u nv cx n q j p ls (i + 1) → (match mStep cx k (lab ls[i], ev cx ls[i]) acc with
        | .inl e => gd = 0 ∧ VW s2 t e
        | .inr acc' => gd = 1 ∧ CoC s2 x acc' ∧ AccOk (320 * (i + 1)) acc') → Ev (x20_numbers_l39_j244 N W q (x + 13) t u a4 gd i (x20_numbers_l39 N W q (x + 13) t u a4 K f) K s2) Φ := by
      intro gd s2 g2' hm
      unfold x20_numbers_l39_j244
      rw [inc32 (by omega)]
      cases hst : mStep cx k (lab ls[i], ev cx ls[i]) acc with
      | inl e =>
        rw [hst] at hm hR
        obtain ⟨f, rfl⟩ : ∃ j, f = j + 1 := ⟨f - 1, by omega⟩
        unfold x20_numbers_l39
        exact Ev.g hm.1 (hK s2 gd (i + 1) g2' (Or.inr ⟨e, hR, hm.1, hm.2⟩))
      | inr acc' =>
        rw [hst] at hm hR
        rw [hm.1]
        exact ih (i + 1) f s2 acc' (by omega) (by omega) g2' hm.2.1 hm.2.2 hR
    by_cases k6 : pK (lab ls[i]) = 6
    · have t17 := kd.2.1.mpr k6
      have pv := O.ver
      refine Ev.g t17 (Ev.g (by omega) (Ev.g (Or.inr t17) (Ev.g wl.1 (Ev.c (c_opens (by omega) wl g2.2.1 ws L O t17 ver (by unfold Tg at ht; omega)) (fun r _ q1 => ?_)))))
      cases hcs : cxArea cx (lab ls[i]) with
      | none =>
        rw [hcs] at q1
        obtain ⟨r0, q7⟩ := q1
        have es : mStep cx k (lab ls[i], ev cx ls[i]) acc = .inl (vErr 1) := by unfold mStep; rw [if_pos k6, hcs]
        obtain ⟨N', rfl⟩ : ∃ j, N = j + 1 := ⟨N - 1, by omega⟩
        rw [r0]
        unfold x20_numbers_l90
        refine Ev.g rfl (J 0 r.2 (g.next ht (by omega) (q7.1.mono (fun _ _ p => p.pe)).y (by rw [q7.1.rI (by unfold Wp; unfold Tg at ht; omega)]) (fun k _ _ c => ⟨⟨by rw [q7.1.rI (by unfold Wp pw; unfold Tg at ht; omega)], by rw [q7.1.rL (by unfold Wp pw; unfold Tg at ht; omega)]⟩, by rw [q7.1.rI (by unfold Wp pw; unfold Tg at ht; omega)]⟩)) ?_)
        rw [es]; exact ⟨rfl, q7.2⟩
      | some cs =>
        rw [hcs] at q1
        obtain ⟨r1, Y6, ar⟩ := q1
        have YP : Ey x (Pe x t u) s r.2 := Y6.mono (fun a k p => Or.inl p.1)
        have wl6 := wl.ey YP
        obtain ⟨-, -, hv, vv⟩ := g2.2.1.2.2.2.2 _ pv.1 ver
        have vv6 := vv.pe (t := t) (u := u) ht (by omega) YP hv
        have hl := ar.len
        have co6 : CoC r.2 x acc := co.same (fun k hk => ⟨Y6.rI (by omega), Y6.rL (by omega)⟩)
        rw [r1, wl6.2.2.2.1]
        refine c_numbers_a (σ0 := r.2) (n0 := 320 * i) (R := mArea k (cs.map (cx.2 (pW (lab ls[i])))) acc) (V := cx.2 (pW (lab ls[i]))) (cs := cs) hk ha4 ht (by omega) hv (by omega) (fun s2 gd Y7 zo zp hh => ?_) cs.length 0 N r.2 acc (by omega) (by omega) Ey.rf wl6 vv6 ar (fun _ _ => ⟨rfl, rfl⟩) (fun _ _ _ _ _ => ⟨rfl, rfl⟩) co6 ok (by rw [List.drop_zero])
        have es : mStep cx k (lab ls[i], ev cx ls[i]) acc = mArea k (cs.map (cx.2 (pW (lab ls[i])))) acc := by unfold mStep; rw [if_pos k6, hcs]
        refine J gd s2 (g.next ht (by omega) (YP.tr Y7) (by rw [(zo 3 (by omega)).1, Y6.rI (by omega)]) (fun k _ _ c => ?_)) ?_
        · have z1 := zp (pw x u k) c (by unfold pw; omega) (by unfold pw; unfold Tg at ht; omega) (by unfold pw; unfold Tg at ht; omega)
          have z2 := zp (pw x u k + 1) c (by unfold pw; omega) (by unfold pw; unfold Tg at ht; omega) (by unfold pw; unfold Tg at ht; omega)
          exact ⟨⟨by rw [z1.1, Y6.rI (by unfold pw; omega)], by rw [z1.2, Y6.rL (by unfold pw; omega)]⟩, by rw [z2.1, Y6.rI (by unfold pw; omega)]⟩
        · rw [es]
          rcases hh with ⟨acc', e1, e2, e3, e4⟩ | ⟨e, e1, e2, e3⟩
          · rw [e1]; exact ⟨e2, e3, e4.mono (by omega)⟩
          · rw [e1]; exact ⟨e2, e3⟩
    · have epw : x + 29 + 2 * (u + i) = pw x u i := rfl
      have eui : ((u : Int) + (i : Int)).toNat = u + i := by omega
      have us : WS s (pw x u i) := wl.2.2.2.2.2.2.2.2.2.2.1 (u + i) (by omega)
      have gi := g5 i hi (Nat.le_refl i)
      have tne : t ≠ pw x u i := by unfold Tg at ht; unfold pw; omega
      refine Ev.f (fun e => k6 (kd.2.1.mp e)) (Ev.g wl.1 ?_)
      rw [wl.2.2.1, eui, wl.2.2.2.2.2.2.2.1 (u + i) (by omega), epw]
      refine Ev.g wl.2.2.2.2.2.1 (Ev.g (by rw [wl.2.2.2.2.2.2.1]; omega) ?_)
      have TL : ∀ (s2 : gMem) (y : Int), WL s2 x → CoC s2 x acc → SA σ0 s2 x t u nv cx n q j p ls (i + 1) → -1000000000000000 ≤ y → y ≤ 1000000000000000 → mStep cx k (lab ls[i], ev cx ls[i]) acc = .inr (acc ++ [y]) → Ev ((x3_tally (x + 13) y s2).bind (fun r => x20_numbers_l39_j244 N W q (x + 13) t u a4 1 i (x20_numbers_l39 N W q (x + 13) t u a4 K f) K r)) Φ := by
        intro s2 y wl2 co2 sa b1 b2 es
        refine Ev.c (c_tally wl2 co2 (ok.mono (by omega)) b1 b2) (fun s3 _ q3 => J 1 s3 ?_ (by rw [es]; exact ⟨rfl, q3.2, (ok.snoc b1 b2).mono (by omega)⟩))
        obtain ⟨c1, c2, c3, c4, c5⟩ := sa
        have Y3 : Ey x (Pe x t u) s2 s3 := (q3.1.mono (fun a k p => Or.inl p.1)).y
        exact ⟨c1.tr Y3, c2.pe ht (by omega) Y3, c3.ey c2.1 Y3, by rw [q3.1.rI (by unfold Pt15; omega)]; exact c4, fun k hk hl => (c5 k hk hl).ex q3.1 (fun c p => by unfold Pt15 pw at p; omega) (fun c p => by unfold Pt15 pw at p; omega)⟩
      by_cases c36 : k = 36
      · have es : mStep cx k (lab ls[i], ev cx ls[i]) acc = if isGone cx (lab ls[i]) = true then Sum.inl (vErr 1) else .inr (if (ev cx ls[i]).1 = 1 then acc ++ [(ev cx ls[i]).2.1] else acc) := by
          unfold mStep; rw [if_neg k6, if_pos c36]
        refine Ev.f (by rw [ha4, if_pos c36]; decide) (Ev.g (by omega) (Ev.e (c_isThere (by omega) wl g2.2.1 L O ver) ?_))
        have g' : SA σ0 s x t u nv cx n q j p ls (i + 1) := ⟨g1, g2, g3, g4, fun k hk hl => g5 k hk (by omega)⟩
        by_cases hg : isGone cx (lab ls[i]) = true
        · rw [if_pos hg] at es ⊢
          refine Ev.f (fun q => q rfl) (Ev.g ws.1 (Ev.c (c_fail ws (by decide) (by decide)) (fun s2 _ q2 => J 0 s2 ?_ (by rw [es]; exact ⟨rfl, q2.2⟩))))
          exact g.next ht (by omega) (q2.1.mono (fun _ _ p => p.pe)).y (by rw [q2.1.rI (by unfold Wp; unfold Tg at ht; omega)]) (fun k _ _ c => ⟨⟨by rw [q2.1.rI (by unfold Wp pw; unfold Tg at ht; omega)], by rw [q2.1.rL (by unfold Wp pw; unfold Tg at ht; omega)]⟩, by rw [q2.1.rI (by unfold Wp pw; unfold Tg at ht; omega)]⟩)
        · rw [if_neg hg] at es ⊢
          refine Ev.g (by decide) (Ev.g us.1 ?_)
          rw [gi.2.1, gi.2.2.2.1]
          by_cases c1 : (ev cx ls[i]).1 = 1
          · obtain ⟨-, b1, b2⟩ := gi.1.k1 c1
            rw [if_pos c1] at es
            exact Ev.f (fun q => q c1) (TL s _ wl co g' b1 b2 es)
          · rw [if_neg c1] at es
            exact Ev.g c1 (J 1 s g' (by rw [es]; exact ⟨rfl, co, ok.mono (by omega)⟩))
      · have es : mStep cx k (lab ls[i], ev cx ls[i]) acc = if (wantN (ev cx ls[i])).1 = 1 then Sum.inr (acc ++ [(wantN (ev cx ls[i])).2.1]) else .inl (wantN (ev cx ls[i])) := by
          have e1 : wantM k (ev cx ls[i]) = wantN (ev cx ls[i]) := by unfold wantM; rw [if_neg (by omega)]
          have e2 : wantK k = 1 := by unfold wantK; rw [if_neg (by omega)]
          unfold mStep; rw [if_neg k6, if_neg c36, e1, e2]
        refine Ev.g (by rw [ha4, if_neg c36]) (Ev.g us.1 (Ev.c (c_wantNumber us gi) (fun r _ q1 => ?_)))
        have g' : SA σ0 r.2 x t u nv cx n q j p ls (i + 1) := g.next ht (by omega) (q1.2.1.mono (fun a k p => by unfold Wp pw at p; unfold Pe; omega)).y (by rw [q1.2.1.rI (by unfold Wp pw; omega)]) (fun k _ _ c => ⟨⟨by rw [q1.2.1.rI (by unfold Wp pw; omega)], by rw [q1.2.1.rL (by unfold Wp pw; omega)]⟩, by rw [q1.2.1.rI (by unfold Wp pw; omega)]⟩)
        have us1 := us.ex q1.2.1
        have ws1 := ws.ex q1.2.1
        have co1 : CoC r.2 x acc := co.same (fun k hk => ⟨q1.2.1.rI (by unfold Wp pw; omega), q1.2.1.rL (by unfold Wp pw; omega)⟩)
        rw [q1.1]
        by_cases w1 : (wantN (ev cx ls[i])).1 = 1
        · rw [if_pos w1] at es ⊢
          obtain ⟨-, b1, b2⟩ := q1.2.2.1.k1 w1
          refine Ev.f (by decide) ?_
          rw [q1.2.2.2.2.2.1]
          exact TL r.2 _ (wl.ey q1.2.1.y) co1 g' b1 b2 es
        · rw [if_neg w1] at es ⊢
          refine Ev.g rfl (Ev.g ws1.1 (Ev.c (c_copy ws1 us1 q1.2.2 tne) (fun s2 _ q2 => ?_)))
          refine J 0 s2 ?_ (by rw [es]; exact ⟨rfl, q2.2⟩)
          obtain ⟨b1, b2, b3, b4, b5⟩ := g'
          have Y2 : Ey x (Pe x t u) r.2 s2 := (q2.1.mono (fun _ _ p => p.pe)).y
          exact ⟨b1.tr Y2, b2.pe ht (by omega) Y2, b3.ey b2.1 Y2, by rw [q2.1.rI (by unfold Wp; unfold Tg at ht; omega)]; exact b4, fun k hk hl => (b5 k hk hl).ex q2.1 (fun c p => by unfold Wp pw at p; unfold Tg at ht; omega) (fun c p => by unfold Wp pw at p; unfold Tg at ht; omega)⟩
end CoEv10
