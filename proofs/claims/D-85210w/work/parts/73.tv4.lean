/-! ===== PHASE 2: the twin's values: two of them ===== -/
section TwVal4
variable {N h d : Nat} {σ σ' s : gMem} {v w a b : Vl}
/-- what lies from depth d on -/
def Hg (h d q k : Nat) : Prop := (q = h + 33 ∧ d ≤ k) ∨ (q = h + 34 ∧ d ≤ k) ∨ (q = h + 35 ∧ d ≤ k) ∨ (q = h + 36 ∧ 24 * d ≤ k) ∨ q = h + 37
def HG (h d : Nat) (σ σ' : gMem) (v : Vl) : Prop := Ex (Hg h d) σ σ' ∧ (TB σ h → TB σ' h) ∧ VH σ' h d v
theorem Hp.g {e q k : Nat} (x : Hp h e q k) (hd : d ≤ e) : Hg h d q k := by unfold Hp at x; unfold Hg; omega
theorem HS.g (x : HS h d σ σ' v) : HG h d σ σ' v := ⟨x.1.mono (fun _ _ p => p.g (Nat.le_refl _)), x.2.1, x.2.2⟩
theorem HG.tr (x : Ex (Hg h d) σ s) (t : TB σ h → TB s h) (y : HG h d s σ' v) : HG h d σ σ' v := ⟨x.tr y.1, fun z => y.2.1 (t z), y.2.2⟩
theorem VH.lt {e : Nat} (x : Ex (Hg h d) σ σ') (g : VH σ h e w) (n : e < d) : VH σ' h e w :=
  VG.ex x g (by unfold Hg; omega) (by unfold Hg; omega) (by unfold Hg; omega) (fun i hi => by unfold Hg; omega)
theorem Hg.le {q k : Nat} (x : Hg h d q k) : h ≤ q := by unfold Hg at x; omega
theorem gl_cons0 (x : Int) (l : List Int) : gl (x :: l) 0 = x := rfl
theorem gl_consS (x : Int) (l : List Int) (i : Nat) : gl (x :: l) (i + 1) = gl l i := by unfold gl; rw [List.getElem?_cons_succ]
/-- two texts compared by places -/
theorem ordT_at : ∀ (s t : List Int) (m : Nat), m ≤ s.length → m ≤ t.length → (∀ i, i < m → gl s i = gl t i) → ordT s t = ordT (s.drop m) (t.drop m) := by
  intro s
  induction s with
  | nil => intro t m h1 _ _; have : m = 0 := by simpa using h1
           subst this; rfl
  | cons x s ih =>
    intro t m h1 h2 h3
    cases m with
    | zero => rfl
    | succ m =>
      cases t with
      | nil => simp at h2
      | cons y t =>
        have e : x = y := h3 0 (by omega)
        conv => lhs; unfold ordT
        rw [if_pos e, List.drop_succ_cons, List.drop_succ_cons]
        exact ih t m (by simp at h1; omega) (by simp at h2; omega) (fun i hi => by have := h3 (i + 1) (by omega); rwa [gl_consS, gl_consS] at this)
theorem ordT_nil (s t : List Int) (h : s = [] ∨ t = []) : ordT s t = if s.length < t.length then -1 else if t.length < s.length then 1 else 0 := by
  rcases h with rfl | rfl
  · cases t with
    | nil => rfl
    | cons y t => show -1 = _; rw [if_pos (by simp)]
  · cases s with
    | nil => rfl
    | cons y t => show 1 = _; rw [if_neg (by simp), if_pos (by simp)]
theorem drop_cons {l : List Int} {i : Nat} (h : i < l.length) : l.drop i = gl l i :: l.drop (i + 1) := by
  unfold gl; rw [List.getElem?_eq_getElem h]; exact List.drop_eq_getElem_cons h
theorem t_order_l {e : Nat} {t u : List Int} {K : Option Int} (hd : d < 200) (he : e < 200) (ht : t.length ≤ 24) (hu : u.length ≤ 24) (gt : ∀ i, i < t.length → mI σ (h + 36) (24 * d + i) = gl t i) (gu : ∀ i, i < u.length → mI σ (h + 36) (24 * e + i) = gl u i) (hK : (∀ i, i < min t.length u.length → gl t i = gl u i) → K = some (ordT t u)) : ∀ (m i f : Nat), i + m = min t.length u.length → m < f → (∀ j, j < i → gl t j = gl u j) → tw_order_l94 N h σ d e (min t.length u.length : Nat) K f i = some (ordT t u) := by
  intro m
  induction m with
  | zero =>
    intro i f h1 h2 h3
    obtain ⟨f, rfl⟩ : ∃ g, f = g + 1 := ⟨f - 1, by omega⟩
    unfold tw_order_l94
    rw [if_pos (by omega)]
    exact hK (fun j hj => h3 j (by omega))
  | succ m ih =>
    intro i f h1 h2 h3
    obtain ⟨f, rfl⟩ : ∃ g, f = g + 1 := ⟨f - 1, by omega⟩
    unfold tw_order_l94
    have e1 : (24 * (d : Int) + (i : Int)).toNat = 24 * d + i := by omega
    have e2 : (24 * (e : Int) + (i : Int)).toNat = 24 * e + i := by omega
    rw [if_neg (by omega), if_pos (by omega), if_pos (by omega), e1, e2, gt i (by omega), gu i (by omega)]
    by_cases q : gl t i = gl u i
    · rw [if_pos q, inc32 (by omega)]
      exact ih (i + 1) f (by omega) (by omega) (fun j hj => by
        by_cases hj' : j = i
        · rw [hj']; exact q
        · exact h3 j (by omega))
    · rw [if_neg q, ordT_at t u i (by omega) (by omega) h3, drop_cons (l := t) (by omega), drop_cons (l := u) (by omega)]
      unfold ordT
      rw [if_neg q]
      by_cases q' : gl t i < gl u i
      · rw [if_neg (by omega), if_pos q']
      · rw [if_pos (by omega), if_neg q']
theorem t_order {e : Nat} (hd : d < 200) (he : e < 200) (hN : 30 ≤ N) (ga : VH σ h d a) (gb : VH σ h e b) (hk : a.1 = b.1) : tw_order N h d e σ = some (ordV a b) := by
  unfold tw_order
  rw [if_pos (dG hd), tn, ga.2.1]
  by_cases h2 : a.1 = 2
  · have ha := ga.2.2.2 h2
    have hb := gb.2.2.2 (by omega)
    have la := ga.1.txt.1
    have lb := gb.1.txt.1
    rw [if_pos h2, if_pos (dG hd), tn, if_pos (dG he), ha.1, hb.1]
    have e1 : tw_least (a.2.2.length : Int) (b.2.2.length : Int) σ = some ((min a.2.2.length b.2.2.length : Nat) : Int) := by
      unfold tw_least
      by_cases q : (b.2.2.length : Int) ≤ a.2.2.length
      · rw [if_pos q]; congr 1; omega
      · rw [if_neg q]; congr 1; omega
    rw [e1, Option.bind_some]
    have ev : ordV a b = ordT a.2.2 b.2.2 := by unfold ordV; rw [if_pos h2]
    rw [ev]
    refine t_order_l hd he la lb ha.2 hb.2 (fun hall => ?_) (min a.2.2.length b.2.2.length) 0 N (by omega) (by omega) (fun j hj => by omega)
    rw [if_pos (dG hd), if_pos (dG he), ordT_at _ _ (min a.2.2.length b.2.2.length) (by omega) (by omega) hall, ordT_nil _ _ (by
      by_cases q : a.2.2.length ≤ b.2.2.length
      · exact Or.inl (List.drop_eq_nil_of_le (by omega))
      · exact Or.inr (List.drop_eq_nil_of_le (by omega))), List.length_drop, List.length_drop, if_pos (dG hd), if_pos (dG he)]
    by_cases q1 : a.2.2.length < b.2.2.length
    · rw [if_neg (by omega), if_pos (by omega)]
    · rw [if_pos (by omega), if_neg (c := a.2.2.length - _ < _) (by omega)]
      by_cases q2 : b.2.2.length < a.2.2.length
      · rw [if_neg (by omega), if_pos (by omega)]
      · rw [if_pos (by omega), if_neg (by omega)]
  · rw [if_neg h2, if_pos (dG hd)]
    have z : ∀ (t u : Int), t = a.2.1 → u = b.2.1 → tw_order_j49 N h σ t u = some (ordV a b) := by
      intro t u ht hu
      unfold tw_order_j49 ordV
      rw [if_neg h2, ht, hu]
      by_cases q1 : b.2.1 ≤ a.2.1
      · rw [if_pos (gcmp_nn.mpr q1), if_neg (c := a.2.1 < b.2.1) (by omega)]
        by_cases q2 : a.2.1 ≤ b.2.1
        · rw [if_pos (gcmp_np.mpr q2), if_neg (by omega)]
        · rw [if_neg (fun q => q2 (gcmp_np.mp q)), if_pos (by omega)]
      · rw [if_neg (fun q => q1 (gcmp_nn.mp q)), if_pos (by omega)]
    have J : ∀ t : Int, t = a.2.1 → tw_order_j29 N h σ e t = some (ordV a b) := by
      intro t ht
      unfold tw_order_j29
      rw [if_pos (dG he), tn, gb.2.1]
      by_cases h0 : b.1 = 0
      · rw [if_neg (fun q => q h0)]; exact z _ _ ht (by rw [gb.1.k0 h0]; rfl)
      · rw [if_pos h0, if_pos (dG he)]; exact z _ _ ht (gb.2.2.1 h0 (by omega))
    by_cases h0 : a.1 = 0
    · rw [if_neg (fun q => q h0)]; exact J _ (by rw [ga.1.k0 h0]; rfl)
    · rw [if_pos h0, if_pos (dG hd)]; exact J _ (ga.2.2.1 h0 h2)
theorem t_holds {o : Int} {k : Nat} : tw_holds o k σ = some (if holds o k then 1 else 0) := by
  unfold tw_holds
  match k with
  | 0 => rw [if_pos (by rfl)]; unfold holds; by_cases q : o = 0 <;> simp [q]
  | 1 => rw [if_neg (by omega), if_pos (by rfl)]; unfold holds; by_cases q : o = 0 <;> simp [q]
  | 2 => rw [if_neg (by omega), if_neg (by omega), if_pos (by rfl)]; unfold holds; by_cases q : 0 ≤ o <;> simp [q] <;> omega
  | 3 => rw [if_neg (by omega), if_neg (by omega), if_neg (by omega), if_pos (by rfl)]; unfold holds; by_cases q : 0 < o <;> simp [q] <;> omega
  | 4 => rw [if_neg (by omega), if_neg (by omega), if_neg (by omega), if_neg (by omega), if_pos (by rfl)]; unfold holds; by_cases q : o ≤ 0 <;> simp [q] <;> omega
  | k + 5 =>
    rw [if_neg (by omega), if_neg (by omega), if_neg (by omega), if_neg (by omega), if_neg (by omega)]
    show _ = some (if decide (0 ≤ o) then (1 : Int) else 0)
    by_cases q : o < 0
    · rw [if_pos q, decide_eq_false (by omega)]; rfl
    · rw [if_neg q, decide_eq_true (by omega)]; rfl
theorem VOk.aO (ha : VOk a) : VOk (asO a b) := by unfold asO; split; exact ha; exact ha.ad
/-- the twin's way of comparing -/
def vCmpT (k : Nat) (a b : Vl) : Vl :=
  if (asO a b).1 ≠ (asO b (asO a b)).1 then (if k < 2 then vIs (decide (k = 1)) else vErr 3) else vIs (holds (ordV (asO a b) (asO b (asO a b))) k)
theorem vCmpT_eq {k : Nat} (ha : VOk a) (hb : VOk b) : vCmpT k a b = vCmp k a b := by
  unfold vCmpT vCmp
  dsimp only
  by_cases h0 : a.1 = 0
  · by_cases h1 : b.1 = 0
    · rw [ha.k0 h0, hb.k0 h1]; rfl
    · have e1 : asO a b = adapt a b := by unfold asO; rw [if_neg (by omega)]
      have e2 : asO b (adapt a b) = adapt b (adapt a b) := by unfold asO; rw [if_neg (by omega)]
      rw [e1, e2]
  · have e1 : asO a b = adapt a b := by unfold asO; rw [if_neg (by omega)]
    have e3 : adapt a b = a := by unfold adapt; rw [if_pos h0]
    have e2 : asO b (adapt a b) = adapt b (adapt a b) := by unfold asO; rw [e3, if_neg (by omega)]
    rw [e1, e2]
theorem asO_n4 (ha : VOk a) (h4 : a.1 ≠ 4) : (asO a b).1 ≠ 4 := by
  unfold asO
  split
  · exact h4
  · unfold adapt
    split
    · exact h4
    · split
      · decide
      · split
        · decide
        · decide
theorem sc32 (hd : d < 200) : w32 ((d : Int) + 1) = ((d + 1 : Nat) : Int) := inc32 (by omega)
theorem dG1 (hd : d + 1 < 200) : (0 : Int) ≤ (d : Int) + 1 ∧ (d : Int) + 1 < ((200 : Nat) : Int) := by omega
theorem tn1 (n : Nat) : ((n : Int) + 1).toNat = n + 1 := by omega
theorem t_compare {k : Nat} (hd : d + 1 < 200) (hN : 30 ≤ N) (cw : Cw σ h) (ga : VH σ h d a) (gb : VH σ h (d + 1) b) (h4 : a.1 ≠ 4) (h4' : b.1 ≠ 4) : Ev (tw_compare N h d k σ) (fun r => HG h d σ r (vCmp k a b)) := by
  unfold tw_compare
  rw [sc32 (by omega)]
  refine Ev.c (t_asOther (by omega) hd hN cw ga gb h4') (fun s1 _ q1 => ?_)
  have gb1 := VH.ne q1.1 gb (by omega)
  have cw1 := cw.ex q1.1 (fun _ _ p => p.le)
  refine Ev.c (t_asOther (h := h) (a := b) (b := asO a b) hd (by omega) hN cw1 gb1 q1.2.2 (asO_n4 ga.1 h4)) (fun s2 _ q2 => ?_)
  have ga2 := VH.ne q2.1 q1.2.2 (by omega)
  have X : Ex (Hg h d) σ s2 := (q1.1.mono (fun _ _ p => p.g (Nat.le_refl _))).tr (q2.1.mono (fun _ _ p => p.g (Nat.le_succ _)))
  have T : TB σ h → TB s2 h := fun t => q2.2.1 (q1.2.1 t)
  rw [← vCmpT_eq ga.1 gb.1]
  refine Ev.g (dG (by omega)) (Ev.g (dG1 hd) ?_)
  rw [tn, tn1, ga2.2.1, q2.2.2.2.1]
  unfold vCmpT
  by_cases hk : (asO a b).1 = (asO b (asO a b)).1
  · rw [if_neg (fun q => q hk), if_neg (fun q => q hk)]
    rw [t_order (by omega) hd hN ga2 q2.2.2 hk, Option.bind_some, t_holds, Option.bind_some]
    refine Ev.c (t_truth (by omega)) (fun r _ q => Ev.r ?_)
    have e : decide ((if holds (ordV (asO a b) (asO b (asO a b))) k then (1 : Int) else 0) ≠ 0) = holds (ordV (asO a b) (asO b (asO a b))) k := by
      cases holds (ordV (asO a b) (asO b (asO a b))) k <;> rfl
    rw [e] at q
    exact HG.tr X T q.g
  · rw [if_pos hk, if_pos hk]
    by_cases k2 : k < 2
    · rw [if_neg (by omega), if_pos k2]
      by_cases k1 : k = 1
      · rw [if_neg (by omega), decide_eq_true k1]
        exact Ev.c (t_truth (by omega)) (fun r _ q => Ev.r (HG.tr X T q.g))
      · rw [if_pos (by omega), decide_eq_false k1]
        exact Ev.c (t_truth (by omega)) (fun r _ q => Ev.r (HG.tr X T q.g))
    · rw [if_pos (by omega), if_neg k2]
      exact Ev.c (t_error (by omega) (by decide) (by decide)) (fun r _ q => Ev.r (HG.tr X T q.g))
theorem t_join_l {n m0 : Nat} {K : gMem → Option gMem} (hd : d + 1 < 200) (hn : n + m0 ≤ 24) : ∀ (m i f : Nat) (s : gMem), i + m = m0 → m < f → By s (h + 36) → tw_join_l46 N h d n m0 K f i s = K (wCI s (h + 36) (24 * (d + 1) + i) (h + 36) (24 * d + n + i) m) := by
  intro m
  induction m with
  | zero =>
    intro i f s h1 h2 _
    obtain ⟨f, rfl⟩ : ∃ g, f = g + 1 := ⟨f - 1, by omega⟩
    unfold tw_join_l46
    rw [if_pos (by omega), wCI_zero]
  | succ m ih =>
    intro i f s h1 h2 h6
    obtain ⟨f, rfl⟩ : ∃ g, f = g + 1 := ⟨f - 1, by omega⟩
    unfold tw_join_l46
    have e1 : (24 * ((d : Int) + 1) + (i : Int)).toNat = 24 * (d + 1) + i := by omega
    have e2 : (24 * (d : Int) + (n : Int) + (i : Int)).toNat = 24 * d + n + i := by omega
    rw [if_neg (by omega), if_pos (by omega), e1, if_pos (h6 _), if_pos (by omega), e2, inc32 (by omega)]
    unfold gLet
    dsimp only
    rw [ih (i + 1) f _ (by omega) (by omega) (h6.I (fun _ => h6 _))]
    congr 1
    exact wCI_front (by omega)
theorem gl_app1 {l m : List Int} {i : Nat} (h : i < l.length) : gl (l ++ m) i = gl l i := by unfold gl; rw [List.getElem?_append_left h]
theorem gl_app2 {l m : List Int} {i : Nat} (h : l.length ≤ i) : gl (l ++ m) i = gl m (i - l.length) := by unfold gl; rw [List.getElem?_append_right h]
theorem wantT_2 (ha : VOk a) : (wantT a).1 = 2 := by
  unfold wantT
  split
  · assumption
  · split
    · rfl
    · split <;> rfl
theorem t_join (hd : d + 1 < 200) (hN : 30 ≤ N) (tb : TB σ h) (ta : TA σ h) (cw : Cw σ h) (ga : VH σ h d a) (gb : VH σ h (d + 1) b) (h4 : a.1 ≠ 4) (h4' : b.1 ≠ 4) : Ev (tw_join N h d σ) (fun r => HG h d σ r (vJoin (wantT a) (wantT b))) := by
  unfold tw_join
  rw [sc32 (by omega)]
  refine Ev.c (t_wantsText (by omega) hN tb ta cw ga h4) (fun s1 _ q1 => ?_)
  refine Ev.c (t_wantsText hd hN (q1.2.1 tb) (ta.ex q1.1) (cw.ex q1.1 (fun _ _ p => p.le)) (VH.ne q1.1 gb (by omega)) h4') (fun s2 _ q2 => ?_)
  have ga2 := VH.ne q2.1 q1.2.2 (by omega)
  have gb2 := q2.2.2
  have X : Ex (Hg h d) σ s2 := (q1.1.mono (fun _ _ p => p.g (Nat.le_refl _))).tr (q2.1.mono (fun _ _ p => p.g (Nat.le_succ _)))
  have T : TB s2 h := q2.2.1 (q1.2.1 tb)
  have la := ga2.2.2.2 (wantT_2 ga.1)
  have lb := gb2.2.2.2 (wantT_2 gb.1)
  have ka := ga2.1.txt
  have kb := gb2.1.txt
  refine Ev.g (dG (by omega)) (Ev.g (dG1 hd) ?_)
  rw [tn, tn1, la.1, lb.1, w32_i (by omega) (by omega)]
  unfold vJoin
  by_cases h24 : 24 < (wantT a).2.2.length + (wantT b).2.2.length
  · rw [if_pos h24]
    refine Ev.f (by omega) (Ev.c (t_error (by omega) (by decide) (by decide)) (fun r _ q => Ev.r (HG.tr X (fun _ => T) q.g)))
  · rw [if_neg h24]
    refine Ev.g (by omega) ?_
    have e := t_join_l (N := N) (h := h) (n := (wantT a).2.2.length) (m0 := (wantT b).2.2.length) (K := fun s14 => if 0 ≤ (d : Int) ∧ (d : Int) < ((200 : Nat) : Int) then gLet (wI s14 (h + 35) d (((wantT a).2.2.length : Int) + ((wantT b).2.2.length : Int))) (fun s16 => some s16) else none) hd (by omega) (wantT b).2.2.length 0 N s2 (by omega) (by omega) T.1
    rw [show ((0 : Nat) : Int) = 0 from rfl] at e
    rw [e]
    refine Ev.g (dG (by omega)) (Ev.l (Ev.r ?_))
    have T3 : TB (wCI s2 (h + 36) (24 * (d + 1) + 0) (h + 36) (24 * d + (wantT a).2.2.length + 0) (wantT b).2.2.length) h := T.CI (fun i _ => T.1 _)
    refine HG.tr X (fun _ => T) ⟨(Ex.rf.CI (fun j h1 h2 => Or.inr (Or.inr (Or.inr (Or.inl ⟨rfl, by omega⟩))))).I (Or.inr (Or.inr (Or.inl ⟨rfl, Nat.le_refl _⟩))), fun _ => T3.I (fun e => by omega), ?_⟩
    refine VG.tx (by rw [List.length_append]; omega) (fun c hc => ?_) ?_ ?_ (fun i hi => ?_)
    · rcases List.mem_append.mp hc with q | q
      · exact ka.2 c q
      · exact kb.2 c q
    · rw [mI_wI, if_neg (by omega), mI_wCI, if_neg (by omega), ga2.2.1, wantT_2 ga.1]
    · rw [mI_wI, if_pos ⟨rfl, rfl⟩, w32_i (by omega) (by omega), List.length_append]; omega
    · rw [List.length_append] at hi
      rw [mI_wI, if_neg (by omega), mI_wCI]
      by_cases hl : i < (wantT a).2.2.length
      · rw [if_neg (by omega), gl_app1 hl]; exact la.2 i hl
      · rw [if_pos ⟨rfl, by omega, by omega⟩, gl_app2 (by omega), show 24 * (d + 1) + 0 + (24 * d + i - (24 * d + (wantT a).2.2.length + 0)) = 24 * (d + 1) + (i - (wantT a).2.2.length) by omega]
        exact lb.2 _ (by omega)
end TwVal4
