/-! ===== PHASE 2: the twin's formulas: parts worked out ===== -/
section TwEv6
variable {N h d s n : Nat} {σ σ' : gMem} {v w a b : Vl} {cx : Cx}
def EP (h d : Nat) (σ r : gMem) (v : Vl) : Prop := Ex (Pv h d) σ r ∧ TB r h ∧ VH r h d v
theorem EP.hs {s1 : gMem} (x : Ex (Pv h d) σ s1) (t : TB s1 h) (y : HS h d s1 σ' v) : EP h d σ σ' v := ⟨x.tr (y.1.mono (fun _ _ p => (p.g (Nat.le_refl _)).tv)), y.2.1 t, y.2.2⟩
theorem EP.hg {s1 : gMem} (x : Ex (Pv h d) σ s1) (t : TB s1 h) (y : HG h d s1 σ' v) : EP h d σ σ' v := ⟨x.tr (y.1.mono (fun _ _ p => p.tv)), y.2.1 t, y.2.2⟩
theorem EP.ht {s1 : gMem} (x : Ex (Pv h d) σ s1) (y : EP h d s1 σ' v) : EP h d σ σ' v := ⟨x.tr y.1, y.2⟩
/-- what works parts out, those at most n deep -/
def HW (h s : Nat) (cx : Cx) (n : Nat) (W : Int → Int → Int → gMem → Option gMem) : Prop :=
  ∀ (q d : Nat) (l : Fm) (σ : gMem), SpT σ h n q l → pK (lab l) ≠ 6 → TCx σ h s cx → TB σ h → d + l.length + 3 ≤ 200 → Ev (W q s d σ) (fun r => EP h d σ r (ev cx l))
/-- a part at q with what is under it -/
def Nd (σ : gMem) (h n q : Nat) (p : Pt) (ls : List Fm) : Prop :=
  LabT σ h q p ∧ PtOk p ∧ argsOk p (ls.map lab) ∧ ls.length = pA p ∧ ls.flatten.length ≤ q ∧ ∀ i (hi : i < ls.length), SpT σ h n (q - 1 - (ls.drop (i + 1)).flatten.length) ls[i]
theorem Nd.pv {q : Nat} {p : Pt} {ls : List Fm} (x : Ex (Pv h d) σ σ') (g : Nd σ h n q p ls) : Nd σ' h n q p ls :=
  ⟨g.1.pv x, g.2.1, g.2.2.1, g.2.2.2.1, g.2.2.2.2.1, fun i hi => (g.2.2.2.2.2 i hi).pv x⟩
theorem leastA_le (k : Nat) : leastA k ≤ 3 := by unfold leastA; split; omega; split <;> omega
theorem mostA_le (k : Nat) : mostA k ≤ 8 := by unfold mostA; split; omega; exact Nat.le_trans (leastA_le k) (by omega)
theorem argsOk.le {p : Pt} {qs : List Pt} (g : argsOk p qs) : pA p ≤ 8 := by
  unfold argsOk at g
  split at g
  · omega
  · split at g
    · omega
    · split at g
      · omega
      · have := mostA_le (pK p); omega
theorem Nd.under {q k : Nat} {p : Pt} {ls : List Fm} (g : Nd σ h n q p ls) (hN : 70 ≤ N) (hk : k < ls.length) : tw_under N h q k σ = some ((q - 1 - (ls.drop (k + 1)).flatten.length : Nat) : Int) := by
  have := g.2.2.1.le
  have h4 := g.2.2.2.1
  exact t_under hN g.1 h4 (by omega) g.2.2.2.2.1 g.2.2.2.2.2 hk
theorem Nd.nz {q i : Nat} {p : Pt} {ls : List Fm} (g : Nd σ h n q p ls) (hi : i < ls.length) : 0 < ls[i].length := (g.2.2.2.2.2 i hi).span.2.2.2
/-- ones ahead are not empty -/
theorem idx_le : ∀ (ls : List Fm) (i : Nat) (hi : i < ls.length), (∀ j (hj : j < ls.length), 0 < ls[j].length) → i + ls[i].length ≤ ls.flatten.length := by
  intro ls
  induction ls with
  | nil => intro i hi; simp at hi
  | cons l ls ih =>
    intro i hi hz
    cases i with
    | zero => rw [List.flatten_cons, List.length_append]; show 0 + l.length ≤ _; omega
    | succ i =>
      have := ih i (by simpa using hi) (fun j hj => by have := hz (j + 1) (by simpa using hj); simpa using this)
      have z := hz 0 (by simp)
      rw [List.flatten_cons, List.length_append, List.getElem_cons_succ]
      have z' : 0 < l.length := z
      omega
theorem Nd.fit {q i : Nat} {p : Pt} {ls : List Fm} (g : Nd σ h n q p ls) (hi : i < ls.length) : i + ls[i].length ≤ ls.flatten.length := idx_le ls i hi (fun _ hj => g.nz hj)
theorem xv_at {ls : List Fm} {i : Nat} (hi : i < ls.length) : xv (ls.map (fun y => (lab y, ev cx y))) i = ev cx ls[i] := by
  unfold xv; rw [List.getD_eq_getElem?_getD, List.getElem?_map, List.getElem?_eq_getElem hi]; rfl
theorem xp_at {ls : List Fm} {i : Nat} (hi : i < ls.length) : xp (ls.map (fun y => (lab y, ev cx y))) i = lab ls[i] := by
  unfold xp; rw [List.getD_eq_getElem?_getD, List.getElem?_map, List.getElem?_eq_getElem hi]; rfl
/-- the k-th one under a part is worked out at e -/
theorem Nd.go {q k e : Nat} {p : Pt} {ls : List Fm} {W : Int → Int → Int → gMem → Option gMem} {Φ : gMem → Prop} {f : gMem → Option gMem} {i : Int} (g : Nd σ h n q p ls) (hW : HW h s cx n W) (hN : 70 ≤ N) (hi : i = (k : Nat)) (hk : k < ls.length) (hl : pK (lab ls[k]) ≠ 6) (tc : TCx σ h s cx) (tb : TB σ h) (he : e + ls[k].length + 3 ≤ 200) (K : ∀ r, EP h e σ r (ev cx ls[k]) → Ev (f r) Φ) : Ev ((tw_under N h q i σ).bind (fun x => (W x s e σ).bind f)) Φ := by
  rw [hi]
  refine Ev.e (g.under hN hk) (Ev.c (hW _ _ _ _ (g.2.2.2.2.2 k hk) hl tc tb he) (fun r _ q => K r q))
theorem argsOk.two {p : Pt} {qs : List Pt} (g : argsOk p qs) (h1 : 7 < pK p) (h2 : pK p < 30) : pA p = 2 ∧ ∀ q ∈ qs, pK q ≠ 6 := by
  unfold argsOk at g; rw [if_neg (by omega), if_neg (by omega), if_pos h2] at g; exact g
theorem argsOk.call {p : Pt} {qs : List Pt} (g : argsOk p qs) (h2 : 30 ≤ pK p) : leastA (pK p) ≤ pA p ∧ pA p ≤ mostA (pK p) ∧ ∀ i (h : i < qs.length), takes (pK p) i qs[i] = true := by
  unfold argsOk at g; rw [if_neg (by omega), if_neg (by omega), if_neg (by omega)] at g; exact g
theorem Nd.tk {q i : Nat} {p : Pt} {ls : List Fm} (g : Nd σ h n q p ls) (h2 : 30 ≤ pK p) (hi : i < ls.length) : takes (pK p) i (lab ls[i]) = true := by
  have := (g.2.2.1.call h2).2.2 i (by rw [List.length_map]; exact hi)
  rwa [List.getElem_map] at this
/-- args that are no areas -/
theorem takes_n6 {k i : Nat} {p : Pt} (g : takes k i p = true) (h1 : ¬ (31 ≤ k ∧ k ≤ 36)) (h2 : ¬ (((k = 45 ∨ k = 47) ∧ i = 0) ∨ (k = 46 ∧ i = 1))) : pK p ≠ 6 := by
  unfold takes at g
  rw [if_neg h2] at g
  split at g
  · have := of_decide_eq_true g; omega
  · rw [Bool.or_eq_true, decide_eq_true_eq, decide_eq_true_eq] at g
    rcases g with g | g
    · exact g
    · exact absurd g h1
theorem evA_two {p : Pt} {xs : List (Pt × Vl)} (h1 : 9 < pK p) (h2 : pK p < 30) : evA cx p xs = if (xv xs 0).1 = 4 then xv xs 0 else if (xv xs 1).1 = 4 then xv xs 1 else vTwo (pK p) (xv xs 0) (xv xs 1) := by
  unfold evA
  rw [if_neg (by omega), if_neg (by omega), if_neg (by omega), if_neg (by omega), if_neg (by omega), if_neg (by omega), if_neg (by omega), if_pos h2]
theorem EP.in (x : EP h d σ σ' v) {e : Nat} (g : VH σ h e w) (n : e < d) : VH σ' h e w := g.pv x.1 n
theorem t_workTwo {q : Nat} {p : Pt} {ls : List Fm} {W : Int → Int → Int → gMem → Option gMem} (g : Nd σ h n q p ls) (hW : HW h s cx n W) (hN : 70 ≤ N) (h1 : 9 < pK p) (h2 : pK p < 22) (tc : TCx σ h s cx) (tb : TB σ h) (hd : d + ls.flatten.length + 4 ≤ 200) : Ev (tw_workTwo N W h q s d σ) (fun r => EP h d σ r (evA cx p (ls.map (fun y => (lab y, ev cx y))))) := by
  obtain ⟨a2, n6⟩ := g.2.2.1.two (by omega) (by omega)
  have hl : ls.length = 2 := by rw [g.2.2.2.1, a2]
  have f0 := g.fit (i := 0) (by omega)
  have f1 := g.fit (i := 1) (by omega)
  have k0 : pK (lab ls[0]) ≠ 6 := n6 _ (List.mem_map_of_mem (List.getElem_mem _))
  have k1 : pK (lab ls[1]) ≠ 6 := n6 _ (List.mem_map_of_mem (List.getElem_mem _))
  have hq := g.1.1
  rw [evA_two h1 (by omega), xv_at (by omega), xv_at (by omega)]
  unfold tw_workTwo
  refine g.go (k := 0) hW hN rfl (by omega) k0 tc tb (by omega) (fun s1 q1 => Ev.g (dG (by omega)) ?_)
  rw [tn, q1.2.2.2.1]
  by_cases e0 : (ev cx ls[0]).1 = 4
  · rw [if_pos e0]
    exact Ev.f (fun q => q e0) (Ev.r q1)
  · rw [if_neg e0, sc32 (by omega)]
    refine Ev.g e0 ((g.pv q1.1).go (k := 1) hW hN rfl (by omega) k1 (tc.pv q1.1) q1.2.1 (by omega) (fun s2 q2 => Ev.g (by omega) (Ev.g (dG1 (by omega)) ?_)))
    have X2 : Ex (Pv h d) σ s2 := q1.1.tr (q2.1.mono (fun _ _ p => p.mono (Nat.le_succ _)))
    have ga := q2.in q1.2.2 (by omega)
    have gb := q2.2.2
    have L2 := g.1.pv X2
    have cw := (tc.pv X2).2.1
    have ta := (tc.pv X2).1
    have T2 := q2.2.1
    rw [tn1, tn, gb.2.1, L2.2.1]
    by_cases e1 : (ev cx ls[1]).1 = 4
    · rw [if_pos e1]
      exact Ev.f (fun q => q e1) (Ev.c (t_bring (by omega) (by omega) (by omega) T2 gb) (fun r _ q => Ev.r (EP.hs X2 T2 q)))
    · rw [if_neg e1]
      refine Ev.g e1 ?_
      unfold vTwo
      by_cases c16 : pK p < 16
      · rw [if_pos c16, show w32 ((pK p : Int) - 10) = ((pK p - 10 : Nat) : Int) by rw [w32_i (by omega) (by omega)]; omega]
        exact Ev.f (by omega) (Ev.c (t_compare (by omega) (by omega) cw ga gb e0 e1) (fun r _ q => Ev.r (EP.hg X2 T2 q)))
      · rw [if_neg c16]
        refine Ev.g (by omega) ?_
        by_cases c : pK p = 16
        · rw [if_pos c]
          exact Ev.f (by omega) (Ev.c (t_join (by omega) (by omega) T2 ta cw ga gb e0 e1) (fun r _ q => Ev.r (EP.hg X2 T2 q)))
        · rw [if_neg c]
          refine Ev.g (by omega) (Ev.c (t_wantsNumber (by omega) ga) (fun x3 _ q3 => ?_))
          rw [q3.1]
          by_cases w1 : (wantN (ev cx ls[0])).1 = 1
          · rw [if_pos w1, if_neg (show ¬ ¬ (wantN (ev cx ls[0])).1 = 1 from fun q => q w1)]
            have X3 : Ex (Pv h d) σ x3.2 := X2.tr (q3.2.1.mono (fun _ _ p => (p.g (Nat.le_refl _)).tv))
            have T3 := q3.2.2.1 T2
            refine Ev.f (by decide) (Ev.c (t_wantsNumber (by omega) (VH.ne q3.2.1 gb (by omega))) (fun x4 _ q4 => ?_))
            rw [q4.1]
            have X4 : Ex (Pv h d) σ x4.2 := X3.tr (q4.2.1.mono (fun _ _ p => (p.g (Nat.le_succ _)).tv))
            have T4 := q4.2.2.1 T3
            by_cases w2 : (wantN (ev cx ls[1])).1 = 1
            · rw [if_pos w2, if_neg (show ¬ ¬ (wantN (ev cx ls[1])).1 = 1 from fun q => q w2)]
              exact Ev.f (by decide) (Ev.c (t_reckon (by omega) (VH.ne q4.2.1 q3.2.2.2 (by omega)) q4.2.2.2 w1 w2 (by omega) (by omega)) (fun r _ q => Ev.r (EP.hs X4 T4 q)))
            · rw [if_neg w2, if_pos (show ¬ (wantN (ev cx ls[1])).1 = 1 from w2)]
              have ew : wantN (ev cx ls[1]) = vErr 3 := by
                unfold wantN at w2 ⊢
                by_cases z : (ev cx ls[1]).1 = 0
                · rw [if_pos z] at w2; exact absurd rfl w2
                · rw [if_neg z] at w2 ⊢
                  by_cases z1 : (ev cx ls[1]).1 = 1
                  · rw [if_pos z1] at w2; exact absurd z1 w2
                  · rw [if_neg z1]
              rw [ew]
              exact Ev.g rfl (Ev.c (t_error (by omega) (by decide) (by decide)) (fun r _ q => Ev.r (EP.hs X4 T4 q)))
          · rw [if_neg w1, if_pos (show ¬ (wantN (ev cx ls[0])).1 = 1 from w1)]
            exact Ev.g rfl (Ev.r (EP.hs X2 T2 q3.2))
theorem t_workIf {q : Nat} {p : Pt} {ls : List Fm} {W : Int → Int → Int → gMem → Option gMem} (g : Nd σ h n q p ls) (hW : HW h s cx n W) (hN : 70 ≤ N) (h1 : pK p = 30) (tc : TCx σ h s cx) (tb : TB σ h) (hd : d + ls.flatten.length + 4 ≤ 200) : Ev (tw_workIf N W h q s d σ) (fun r => EP h d σ r (evIf (ls.map (fun y => (lab y, ev cx y))))) := by
  have ca := g.2.2.1.call (by omega)
  have hl : ls.length = 3 := by
    have e1 : leastA (pK p) = 3 := by rw [h1]; rfl
    have e2 : mostA (pK p) = 3 := by rw [h1]; rfl
    have := g.2.2.2.1
    omega
  have n6 : ∀ i (hi : i < ls.length), pK (lab ls[i]) ≠ 6 := fun i hi => takes_n6 (g.tk (by omega) hi) (by omega) (by omega)
  have f0 := g.fit (i := 0) (by omega)
  have f1 := g.fit (i := 1) (by omega)
  have f2 := g.fit (i := 2) (by omega)
  unfold evIf
  rw [xv_at (by omega), xv_at (by omega), xv_at (by omega)]
  unfold tw_workIf
  refine g.go (k := 0) hW hN rfl (by omega) (n6 0 _) tc tb (by omega) (fun s1 q1 => Ev.g (dG (by omega)) ?_)
  rw [tn, q1.2.2.2.1]
  by_cases e0 : (ev cx ls[0]).1 = 4
  · refine Ev.g e0 ?_
    rw [if_pos e0]
    exact Ev.r q1
  · refine Ev.f e0 ?_
    rw [if_neg e0]
    refine (Ev.c (t_wantsTruth (by omega) q1.2.2) (fun x3 _ q3 => ?_))
    rw [q3.1]
    have X3 : Ex (Pv h d) σ x3.2 := q1.1.tr (q3.2.1.mono (fun _ _ p => (p.g (Nat.le_refl _)).tv))
    have T3 := q3.2.2.1 q1.2.1
    by_cases w1 : (wantB (ev cx ls[0])).1 = 3
    · rw [if_pos w1, if_neg (show ¬ ¬ (wantB (ev cx ls[0])).1 = 3 from fun q => q w1)]
      refine Ev.g (by decide) (Ev.g (dG (by omega)) ?_)
      rw [q3.2.2.2.2.2.1 (by omega) (by omega)]
      have F : ∀ t : Int, ∀ j (hj : j < ls.length), (t = 0 ∧ j = 2) ∨ (t ≠ 0 ∧ j = 1) → Ev (tw_workIf_j47 N W h q s d t x3.2) (fun r => EP h d σ r (ev cx ls[j])) := by
        intro t j hj hh
        have fj := g.fit hj
        unfold tw_workIf_j47
        rcases hh with ⟨c, rfl⟩ | ⟨c, rfl⟩
        · exact Ev.g c ((g.pv X3).go (k := 2) hW hN rfl hj (n6 _ _) (tc.pv X3) T3 (by omega) (fun r q => Ev.r (EP.ht X3 q)))
        · exact Ev.f c ((g.pv X3).go (k := 1) hW hN rfl hj (n6 _ _) (tc.pv X3) T3 (by omega) (fun r q => Ev.r (EP.ht X3 q)))
      by_cases c : (wantB (ev cx ls[0])).2.1 = 1
      · rw [if_pos c]
        exact Ev.f (fun q => q (gcmp_eq.mpr c)) (F 1 1 (by omega) (Or.inr ⟨by decide, rfl⟩))
      · rw [if_neg c]
        exact Ev.g (fun q => c (gcmp_eq.mp q)) (F 0 2 (by omega) (Or.inl ⟨rfl, rfl⟩))
    · rw [if_neg w1, if_pos (show ¬ (wantB (ev cx ls[0])).1 = 3 from w1)]
      exact Ev.f (by decide) (Ev.r (EP.hs q1.1 q1.2.1 q3.2))
end TwEv6
