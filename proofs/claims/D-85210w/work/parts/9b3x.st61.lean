/-! ===== PHASE 2: copying: the class's parts elsewhere ===== -/
section State61
variable {N nv k q a z z' : Nat} {σ σ' s : gMem} {W : Nat → Prop} {f : Int → List Int × List Int} {dr dc : Int} {l : Fm} {L : List Int} {Lr Lc : List Int}
/-- how far it goes, and whose lines are meant -/
def MvC (σ : gMem) (k nv : Nat) (f : Int → List Int × List Int) (dr dc : Int) : Prop := mT σ k = 22 ∧ mI σ k 0 = dr ∧ mI σ k 1 = dc ∧ ShL σ (mR σ k 2) (f (-1)).1 (f (-1)).2 ∧ mT σ (mR σ k 3) = 104 ∧ mN σ (mR σ k 3) = 40 ∧ nv ≤ 40 ∧ ∀ v : Nat, v < nv → mT σ (mR σ (mR σ k 3) v) = 9 ∧ ShL σ (mR σ (mR σ (mR σ k 3) v) 0) (f (v : Int)).1 (f (v : Int)).2
theorem MvC.kp (K : Kz (fun _ => False) σ σ') (g : gOk σ) (m : MvC σ k nv f dr dc) : MvC σ' k nv f dr dc := by
  obtain ⟨m1, m2, m3, m4, m5, m6, m7, m8⟩ := m
  have r2 : mR σ' k 2 = mR σ k 2 := K.rR g (by omega) (fun f => f) 2
  have r3 : mR σ' k 3 = mR σ k 3 := K.rR g (by omega) (fun f => f) 3
  refine ⟨by rw [K.tag g (by omega)]; exact m1, by rw [K.rI g (by omega) (fun f => f)]; exact m2, by rw [K.rI g (by omega) (fun f => f)]; exact m3, by rw [r2]; exact m4.kp K g (fun f => f) (fun f => f) (fun f => f), by rw [r3, K.tag g (by omega)]; exact m5, by rw [r3, K.len g (by omega)]; exact m6, m7, fun v hv => ?_⟩
  obtain ⟨v1, v2⟩ := m8 v hv
  rw [r3, K.rR g (by omega) (fun f => f) v, K.tag g (by omega), K.rR g (by omega) (fun f => f) 0]
  exact ⟨v1, v2.kp K g (fun f => f) (fun f => f) (fun f => f)⟩
theorem c_sheet24 {v : Int} (m : MvC σ k nv f dr dc) (h1 : -1 ≤ v) (h2 : v < nv) : ∃ a, x24_sheet k v σ = some a ∧ ShL σ a (f v).1 (f v).2 := by
  obtain ⟨m1, m2, m3, m4, m5, m6, m7, m8⟩ := m
  unfold x24_sheet
  by_cases e : v = -1
  · rw [if_neg (fun z => z e), if_pos m1, e]; exact ⟨_, rfl, m4⟩
  · obtain ⟨n, rfl⟩ : ∃ n : Nat, v = n := ⟨v.toNat, by omega⟩
    rw [if_pos e, if_pos m1, if_pos m5, if_pos (by rw [m6]; omega), tn, if_pos (m8 n (by omega)).1]
    exact ⟨_, rfl, (m8 n (by omega)).2⟩
theorem c_moved (k : LsC σ q L) (m d : Int) : x16_moved q (pl L m) d σ = some (mvd L m d) := by
  obtain ⟨k1, k2, k3, k4⟩ := k
  unfold x16_moved mvd
  by_cases e : pl L m = -1
  · rw [if_pos e, if_pos e]
  · rw [if_neg e, if_neg e]
    by_cases e2 : w32 (pl L m + d) < 0
    · rw [if_pos e2, if_neg (by omega)]
    · rw [if_neg e2, if_pos k1, k2, w32_i (x := (L.length : Int)) (by omega) (by omega)]
      by_cases e3 : w32 (pl L m + d) < L.length
      · rw [if_pos e3, if_pos ⟨by omega, e3⟩, if_pos ⟨by omega, e3⟩, k4 _ (by omega)]
      · rw [if_neg e3, if_neg (fun z => e3 z.2)]
theorem mvd_rng (k : LsC σ q L) (m d : Int) : g32 (mvd L m d) := by
  obtain ⟨k1, k2, k3, k4⟩ := k
  unfold mvd
  split
  · unfold g32; omega
  · split
    · rw [← k4 _ (by omega)]; exact mI_rng _ _ _
    · unfold g32; omega
theorem fx_r (q : Nat) (σ : gMem) : fxR1 (cfx σ q) = decide (mI σ q 2 ≠ 0) := by
  unfold fxR1 cfx
  split <;> split <;> exact decide_eq_decide.mpr (by omega)
theorem fx_c (q : Nat) (σ : gMem) : fxC1 (cfx σ q) = decide (mI σ q 3 ≠ 0) := by
  unfold fxC1 cfx
  split <;> split <;> exact decide_eq_decide.mpr (by omega)
theorem cfx_lt (q : Nat) (σ : gMem) : cfx σ q < 4 := by unfold cfx; split <;> split <;> omega
/-- a corner elsewhere: none, or a new one -/
def CrM (σ : gMem) (q : Nat) (Lr Lc : List Int) (dr dc : Int) (r : Nat × gMem) : Prop :=
  (r = (0, σ) ∧ (mvx (fxR1 (cfx σ q)) Lr (mI σ q 0) dr < 0 ∨ mvx (fxC1 (cfx σ q)) Lc (mI σ q 1) dc < 0)) ∨
  (r.1 = mZ σ ∧ 0 ≤ mvx (fxR1 (cfx σ q)) Lr (mI σ q 0) dr ∧ 0 ≤ mvx (fxC1 (cfx σ q)) Lc (mI σ q 1) dc ∧ Kz (fun _ => False) σ r.2 ∧ mT r.2 (mZ σ) = 14 ∧ mI r.2 (mZ σ) 0 = mvx (fxR1 (cfx σ q)) Lr (mI σ q 0) dr ∧ mI r.2 (mZ σ) 1 = mvx (fxC1 (cfx σ q)) Lc (mI σ q 1) dc ∧ cfx r.2 (mZ σ) = cfx σ q ∧ bz1 (mI r.2 (mZ σ) 2) ∧ bz1 (mI r.2 (mZ σ) 3) ∧ mZ r.2 = mZ σ + 1 ∧ mS r.2 = mS σ + 4)
theorem c_cornerM (hN : 40 ≤ N) (g : gOk σ) (m : MvC σ k nv f dr dc) (c : mT σ q = 14) (i0 : 0 ≤ mI σ q 0) (i1 : 0 ≤ mI σ q 1) (b2 : bz1 (mI σ q 2)) (b3 : bz1 (mI σ q 3)) (sh : ShL σ a Lr Lc) (f1 : ∀ i, 0 ≤ gl Lr i) (f2 : ∀ i, 0 ≤ gl Lc i) : Ev (x16_shifted N q k a σ) (CrM σ q Lr Lc dr dc) := by
  obtain ⟨m1, m2, m3, -⟩ := m
  have lt : q < mZ σ := gOk_lt g (by omega)
  obtain ⟨rr, hr⟩ : ∃ rr, rr = mvx (fxR1 (cfx σ q)) Lr (mI σ q 0) dr := ⟨_, rfl⟩
  obtain ⟨cc, hc⟩ : ∃ cc, cc = mvx (fxC1 (cfx σ q)) Lc (mI σ q 1) dc := ⟨_, rfl⟩
  have nr : rr < 0 ↔ rr = -1 := by rw [hr]; exact mvx_lt i0 f1
  have nc : cc < 0 ↔ cc = -1 := by rw [hc]; exact mvx_lt i1 f2
  have gr : g32 rr := by
    rw [hr]; unfold mvx
    split
    · exact mI_rng _ _ _
    · exact mvd_rng sh.2.1 _ _
  have gc : g32 cc := by
    rw [hc]; unfold mvx
    split
    · exact mI_rng _ _ _
    · exact mvd_rng sh.2.2.1 _ _
  have J2 : Ev (x16_shifted_j67 N q rr cc σ) (CrM σ q Lr Lc dr dc) := by
    unfold x16_shifted_j67 CrM
    rw [← hr, ← hc]
    by_cases e1 : rr = -1
    · exact Ev.g e1 (Ev.r (Or.inl ⟨rfl, Or.inl (nr.mpr e1)⟩))
    · refine Ev.f e1 ?_
      by_cases e2 : cc = -1
      · exact Ev.f (fun z => z e2) (Ev.r (Or.inl ⟨rfl, Or.inr (nc.mpr e2)⟩))
      · refine Ev.g e2 (Ev.l (Ev.g (by rw [mT_wN, if_neg (by omega)]; exact c) ?_))
        have tz : mT (wN σ 14 4) (mZ σ) = 14 := by rw [mT_wN, if_pos rfl]
        have j2 : mI (wN σ 14 4) q 2 = mI σ q 2 := by rw [mI_wN, if_neg (by omega)]
        have j3 : mI (wN σ 14 4) q 3 = mI σ q 3 := by rw [mI_wN, if_neg (by omega)]
        unfold x16_init
        rw [j2, j3]
        refine Ev.e (r := wI (wI (wI (wI (wN σ 14 4) (mZ σ) 0 rr) (mZ σ) 1 cc) (mZ σ) 2 (mI σ q 2)) (mZ σ) 3 (mI σ q 3)) ?_ (Ev.r (Or.inr ?_))
        · rw [if_pos tz]
          show (if mI σ q 2 = 0 ∨ mI σ q 2 = 1 then (if mI σ q 3 = 0 ∨ mI σ q 3 = 1 then _ else none) else none) = _
          rw [if_pos (show mI σ q 2 = 0 ∨ mI σ q 2 = 1 from b2), if_pos (show mI σ q 3 = 0 ∨ mI σ q 3 = 1 from b3)]
          rfl
        · have K0 : Kz (fun _ => False) σ σ := Kz.rf g
          have w : ∀ {i : Nat}, mZ σ ≤ mZ σ ∨ (fun _ : Nat => False) i := fun {i} => Or.inl (Nat.le_refl _)
          have g2 := mI_rng σ q 2
          have g3 := mI_rng σ q 3
          unfold g32 at gr gc g2 g3
          have k2 : mI (wI (wI (wI (wI (wN σ 14 4) (mZ σ) 0 rr) (mZ σ) 1 cc) (mZ σ) 2 (mI σ q 2)) (mZ σ) 3 (mI σ q 3)) (mZ σ) 2 = mI σ q 2 := by rw [mIwI1 (by omega), mIwI2 ⟨rfl, rfl⟩, w32_i (by omega) (by omega)]
          have k3 : mI (wI (wI (wI (wI (wN σ 14 4) (mZ σ) 0 rr) (mZ σ) 1 cc) (mZ σ) 2 (mI σ q 2)) (mZ σ) 3 (mI σ q 3)) (mZ σ) 3 = mI σ q 3 := by rw [mIwI2 ⟨rfl, rfl⟩, w32_i (by omega) (by omega)]
          refine ⟨rfl, by omega, by omega, ((((K0.wN).wI (Or.inl (Nat.le_refl _))).wI (Or.inl (Nat.le_refl _))).wI (Or.inl (Nat.le_refl _))).wI (Or.inl (Nat.le_refl _)), tz, ?_, ?_, ?_, by rw [k2]; exact b2, by rw [k3]; exact b3, rfl, rfl⟩
          · rw [mIwI1 (by omega), mIwI1 (by omega), mIwI1 (by omega), mIwI2 ⟨rfl, rfl⟩, w32_i (by omega) (by omega)]
          · rw [mIwI1 (by omega), mIwI1 (by omega), mIwI2 ⟨rfl, rfl⟩, w32_i (by omega) (by omega)]
          · unfold cfx
            rw [k2, k3]
  have J1 : Ev (x16_shifted_j33 N q k a rr σ) (CrM σ q Lr Lc dr dc) := by
    unfold x16_shifted_j33
    refine Ev.g c ?_
    by_cases e : mI σ q 3 = 0
    · refine Ev.g e (Ev.g sh.1 (Ev.e (c_column hN sh _) (Ev.g m1 ?_)))
      rw [m3]
      refine Ev.e (c_moved sh.2.2.1 _ _) ?_
      have ec : mvd Lc (mI σ q 1) dc = cc := by rw [hc, fx_c]; unfold mvx; rw [if_neg (by rw [decide_eq_true_iff]; omega)]
      rw [ec]; exact J2
    · refine Ev.f e ?_
      have ec : mI σ q 1 = cc := by rw [hc, fx_c]; unfold mvx; rw [if_pos (by rw [decide_eq_true_iff]; exact e)]
      rw [ec]; exact J2
  unfold x16_shifted
  refine Ev.g c ?_
  by_cases e : mI σ q 2 = 0
  · refine Ev.g e (Ev.g sh.1 (Ev.e (c_row hN sh _) (Ev.g m1 ?_)))
    rw [m2]
    refine Ev.e (c_moved sh.2.1 _ _) ?_
    have ec : mvd Lr (mI σ q 0) dr = rr := by rw [hr, fx_r]; unfold mvx; rw [if_neg (by rw [decide_eq_true_iff]; omega)]
    rw [ec]; exact J1
  · refine Ev.f e ?_
    have ec : mI σ q 0 = rr := by rw [hr, fx_r]; unfold mvx; rw [if_pos (by rw [decide_eq_true_iff]; exact e)]
    rw [ec]; exact J1
/-- a part lies at q; cells of A are no part of it -/
def IsA (A : Nat → Prop) (σ : gMem) : Nat → Nat → Fm → Prop
  | 0, _, _ => False
  | n + 1, q, l => ∃ (p : Pt) (ls : List Fm), l = ls.flatten ++ [p] ∧ ls.length = pA p ∧ LabC σ q p ∧ PtOk p ∧ argsOk p (ls.map lab) ∧ (¬ A q ∧ (mT σ q = 18 → ¬ A (mR σ q 1))) ∧ ∀ i (hi : i < ls.length), IsA A σ n (chd σ q i) ls[i]
theorem IsA.isp {A : Nat → Prop} : ∀ (n q : Nat) (l : Fm), IsA A σ n q l → IsP σ n q l := by
  intro n
  induction n with
  | zero => intro q l k; exact k.elim
  | succ n ih =>
    intro q l k
    obtain ⟨p, ls, k1, k2, k3, k4, k5, k6, k7⟩ := k
    exact ⟨p, ls, k1, k2, k3, k4, k5, fun i hi => ih _ _ (k7 i hi)⟩
theorem LabC.t18 {p : Pt} (k : LabC σ q p) (t : mT σ q = 18) : mT σ (mR σ q 1) = 108 := by
  rcases k with ⟨k1, k2⟩ | ⟨k1, k2, k3, k4⟩ | ⟨k1, k2, kB⟩ | ⟨k1, k2⟩ | ⟨k1, k2, k3, kB⟩ | ⟨k1, k2, k3, k4, kB⟩ | ⟨k1, k2⟩ | ⟨k1, j, k2, k3, k4⟩ | ⟨k1, j, k2, k3, k4, k5⟩
  · omega
  · omega
  · omega
  · omega
  · omega
  · omega
  · omega
  · omega
  · exact k4
theorem LabC.gas {p : Pt} (k : LabC σ q p) : gAsg 8 (mT σ q) = true := by
  rcases k with ⟨k1, k2⟩ | ⟨k1, k2, k3, k4⟩ | ⟨k1, k2, kB⟩ | ⟨k1, k2⟩ | ⟨k1, k2, k3, kB⟩ | ⟨k1, k2, k3, k4, kB⟩ | ⟨k1, k2⟩ | ⟨k1, j, k2, k3, k4⟩ | ⟨k1, j, k2, k3, k4, k5⟩ <;> rw [k1] <;> decide
theorem IsP.isa {A : Nat → Prop} (hA : ∀ b, A b → mT σ b = 0) : ∀ (n q : Nat) (l : Fm), IsP σ n q l → IsA A σ n q l := by
  intro n
  induction n with
  | zero => intro q l k; exact k.elim
  | succ n ih =>
    intro q l k
    obtain ⟨p, ls, k1, k2, k3, k4, k5, k6⟩ := k
    have t := k3.tag
    exact ⟨p, ls, k1, k2, k3, k4, k5, ⟨fun z => by have := hA _ z; omega, fun e z => by have := hA _ z; have := k3.t18 e; omega⟩, fun i hi => ih _ _ (k6 i hi)⟩
theorem IsA.ext {A A' : Nat → Prop} (hA : ∀ b, A' b → A b ∨ mT σ b = 0) : ∀ (n q : Nat) (l : Fm), IsA A σ n q l → IsA A' σ n q l := by
  intro n
  induction n with
  | zero => intro q l k; exact k.elim
  | succ n ih =>
    intro q l k
    obtain ⟨p, ls, k1, k2, k3, k4, k5, ⟨k6, k6'⟩, k7⟩ := k
    have t := k3.tag
    refine ⟨p, ls, k1, k2, k3, k4, k5, ⟨fun z => ?_, fun e z => ?_⟩, fun i hi => ih _ _ (k7 i hi)⟩
    · rcases hA _ z with y | y
      · exact k6 y
      · omega
    · rcases hA _ z with y | y
      · exact k6' e y
      · have := k3.t18 e; omega
theorem IsA.kp {A : Nat → Prop} (x : Kz (fun _ => False) σ σ') (g : gOk σ) (z0 : 0 < mZ σ) : ∀ (n q : Nat) (l : Fm), IsA A σ n q l → IsA A σ' n q l := by
  intro n
  induction n with
  | zero => intro q l k; exact k.elim
  | succ n ih =>
    intro q l k
    obtain ⟨p, ls, k1, k2, k3, k4, k5, ⟨k6, k6'⟩, k7⟩ := k
    have t := k3.tag
    refine ⟨p, ls, k1, k2, k3.kp x g z0 WNF, k4, k5, ⟨k6, fun e => ?_⟩, fun i hi => ?_⟩
    · rw [x.tag g (by omega)] at e
      rw [x.rR g (by omega) (fun f => f)]; exact k6' e
    · rw [chd_kp x g WNF k3 (by omega) i]
      exact ih _ _ (k7 i hi)
theorem LabC.wrR {p : Pt} {j v : Nat} (qa : q ≠ a) (a0 : a ≠ 0) (k : LabC s q p) : LabC (wR s a j v) q p := by
  have eR : ∀ i, mR (wR s a j v) q i = mR s q i := fun i => by rw [mR_wR, if_neg (fun z => qa z.1)]
  have e0 : ∀ i, mR (wR s a j v) 0 i = mR s 0 i := fun i => by rw [mR_wR, if_neg (fun z => a0 z.1.symm)]
  unfold LabC at k ⊢
  simp only [eR, e0]
  exact k
theorem IsA.wrR {A : Nat → Prop} {j v : Nat} (ha : A a) (a0 : a ≠ 0) : ∀ (n q : Nat) (l : Fm), IsA A s n q l → IsA A (wR s a j v) n q l := by
  intro n
  induction n with
  | zero => intro q l k; exact k.elim
  | succ n ih =>
    intro q l k
    obtain ⟨p, ls, k1, k2, k3, k4, k5, ⟨k6, k6'⟩, k7⟩ := k
    have t := k3.tag
    have qa : q ≠ a := fun e => k6 (by rw [e]; exact ha)
    have eR : ∀ i, mR (wR s a j v) q i = mR s q i := fun i => by rw [mR_wR, if_neg (fun z => qa z.1)]
    refine ⟨p, ls, k1, k2, k3.wrR qa a0, k4, k5, ⟨k6, fun e => by rw [eR]; exact k6' e⟩, fun i hi => ?_⟩
    have ec : chd (wR s a j v) q i = chd s q i := by
      unfold chd
      rw [mT_wR, eR, eR, eR]
      by_cases c19 : mT s q = 19
      · rw [if_pos c19, if_pos c19]
      · rw [if_neg c19, if_neg c19]
        by_cases c20 : mT s q = 20
        · rw [if_pos c20, if_pos c20]
        · rw [if_neg c20, if_neg c20]
          have c18 : mT s q = 18 := by
            rcases t.2.2 (by omega) with e | e | e
            · omega
            · omega
            · exact e.1
          have n1 := k6' c18
          rw [mR_wR, if_neg (fun z => n1 (by rw [z.1]; exact ha))]
    rw [ec]
    exact ih _ _ (k7 i hi)
theorem PtOk.inv5 {p : Pt} (po : PtOk p) (h : pK p = 5) : 0 ≤ pR1 p ∧ 0 ≤ pC1 p ∧ pF p < 4 ∧ -1 ≤ pW p ∧ pW p < 40 := by
  rcases po with ⟨n, rfl, -⟩ | ⟨t, rfl, -⟩ | ⟨b, rfl⟩ | rfl | ⟨r, c, f, v, rfl, b1, b2, b3, b4, b5⟩ | ⟨r, c, r', c', f, v, rfl, -⟩ | ⟨k, n, rfl, kk⟩
  · cases h
  · cases h
  · cases h
  · cases h
  · exact ⟨b1, b2, b3, b4, b5⟩
  · cases h
  · have : pK (mkO k n) = k := rfl
    omega
theorem PtOk.inv6 {p : Pt} (po : PtOk p) (h : pK p = 6) : 0 ≤ pR1 p ∧ 0 ≤ pC1 p ∧ 0 ≤ pR2 p ∧ 0 ≤ pC2 p ∧ pF p < 16 ∧ -1 ≤ pW p ∧ pW p < 40 := by
  rcases po with ⟨n, rfl, -⟩ | ⟨t, rfl, -⟩ | ⟨b, rfl⟩ | rfl | ⟨r, c, f, v, rfl, -⟩ | ⟨r, c, r', c', f, v, rfl, b1, b2, b3, b4, b5, b6, b7⟩ | ⟨k, n, rfl, kk⟩
  · cases h
  · cases h
  · cases h
  · cases h
  · cases h
  · exact ⟨b1, b2, b3, b4, b5, b6, b7⟩
  · have : pK (mkO k n) = k := rfl
    omega
end State61
