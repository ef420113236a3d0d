/-! ===== PHASE 2: the twin's values: loads, stores, what is wanted ===== -/
section TwVal2
variable {N h d : Nat} {σ σ' s : gMem} {v w : Vl}
theorem HS.tr (x : Ex (Hp h d) σ s) (t : TB σ h → TB s h) (y : HS h d s σ' v) : HS h d σ σ' v := ⟨x.tr y.1, fun z => y.2.1 (t z), y.2.2⟩
theorem HS.tr' (x : HS h d σ s w) (y : HS h d s σ' v) : HS h d σ σ' v := HS.tr x.1 x.2.1 y
theorem HS.rf (g : VH σ h d v) : HS h d σ σ v := ⟨Ex.rf, fun t => t, g⟩
theorem t_load {c : Nat} (hd : d < 200) (hc : c < 13120) (hN : 30 ≤ N) (hT : mT σ (h + 31) = 102) (hL : mN σ (h + 31) = 314880) (tb : TB σ h) (g : VC σ h c v) : Ev (tw_load N h d c σ) (fun r => HS h d σ r v) := by
  have gC : (0 : Int) ≤ (c : Int) ∧ (c : Int) < ((13120 : Nat) : Int) := by omega
  unfold tw_load
  refine Ev.g gC (Ev.g (dG hd) (Ev.l (Ev.g gC (Ev.g (dG hd) (Ev.l (Ev.g gC ?_))))))
  rw [tn, tn]
  have X : Ex (Hp h d) σ (wL (wI σ (h + 33) d (mI σ (h + 28) c)) (h + 34) d (mL (wI σ (h + 33) d (mI σ (h + 28) c)) (h + 29) c)) := (Ex.rf.I Hp.k).L Hp.n
  have T : TB σ h → TB (wL (wI σ (h + 33) d (mI σ (h + 28) c)) (h + 34) d (mL (wI σ (h + 33) d (mI σ (h + 28) c)) (h + 29) c)) h := fun t => (t.I (fun e => by omega)).L
  have e1 : mI (wL (wI σ (h + 33) d (mI σ (h + 28) c)) (h + 34) d (mL (wI σ (h + 33) d (mI σ (h + 28) c)) (h + 29) c)) (h + 28) c = v.1 := by rw [X.rI (by unfold Hp; omega)]; exact g.2.1
  rw [e1]
  by_cases h2 : v.1 = 2
  · refine Ev.f (fun q => q h2) (Ev.g gC ?_)
    have e2 : mI (wL (wI σ (h + 33) d (mI σ (h + 28) c)) (h + 34) d (mL (wI σ (h + 33) d (mI σ (h + 28) c)) (h + 29) c)) (h + 30) c = ((v.2.2.length : Nat) : Int) := by rw [X.rI (by unfold Hp; omega)]; exact (g.2.2.2 h2).1
    have e3 : w32 (24 * (c : Int)) = ((24 * c : Nat) : Int) := by rw [w32_i (by omega) (by omega)]; omega
    have ht := g.1.txt
    rw [e2, e3]
    refine Ev.c (t_text hd hN rfl ht.1 ht.2 (by omega) (by omega) (by omega) hT (by show 24 * c + _ ≤ mN σ (h + 31); omega) (T tb).2.1 (fun i hi => ?_)) (fun r _ q => Ev.r ?_)
    · rw [X.rI (by unfold Hp; omega)]; exact (g.2.2.2 h2).2 i hi
    · rw [← g.1.k2 h2] at q
      exact HS.tr X T q
  · refine Ev.g h2 (Ev.r ⟨X, T, g.1, ?_, fun h0 _ => ?_, fun q => absurd q h2⟩)
    · rw [wLI_k rfl (mI_rng _ _ _)]; exact g.2.1
    · rw [wLI_n (mL_rng _ _ _)]; exact g.2.2.1 h0 h2
theorem t_bring_l {e : Nat} {K : gMem → Option gMem} (hd : d < 200) (he : e < 200) : ∀ (m i f : Nat) (s : gMem), i + m = 24 → m < f → By s (h + 36) → tw_bring_l38 N h e d K f i s = K (wCI s (h + 36) (24 * e + i) (h + 36) (24 * d + i) m) := by
  intro m
  induction m with
  | zero =>
    intro i f s h1 h2 _
    obtain ⟨f, rfl⟩ : ∃ g, f = g + 1 := ⟨f - 1, by omega⟩
    unfold tw_bring_l38
    rw [if_pos (by omega), wCI_zero]
  | succ m ih =>
    intro i f s h1 h2 h6
    obtain ⟨f, rfl⟩ : ∃ g, f = g + 1 := ⟨f - 1, by omega⟩
    unfold tw_bring_l38
    have e1 : (24 * (e : Int) + (i : Int)).toNat = 24 * e + i := by omega
    have e2 : (24 * (d : Int) + (i : Int)).toNat = 24 * d + i := by omega
    rw [if_neg (by omega), if_pos (by omega), e1, if_pos (h6 _), if_pos (by omega), e2, inc32 (by omega)]
    unfold gLet
    dsimp only
    rw [ih (i + 1) f _ (by omega) (by omega) (h6.I (fun _ => h6 _))]
    congr 1
    exact wCI_front (by omega)
theorem t_bring {e : Nat} (hd : d < 200) (he : e < 200) (hN : 30 ≤ N) (tb : TB σ h) (g : VH σ h e v) : Ev (tw_bring N h e d σ) (fun r => HS h d σ r v) := by
  unfold tw_bring
  refine Ev.g (dG he) (Ev.g (dG hd) (Ev.l (Ev.g (dG he) (Ev.g (dG hd) (Ev.l (Ev.g (dG he) (Ev.g (dG hd) (Ev.l ?_))))))))
  rw [tn, tn]
  generalize e1 : wI σ (h + 33) d (mI σ (h + 33) e) = s1
  generalize e2 : wL s1 (h + 34) d (mL s1 (h + 34) e) = s2
  generalize e3 : wI s2 (h + 35) d (mI s2 (h + 35) e) = s3
  have X1 : Ex (Hp h d) σ s1 := by rw [← e1]; exact Ex.rf.I Hp.k
  have X2 : Ex (Hp h d) σ s2 := by rw [← e2]; exact X1.L Hp.n
  have X3 : Ex (Hp h d) σ s3 := by rw [← e3]; exact X2.I Hp.l
  have T3 : TB s3 h := by
    rw [← e3, ← e2, ← e1]
    exact ((tb.I (fun e => by omega)).L).I (fun e => by omega)
  have k : mI s3 (h + 33) d = mI σ (h + 33) e := by
    rw [← e3, mI_wI, if_neg (by omega), ← e2, mI_wL, ← e1, mI_wI, if_pos ⟨rfl, rfl⟩, mI32]
  have n : mL s3 (h + 34) d = mL σ (h + 34) e := by
    rw [← e3, mL_wI, ← e2, mL_wL, if_pos ⟨rfl, rfl⟩, mL64, ← e1, mL_wI]
  have l : mI s3 (h + 35) d = mI σ (h + 35) e := by
    rw [← e3, mI_wI, if_pos ⟨rfl, rfl⟩, mI32, ← e2, mI_wL, ← e1, mI_wI, if_neg (by omega)]
  have el := t_bring_l (N := N) (h := h) (K := fun s18 => some s18) hd he 24 0 N s3 (by omega) (by omega) T3.1
  rw [show ((0 : Nat) : Int) = 0 from rfl] at el
  rw [el]
  refine Ev.r ⟨X3.CI (fun j h1 h2 => Hp.t (by omega) (by omega)), fun _ => T3.CI (fun i _ => T3.1 _), g.1, ?_, fun h0 h2 => ?_, fun h2 => ⟨?_, fun i hi => ?_⟩⟩
  · rw [mI_wCI, if_neg (by omega), k]; exact g.2.1
  · rw [mL_wCI, n]; exact g.2.2.1 h0 h2
  · rw [mI_wCI, if_neg (by omega), l]; exact (g.2.2.2 h2).1
  · have := g.1.txt.1
    have p : 24 * e + 0 + (24 * d + i - (24 * d + 0)) = 24 * e + i := by omega
    rw [mI_wCI, if_pos ⟨rfl, by omega, by omega⟩, p, ← e3, mI_wI, if_neg (by omega), ← e2, mI_wL, ← e1, mI_wI, if_neg (by omega)]
    exact (g.2.2.2 h2).2 i hi
/-- what belongs to the value of a cell -/
def Cp (h c a k : Nat) : Prop := (a = h + 28 ∧ k = c) ∨ (a = h + 29 ∧ k = c) ∨ (a = h + 30 ∧ k = c) ∨ (a = h + 31 ∧ 24 * c ≤ k ∧ k < 24 * c + 24)
theorem t_store_l {c : Nat} {K : gMem → Option gMem} (hd : d < 200) (hc : c < 13120) : ∀ (m i f : Nat) (s : gMem), i + m = 24 → m < f → By s (h + 36) → tw_store_l52 N h d c K f i s = K (wCI s (h + 36) (24 * d + i) (h + 31) (24 * c + i) m) := by
  intro m
  induction m with
  | zero =>
    intro i f s h1 h2 _
    obtain ⟨f, rfl⟩ : ∃ g, f = g + 1 := ⟨f - 1, by omega⟩
    unfold tw_store_l52
    rw [if_pos (by omega), wCI_zero]
  | succ m ih =>
    intro i f s h1 h2 h6
    obtain ⟨f, rfl⟩ : ∃ g, f = g + 1 := ⟨f - 1, by omega⟩
    unfold tw_store_l52
    have e1 : (24 * (d : Int) + (i : Int)).toNat = 24 * d + i := by omega
    have e2 : (24 * (c : Int) + (i : Int)).toNat = 24 * c + i := by omega
    rw [if_neg (by omega), if_pos (by omega), e1, if_pos (h6 _), if_pos (by omega), e2, inc32 (by omega)]
    unfold gLet
    dsimp only
    rw [ih (i + 1) f _ (by omega) (by omega) (h6.I (fun _ => h6 _))]
    congr 1
    exact wCI_front (by omega)
theorem t_store {c : Nat} (hd : d < 200) (hc : c < 13120) (hN : 30 ≤ N) (tb : TB σ h) (g : VH σ h d v) : Ev (tw_store N h d c σ) (fun r => Ex (Cp h c) σ r ∧ TB r h ∧ VC r h c v) := by
  have gC : (0 : Int) ≤ (c : Int) ∧ (c : Int) < ((13120 : Nat) : Int) := by omega
  unfold tw_store
  refine Ev.g (dG hd) (Ev.g gC (Ev.l (Ev.g (dG hd) (Ev.g gC (Ev.l (Ev.g (dG hd) ?_))))))
  rw [tn, tn]
  generalize e1 : wI σ (h + 28) c (mI σ (h + 33) d) = s1
  generalize e2 : wL s1 (h + 29) c (mL s1 (h + 34) d) = s2
  have X1 : Ex (Cp h c) σ s1 := by rw [← e1]; exact Ex.rf.I (Or.inl ⟨rfl, rfl⟩)
  have X2 : Ex (Cp h c) σ s2 := by rw [← e2]; exact X1.L (Or.inr (Or.inl ⟨rfl, rfl⟩))
  have T2 : TB s2 h := by rw [← e2, ← e1]; exact (tb.I (fun e => by omega)).L
  have k : mI s2 (h + 28) c = v.1 := by rw [← e2, mI_wL, ← e1, mI_wI, if_pos ⟨rfl, rfl⟩, mI32]; exact g.2.1
  have n : mL s2 (h + 29) c = mL σ (h + 34) d := by rw [← e2, mL_wL, if_pos ⟨rfl, rfl⟩, mL64, ← e1, mL_wI]
  have k' : mI s2 (h + 33) d = v.1 := by rw [X2.rI (by unfold Cp; omega)]; exact g.2.1
  rw [k']
  have A : ∀ t : Int, (v.1 = 2 → t = v.2.2.length) → Ev (tw_store_j49 N h d c t c s2) (fun r => Ex (Cp h c) σ r ∧ TB r h ∧ VC r h c v) := by
    intro t ht
    unfold tw_store_j49
    refine Ev.g gC (Ev.l ?_)
    rw [tn]
    have X3 : Ex (Cp h c) σ (wI s2 (h + 30) c t) := X2.I (Or.inr (Or.inr (Or.inl ⟨rfl, rfl⟩)))
    have T3 : TB (wI s2 (h + 30) c t) h := T2.I (fun e => by omega)
    have e := t_store_l (N := N) (h := h) (K := fun s18 => some s18) hd hc 24 0 N (wI s2 (h + 30) c t) (by omega) (by omega) T3.1
    rw [show ((0 : Nat) : Int) = 0 from rfl] at e
    rw [e]
    refine Ev.r ⟨X3.CI (fun j h1 h2 => Or.inr (Or.inr (Or.inr ⟨rfl, by omega, by omega⟩))), T3.CI (fun i _ => T3.1 _), g.1, ?_, fun h0 h2 => ?_, fun h2 => ⟨?_, fun i hi => ?_⟩⟩
    · rw [mI_wCI, if_neg (by omega), mI_wI, if_neg (by omega)]; exact k
    · rw [mL_wCI, mL_wI, n]; exact g.2.2.1 h0 h2
    · have := g.1.txt.1
      rw [mI_wCI, if_neg (by omega), mI_wI, if_pos ⟨rfl, rfl⟩, ht h2, w32_i (by omega) (by omega)]
    · have := g.1.txt.1
      have p : 24 * d + 0 + (24 * c + i - (24 * c + 0)) = 24 * d + i := by omega
      rw [mI_wCI, if_pos ⟨rfl, by omega, by omega⟩, p, X3.rI (by unfold Cp; omega)]
      exact (g.2.2.2 h2).2 i hi
  by_cases h2 : v.1 = 2
  · refine Ev.f (fun q => q h2) (Ev.g (dG hd) (A _ (fun _ => ?_)))
    rw [X2.rI (by unfold Cp; omega)]; exact (g.2.2.2 h2).1
  · exact Ev.g h2 (A _ (fun q => absurd q h2))
theorem wantN_1 (h : v.1 = 1) : wantN v = v := by unfold wantN; rw [if_neg (by omega), if_pos h]
theorem wantN_x (h : v.1 ≠ 0) (h' : v.1 ≠ 1) : wantN v = vErr 3 := by unfold wantN; rw [if_neg h, if_neg h']
theorem wantB_3 (h : v.1 = 3) : wantB v = v := by unfold wantB; rw [if_neg (by omega), if_pos h]
theorem wantB_x (h : v.1 ≠ 0) (h' : v.1 ≠ 3) : wantB v = vErr 3 := by unfold wantB; rw [if_neg h, if_neg h']
theorem t_wantsNumber (hd : d < 200) (g : VH σ h d v) : Ev (tw_wantsNumber h d σ) (fun r => r.1 = (if (wantN v).1 = 1 then 1 else 0) ∧ HS h d σ r.2 (wantN v)) := by
  unfold tw_wantsNumber
  refine Ev.g (dG hd) ?_
  rw [tn, g.2.1]
  have J : ∀ (s : gMem) (u : Vl), VH s h d u → u.1 = 1 → Ev (tw_wantsNumber_j31 h d s) (fun r => r = (1, s)) := by
    intro s u gu hu
    unfold tw_wantsNumber_j31
    refine Ev.g (dG hd) (Ev.f (fun q => q ?_) (Ev.r rfl))
    rw [tn, gu.2.1]; exact hu
  by_cases h0 : v.1 = 0
  · refine Ev.f (fun q => q h0) (Ev.c (t_number hd (by decide)) (fun r _ q => ?_))
    unfold tw_wantsNumber_j15
    have e0 : (vBe 0).1 = 1 := rfl
    have e1 : wantN v = vBe 0 := by unfold wantN; rw [if_pos h0]
    refine Ev.g (dG hd) (Ev.g (by rw [tn, q.2.2.2.1]; rfl) (Ev.m (J r _ q.2.2 rfl) (fun a ha => ?_)))
    rw [ha, e1]
    exact ⟨rfl, q⟩
  · refine Ev.g h0 ?_
    unfold tw_wantsNumber_j15
    refine Ev.g (dG hd) ?_
    rw [tn, g.2.1]
    by_cases h1 : v.1 = 1
    · refine Ev.g h1 (Ev.m (J σ _ g h1) (fun a ha => ?_))
      rw [ha, wantN_1 h1, if_pos h1]
      exact ⟨rfl, HS.rf g⟩
    · refine Ev.f h1 (Ev.c (t_error hd (by decide) (by decide)) (fun r _ q => ?_))
      unfold tw_wantsNumber_j31
      refine Ev.g (dG hd) (Ev.g (by rw [tn, q.2.2.2.1]; decide) (Ev.r ?_))
      rw [wantN_x h0 h1]
      exact ⟨rfl, q⟩
theorem t_wantsTruth (hd : d < 200) (g : VH σ h d v) : Ev (tw_wantsTruth h d σ) (fun r => r.1 = (if (wantB v).1 = 3 then 1 else 0) ∧ HS h d σ r.2 (wantB v)) := by
  unfold tw_wantsTruth
  refine Ev.g (dG hd) ?_
  rw [tn, g.2.1]
  have J : ∀ (s : gMem) (u : Vl), VH s h d u → u.1 = 3 → Ev (tw_wantsTruth_j31 h d s) (fun r => r = (1, s)) := by
    intro s u gu hu
    unfold tw_wantsTruth_j31
    refine Ev.g (dG hd) (Ev.f (fun q => q ?_) (Ev.r rfl))
    rw [tn, gu.2.1]; exact hu
  by_cases h0 : v.1 = 0
  · refine Ev.f (fun q => q h0) (Ev.c (t_truth hd) (fun r _ q => ?_))
    unfold tw_wantsTruth_j15
    have e1 : wantB v = vIs false := by unfold wantB; rw [if_pos h0]
    refine Ev.g (dG hd) (Ev.g (by rw [tn, q.2.2.2.1]; rfl) (Ev.m (J r _ q.2.2 rfl) (fun a ha => ?_)))
    rw [ha, e1]
    exact ⟨rfl, q⟩
  · refine Ev.g h0 ?_
    unfold tw_wantsTruth_j15
    refine Ev.g (dG hd) ?_
    rw [tn, g.2.1]
    by_cases h1 : v.1 = 3
    · refine Ev.g h1 (Ev.m (J σ _ g h1) (fun a ha => ?_))
      rw [ha, wantB_3 h1, if_pos h1]
      exact ⟨rfl, HS.rf g⟩
    · refine Ev.f h1 (Ev.c (t_error hd (by decide) (by decide)) (fun r _ q => ?_))
      unfold tw_wantsTruth_j31
      refine Ev.g (dG hd) (Ev.g (by rw [tn, q.2.2.2.1]; decide) (Ev.r ?_))
      rw [wantB_x h0 h1]
      exact ⟨rfl, q⟩
end TwVal2
