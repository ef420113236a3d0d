/-! ===== PHASE 2: the twin's formulas: reckoning, likeness, calls ===== -/
section TwEv5
variable {N h d : Nat} {σ σ' s : gMem} {v w a b : Vl}
theorem vBe_big {x : Int} (hx : 1000000000000000 < x.natAbs) : vBe x = vErr 4 := by unfold vBe; rw [if_pos (by omega)]
theorem t_times {x y : Int} (hd : d < 200) (hx : x.natAbs ≤ 1000000000000000) (hy : y.natAbs ≤ 1000000000000000) : Ev (tw_times h d x y σ) (fun r => HS h d σ r (vBe (x * y))) := by
  have e : ∀ z : Int, z.natAbs ≤ 1000000000000000 → ((¬ 0 ≤ z) → w64 (-z) = ((z.natAbs : Nat) : Int)) := fun z hz hn => by rw [w64_i (by omega) (by omega)]; omega
  have hm : (x * y).natAbs = x.natAbs * y.natAbs := Int.natAbs_mul x y
  have J59 : x.natAbs * y.natAbs ≤ 1000000000000000 → Ev (tw_times_j59 h d x y σ) (fun r => HS h d σ r (vBe (x * y))) := by
    intro hb
    unfold tw_times_j59
    rw [← hm] at hb
    generalize x * y = z at *
    rw [w64_i (by omega) (by omega)]
    exact Ev.c (t_number hd (by omega)) (fun r _ q => Ev.r q)
  have J29 : Ev (tw_times_j29 h d x y (x.natAbs : Int) (y.natAbs : Int) σ) (fun r => HS h d σ r (vBe (x * y))) := by
    unfold tw_times_j29
    by_cases c0 : x.natAbs = 0
    · exact Ev.g (gcmp_np.mpr (by omega)) (J59 (by rw [c0]; omega))
    · refine Ev.f (fun q => by have := gcmp_np.mp q; omega) (Ev.g (by omega) ?_)
      have ed : w64 (Int.tdiv 1000000000000000 (x.natAbs : Int)) = ((1000000000000000 / x.natAbs : Nat) : Int) := by
        have : Int.tdiv 1000000000000000 (x.natAbs : Int) = ((1000000000000000 / x.natAbs : Nat) : Int) := by
          rw [show (1000000000000000 : Int) = ((1000000000000000 : Nat) : Int) from rfl, ← Int.ofNat_tdiv]
        have hl : 1000000000000000 / x.natAbs ≤ 1000000000000000 := Nat.div_le_self _ _
        rw [this]
        generalize 1000000000000000 / x.natAbs = t at hl ⊢
        exact w64_i (by omega) (by omega)
      rw [ed]
      by_cases c1 : y.natAbs ≤ 1000000000000000 / x.natAbs
      · refine Ev.g (gcmp_np.mpr (Int.ofNat_le.mpr c1)) (J59 ?_)
        have := (Nat.le_div_iff_mul_le (by omega)).mp c1
        rw [Nat.mul_comm]; exact this
      · refine Ev.f (fun q => c1 (Int.ofNat_le.mp (gcmp_np.mp q))) (Ev.c (t_error hd (by decide) (by decide)) (fun r _ q => Ev.r ?_))
        have hb : 1000000000000000 < x.natAbs * y.natAbs := by
          rw [Nat.mul_comm]
          exact Nat.lt_of_not_le (fun q => c1 ((Nat.le_div_iff_mul_le (by omega)).mpr q))
        rw [vBe_big (by rw [hm]; exact hb)]; exact q
  have J12 : Ev (tw_times_j12 h d x y (x.natAbs : Int) σ) (fun r => HS h d σ r (vBe (x * y))) := by
    unfold tw_times_j12
    by_cases c : 0 ≤ y
    · refine Ev.g (gcmp_nn.mpr c) ?_
      have := J29
      rwa [show ((y.natAbs : Nat) : Int) = y by omega] at this
    · refine Ev.f (fun q => c (gcmp_nn.mp q)) ?_
      rw [e y hy c]; exact J29
  unfold tw_times
  by_cases c : 0 ≤ x
  · refine Ev.g (gcmp_nn.mpr c) ?_
    have := J12
    rwa [show ((x.natAbs : Nat) : Int) = x by omega] at this
  · refine Ev.f (fun q => c (gcmp_nn.mp q)) ?_
    rw [e x hx c]; exact J12
theorem t_reckon {k : Nat} (hd : d + 1 < 200) (ga : VH σ h d a) (gb : VH σ h (d + 1) b) (ka : a.1 = 1) (kb : b.1 = 1) (h1 : 17 ≤ k) (h2 : k ≤ 21) : Ev (tw_reckon h d k σ) (fun r => HS h d σ r (vReck k a.2.1 b.2.1)) := by
  obtain ⟨-, a1, a2⟩ := ga.1.k1 ka
  obtain ⟨-, b1, b2⟩ := gb.1.k1 kb
  have ea := ga.2.2.1 (by omega) (by omega)
  have eb := gb.2.2.1 (by omega) (by omega)
  unfold tw_reckon vReck
  refine Ev.g (dG (by omega)) (Ev.g (dG1 hd) ?_)
  rw [tn, tn1, ea, eb]
  by_cases c17 : k = 17
  · rw [if_pos c17]
    refine Ev.f (by omega) ?_
    rw [w64_i (by omega) (by omega)]
    exact Ev.c (t_number (by omega) (by omega)) (fun r _ q => Ev.r q)
  · rw [if_neg c17]
    refine Ev.g (by omega) ?_
    by_cases c18 : k = 18
    · rw [if_pos c18]
      refine Ev.f (by omega) ?_
      rw [w64_i (by omega) (by omega)]
      exact Ev.c (t_number (by omega) (by omega)) (fun r _ q => Ev.r q)
    · rw [if_neg c18]
      refine Ev.g (by omega) ?_
      by_cases c19 : k = 19
      · rw [if_pos c19]
        refine Ev.f (by omega) (Ev.c (t_times (by omega) (by omega) (by omega)) (fun r _ q => Ev.r q))
      · rw [if_neg c19]
        refine Ev.g (by omega) ?_
        by_cases c0 : b.2.1 = 0
        · rw [if_pos c0]
          exact Ev.f (fun q => q (gcmp_eq.mpr c0)) (Ev.c (t_error (by omega) (by decide) (by decide)) (fun r _ q => Ev.r q))
        · rw [if_neg c0]
          refine Ev.g (fun q => c0 (gcmp_eq.mp q)) ?_
          by_cases c20 : k = 20
          · rw [if_pos c20]
            refine Ev.f (by omega) (Ev.g c0 ?_)
            have m : (Int.tdiv a.2.1 b.2.1).natAbs ≤ a.2.1.natAbs := by rw [Int.natAbs_tdiv]; exact Nat.div_le_self _ _
            rw [w64_i (by omega) (by omega)]
            exact Ev.c (t_number (by omega) (by omega)) (fun r _ q => Ev.r q)
          · rw [if_neg c20]
            refine Ev.g (by omega) (Ev.g c0 ?_)
            have m : (Int.tmod a.2.1 b.2.1).natAbs ≤ a.2.1.natAbs := by rw [Int.natAbs_tmod]; exact Nat.mod_le _ _
            rw [w64_i (by omega) (by omega)]
            exact Ev.c (t_number (by omega) (by omega)) (fun r _ q => Ev.r q)
theorem ordT_zero : ∀ (s t : List Int), ordT s t = 0 ↔ s = t := by
  intro s
  induction s with
  | nil => intro t; cases t with
    | nil => exact ⟨fun _ => rfl, fun _ => rfl⟩
    | cons y t => exact ⟨fun q => (by cases q), fun q => (by cases q)⟩
  | cons x s ih =>
    intro t
    cases t with
    | nil => exact ⟨fun q => (by cases q), fun q => (by cases q)⟩
    | cons y t =>
      unfold ordT
      by_cases e : x = y
      · rw [if_pos e, ih t]
        exact ⟨fun q => by rw [e, q], fun q => (List.cons.inj q).2⟩
      · rw [if_neg e]
        refine ⟨fun q => ?_, fun q => absurd (List.cons.inj q).1 e⟩
        split at q
        · cases q
        · cases q
theorem ordV_sym (hk : a.1 = b.1) : ordV a b = 0 ↔ ordV b a = 0 := by
  unfold ordV
  by_cases h2 : a.1 = 2
  · rw [if_pos h2, if_pos (show b.1 = 2 by omega), ordT_zero, ordT_zero]; exact ⟨Eq.symm, Eq.symm⟩
  · rw [if_neg h2, if_neg (show ¬ b.1 = 2 by omega)]
    constructor
    · intro q
      by_cases c1 : a.2.1 < b.2.1
      · rw [if_pos c1] at q; cases q
      · rw [if_neg c1] at q
        by_cases c2 : b.2.1 < a.2.1
        · rw [if_pos c2] at q; cases q
        · rw [if_neg c2, if_neg c1]
    · intro q
      by_cases c1 : b.2.1 < a.2.1
      · rw [if_pos c1] at q; cases q
      · rw [if_neg c1] at q
        by_cases c2 : a.2.1 < b.2.1
        · rw [if_pos c2] at q; cases q
        · rw [if_neg c2, if_neg c1]
theorem like_eq {key v : Vl} (hk : VOk key) (hv : VOk v) : ((asO v key).1 = (asO key (asO v key)).1 ∧ ordV (asO v key) (asO key (asO v key)) = 0) ↔ (vCmp 0 key v).2.1 = 1 := by
  have A : ∀ x y : Vl, ((x.1 = y.1 ∧ ordV x y = 0) ↔ ((if y.1 ≠ x.1 then (if 0 < 2 then vIs (decide (0 = 1)) else vErr 3) else vIs (holds (ordV y x) 0)) : Vl).2.1 = 1) := by
    intro x y
    by_cases e : x.1 = y.1
    · rw [if_neg (fun q => q e.symm)]
      have : holds (ordV y x) 0 = decide (ordV y x = 0) := rfl
      rw [this]
      by_cases z : ordV x y = 0
      · rw [decide_eq_true ((ordV_sym e).mp z)]; exact ⟨fun _ => rfl, fun _ => ⟨e, z⟩⟩
      · rw [decide_eq_false (fun q => z ((ordV_sym e).mpr q))]; exact ⟨fun q => absurd q.2 z, fun q => (by cases q)⟩
    · rw [if_pos (fun q => e q.symm)]
      exact ⟨fun q => absurd q.1 e, fun q => (by cases q)⟩
  unfold vCmp
  dsimp only
  by_cases k0 : key.1 = 0
  · by_cases v0 : v.1 = 0
    · rw [hk.k0 k0, hv.k0 v0]
      exact ⟨fun _ => rfl, fun _ => ⟨rfl, rfl⟩⟩
    · have e1 : asO v key = v := by unfold asO adapt; rw [if_neg (by omega), if_pos v0]
      have e2 : asO key v = adapt key v := by unfold asO; rw [if_neg (by omega)]
      have e3 : ∀ z, adapt v z = v := fun z => by unfold adapt; rw [if_pos v0]
      rw [e1, e2, e3]; exact A _ _
  · have e1 : asO v key = adapt v key := by unfold asO; rw [if_neg (by omega)]
    have e2 : ∀ z, asO key z = key := fun z => by unfold asO adapt; rw [if_neg (by omega), if_pos k0]
    have e3 : ∀ z, adapt key z = key := fun z => by unfold adapt; rw [if_pos k0]
    rw [e1, e2, e3]; exact A _ _
theorem dG2 (hd : d + 2 < 200) : (0 : Int) ≤ (d : Int) + 2 ∧ (d : Int) + 2 < ((200 : Nat) : Int) := by omega
theorem tn2 (n : Nat) : ((n : Int) + 2).toNat = n + 2 := by omega
theorem sc2 (hd : d < 200) : w32 ((d : Int) + 2) = ((d + 2 : Nat) : Int) := by rw [w32_i (by omega) (by omega)]; omega
theorem t_isLike {c : Nat} {key : Vl} (hd : d + 2 < 200) (hc : c < 13120) (hN : 30 ≤ N) (ta : TA σ h) (tb : TB σ h) (cw : Cw σ h) (gk : VH σ h d key) (gv : VC σ h c v) (h4 : key.1 ≠ 4) : Ev (tw_isLike N h d c σ) (fun r => Ex (Hg h (d + 1)) σ r.2 ∧ TB r.2 h ∧ r.1 = if likeV key v then 1 else 0) := by
  unfold tw_isLike
  rw [sc32 (by omega), sc2 (by omega)]
  refine Ev.c (t_load (by omega) hc hN ta.1 ta.2.1 tb gv) (fun s1 _ q1 => Ev.g (dG1 (by omega)) ?_)
  have T1 := q1.2.1 tb
  have X1 : Ex (Hg h (d + 1)) σ s1 := q1.1.mono (fun _ _ p => p.g (Nat.le_refl _))
  rw [tn1, q1.2.2.2.1]
  by_cases c4 : v.1 = 4
  · refine Ev.f (fun q => q c4) (Ev.r ⟨X1, T1, ?_⟩)
    unfold likeV; rw [decide_eq_false (fun q => q c4)]; rfl
  · refine Ev.g c4 (Ev.c (t_bring (by omega) (by omega) hN T1 (VH.ne q1.1 gk (by omega))) (fun s2 _ q2 => ?_))
    have T2 := q2.2.1 T1
    have cw2 := (cw.ex q1.1 (fun _ _ p => p.le)).ex q2.1 (fun _ _ p => p.le)
    have gv2 := VH.ne q2.1 q1.2.2 (by omega)
    refine Ev.c (t_asOther (a := v) (b := key) (by omega) hd hN cw2 gv2 q2.2.2 h4) (fun s3 _ q3 => ?_)
    have cw3 := cw2.ex q3.1 (fun _ _ p => p.le)
    have gk3 := VH.ne q3.1 q2.2.2 (by omega)
    refine Ev.c (t_asOther (a := key) (b := asO v key) hd (by omega) hN cw3 gk3 q3.2.2 (asO_n4 gv.1 c4)) (fun s4 _ q4 => ?_)
    have gv4 := VH.ne q4.1 q3.2.2 (by omega)
    have X4 : Ex (Hg h (d + 1)) σ s4 := ((X1.tr (q2.1.mono (fun _ _ p => p.g (by omega)))).tr (q3.1.mono (fun _ _ p => p.g (Nat.le_refl _)))).tr (q4.1.mono (fun _ _ p => p.g (by omega)))
    have T4 := q4.2.1 (q3.2.1 T2)
    have el : (likeV key v = true) ↔ ((asO v key).1 = (asO key (asO v key)).1 ∧ ordV (asO v key) (asO key (asO v key)) = 0) := by
      rw [like_eq gk.1 gv.1]
      unfold likeV
      rw [decide_eq_true c4, Bool.true_and, decide_eq_true_eq]
    refine Ev.g (dG1 (by omega)) (Ev.g (dG2 hd) ?_)
    rw [tn2, gv4.2.1, q4.2.2.2.1]
    by_cases ce : (asO v key).1 = (asO key (asO v key)).1
    · refine Ev.f (fun q => q ce) ?_
      rw [t_order (by omega) hd hN gv4 q4.2.2 ce, Option.bind_some]
      by_cases co : ordV (asO v key) (asO key (asO v key)) = 0
      · refine Ev.f (fun q => q co) (Ev.r ⟨X4, T4, ?_⟩)
        rw [if_pos (el.mpr ⟨ce, co⟩)]
      · refine Ev.g co (Ev.r ⟨X4, T4, ?_⟩)
        rw [if_neg (fun q => co (el.mp q).2)]
    · refine Ev.g ce (Ev.r ⟨X4, T4, ?_⟩)
      rw [if_neg (fun q => ce (el.mp q).1)]
end TwEv5
