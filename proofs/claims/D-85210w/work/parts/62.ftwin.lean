/-! ===== frames of the twin (printed by gen_ft.py) ===== -/
theorem ft_tw_copySheet_l26 {fs os : List Nat} {σ0 : gMem} {N : Nat} {h : Nat} {v1 : Int} {v2 : Int} {K : gMem → Option gMem} (hf : [] ⊆ fs) (ho : [3] ⊆ os) (hK : ∀ (a0 : gMem), FT h fs os σ0 a0 → Fo (fun r => FT h fs os σ0 r) (K a0)) : ∀ (n : Nat) (z0 : Int) (z1 : gMem), FT h fs os σ0 z1 → Fo (fun r => FT h fs os σ0 r) (tw_copySheet_l26 N h v1 v2 K n z0 z1) := by
  intro n
  induction n with
  | zero => intros; exact Fo.none
  | succ n ih =>
    intro v3 s hs
    unfold tw_copySheet_l26
    refine Fo.ite (fun _ => ?_) (fun _ => ?_)
    · exact (hK _ hs)
    · refine Fo.ite (fun _ => ?_) (fun _ => Fo.none)
      refine Fo.ite (fun _ => ?_) (fun _ => Fo.none)
      refine FT.letI hs (ho (by decide)) (fun s10 q1 => ?_)
      exact (ih _ _ q1)
theorem ft_tw_copySheet_l62 {fs os : List Nat} {σ0 : gMem} {N : Nat} {h : Nat} {v1 : Int} {v2 : Int} {K : gMem → Option gMem} (hf : [] ⊆ fs) (ho : [4] ⊆ os) (hK : ∀ (a0 : gMem), FT h fs os σ0 a0 → Fo (fun r => FT h fs os σ0 r) (K a0)) : ∀ (n : Nat) (z0 : Int) (z1 : gMem), FT h fs os σ0 z1 → Fo (fun r => FT h fs os σ0 r) (tw_copySheet_l62 N h v1 v2 K n z0 z1) := by
  intro n
  induction n with
  | zero => intros; exact Fo.none
  | succ n ih =>
    intro v3 s hs
    unfold tw_copySheet_l62
    refine Fo.ite (fun _ => ?_) (fun _ => ?_)
    · exact (hK _ hs)
    · refine Fo.ite (fun _ => ?_) (fun _ => Fo.none)
      refine Fo.ite (fun _ => ?_) (fun _ => Fo.none)
      refine FT.letI hs (ho (by decide)) (fun s16 q2 => ?_)
      exact (ih _ _ q2)
theorem ft_tw_copySheet_l98 {fs os : List Nat} {σ0 : gMem} {N : Nat} {h : Nat} {v1 : Int} {v2 : Int} {K : gMem → Option gMem} (hf : [] ⊆ fs) (ho : [5] ⊆ os) (hK : ∀ (a0 : gMem), FT h fs os σ0 a0 → Fo (fun r => FT h fs os σ0 r) (K a0)) : ∀ (n : Nat) (z0 : Int) (z1 : gMem), FT h fs os σ0 z1 → Fo (fun r => FT h fs os σ0 r) (tw_copySheet_l98 N h v1 v2 K n z0 z1) := by
  intro n
  induction n with
  | zero => intros; exact Fo.none
  | succ n ih =>
    intro v3 s hs
    unfold tw_copySheet_l98
    refine Fo.ite (fun _ => ?_) (fun _ => ?_)
    · exact (hK _ hs)
    · refine Fo.ite (fun _ => ?_) (fun _ => Fo.none)
      refine Fo.ite (fun _ => ?_) (fun _ => Fo.none)
      refine FT.letI hs (ho (by decide)) (fun s22 q3 => ?_)
      exact (ih _ _ q3)
theorem ft_tw_copySheet {fs os : List Nat} {σ0 : gMem} {N : Nat} {h : Nat} {v1 : Int} {v2 : Int} {σ : gMem} (hf : [65] ⊆ fs) (ho : [1, 2, 3, 4, 5] ⊆ os) (hσ : FT h fs os σ0 σ) : Fo (fun r => FT h fs os σ0 r) (tw_copySheet N h v1 v2 σ) := by
  unfold tw_copySheet
  refine Fo.ite (fun _ => ?_) (fun _ => Fo.none)
  refine Fo.ite (fun _ => ?_) (fun _ => Fo.none)
  refine FT.letI hσ (ho (by decide)) (fun s2 q4 => ?_)
  refine Fo.ite (fun _ => ?_) (fun _ => Fo.none)
  refine Fo.ite (fun _ => ?_) (fun _ => Fo.none)
  refine FT.letI q4 (ho (by decide)) (fun s6 q5 => ?_)
  exact (ft_tw_copySheet_l26 (List.nil_subset _) (List.Subset.trans (by decide) ho) (fun s13 q6 => by
      exact (ft_tw_copySheet_l62 (List.nil_subset _) (List.Subset.trans (by decide) ho) (fun s19 q8 => by
        exact (ft_tw_copySheet_l98 (List.nil_subset _) (List.Subset.trans (by decide) ho) (fun s25 q10 => by
          refine Fo.ite (fun _ => ?_) (fun _ => ?_)
          · exact Fo.some q10
          · refine FT.letIf q10 (hf (by decide)) (fun s27 q12 => ?_)
            exact Fo.some q12)  _ _ _ q8))  _ _ _ q6))  _ _ _ q5)
theorem ft_tw_throwing {fs os : List Nat} {σ0 : gMem} {h : Nat} {v1 : Int} {σ : gMem} (hf : [0] ⊆ fs) (ho : [] ⊆ os) (hσ : FT h fs os σ0 σ) : Fo (fun r => FT h fs os σ0 r.2) (tw_throwing h v1 σ) := by
  unfold tw_throwing
  refine FT.letIf hσ (hf (by decide)) (fun s1 q13 => ?_)
  exact Fo.some q13
theorem ft_tw_redo {fs os : List Nat} {σ0 : gMem} {N : Nat} {h : Nat} {σ : gMem} (hf : [0, 16, 17, 65] ⊆ fs) (ho : [1, 2, 3, 4, 5] ⊆ os) (hσ : FT h fs os σ0 σ) : Fo (fun r => FT h fs os σ0 r.2) (tw_redo N h σ) := by
  unfold tw_redo
  refine FT.letIf hσ (hf (by decide)) (fun s1 q14 => ?_)
  refine Fo.ite (fun _ => ?_) (fun _ => ?_)
  · refine FT.letIf q14 (hf (by decide)) (fun s6 q15 => ?_)
    refine Fo.pure (fun x10 => ?_)
    refine Fo.bind (ft_tw_copySheet (List.Subset.trans (by decide) hf) ho  q15) (fun x12 q16 => ?_)
    refine FT.letIf q16 (hf (by decide)) (fun s16 q17 => ?_)
    refine Fo.bind (ft_tw_copySheet (List.Subset.trans (by decide) hf) ho  q17) (fun x20 q18 => ?_)
    exact Fo.some q18
  · refine Fo.bind (ft_tw_throwing (List.Subset.trans (by decide) hf) (List.nil_subset _)  q14) (fun x24 q19 => ?_)
    exact Fo.some q19
theorem ft_tw_feed_l23_j76 {fs os : List Nat} {σ0 : gMem} {N : Nat} {h : Nat} {v1 : Int} {v2 : Int} {v3 : Int} {v4 : Int} {v5 : Int} {v6 : Int} {t0 : Int} {Kh : Int → gMem → Option (Int × gMem)} {K : gMem → Option (Int × gMem)} {s : gMem} (hf : [] ⊆ fs) (ho : [27] ⊆ os) (hKh : ∀ (a0 : Int) (a1 : gMem), FT h fs os σ0 a1 → Fo (fun r => FT h fs os σ0 r.2) (Kh a0 a1)) (hK : ∀ (a0 : gMem), FT h fs os σ0 a0 → Fo (fun r => FT h fs os σ0 r.2) (K a0)) (hs : FT h fs os σ0 s) : Fo (fun r => FT h fs os σ0 r.2) (tw_feed_l23_j76 N h v1 v2 v3 v4 v5 v6 t0 Kh K s) := by
  unfold tw_feed_l23_j76
  refine Fo.ite (fun _ => ?_) (fun _ => Fo.none)
  refine FT.letI hs (ho (by decide)) (fun s6 q20 => ?_)
  exact (hKh _ _ q20)
theorem ft_tw_feed_l23 {fs os : List Nat} {σ0 : gMem} {N : Nat} {h : Nat} {v1 : Int} {v2 : Int} {v3 : Int} {v4 : Int} {v5 : Int} {K : gMem → Option (Int × gMem)} (hf : [] ⊆ fs) (ho : [27] ⊆ os) (hK : ∀ (a0 : gMem), FT h fs os σ0 a0 → Fo (fun r => FT h fs os σ0 r.2) (K a0)) : ∀ (n : Nat) (z0 : Int) (z1 : gMem), FT h fs os σ0 z1 → Fo (fun r => FT h fs os σ0 r.2) (tw_feed_l23 N h v1 v2 v3 v4 v5 K n z0 z1) := by
  intro n
  induction n with
  | zero => intros; exact Fo.none
  | succ n ih =>
    intro v6 s hs
    unfold tw_feed_l23
    refine Fo.ite (fun _ => ?_) (fun _ => ?_)
    · exact (hK _ hs)
    · refine Fo.ite (fun _ => ?_) (fun _ => ?_)
      · refine Fo.ite (fun _ => ?_) (fun _ => ?_)
        · refine Fo.ite (fun _ => ?_) (fun _ => ?_)
          · refine Fo.ite (fun _ => ?_) (fun _ => ?_)
            · exact (ft_tw_feed_l23_j76 hf ho (fun a0 a1 b1 => ih a0 a1 b1) hK hs)
            · exact (ft_tw_feed_l23_j76 hf ho (fun a0 a1 b1 => ih a0 a1 b1) hK hs)
          · exact (ft_tw_feed_l23_j76 hf ho (fun a0 a1 b1 => ih a0 a1 b1) hK hs)
        · exact (ft_tw_feed_l23_j76 hf ho (fun a0 a1 b1 => ih a0 a1 b1) hK hs)
      · exact (ft_tw_feed_l23_j76 hf ho (fun a0 a1 b1 => ih a0 a1 b1) hK hs)
theorem ft_tw_feed {fs os : List Nat} {σ0 : gMem} {N : Nat} {h : Nat} {v1 : Int} {v2 : Int} {v3 : Int} {v4 : Int} {v5 : Int} {σ : gMem} (hf : [0, 40] ⊆ fs) (ho : [27] ⊆ os) (hσ : FT h fs os σ0 σ) : Fo (fun r => FT h fs os σ0 r.2) (tw_feed N h v1 v2 v3 v4 v5 σ) := by
  unfold tw_feed
  refine FT.letIf hσ (hf (by decide)) (fun s1 q21 => ?_)
  refine Fo.ite (fun _ => ?_) (fun _ => ?_)
  · exact (ft_tw_feed_l23 (List.nil_subset _) ho (fun s9 q22 => by
      refine FT.letIf q22 (hf (by decide)) (fun s12 q24 => ?_)
      exact Fo.some q24)  _ _ _ q21)
  · exact Fo.some q21
theorem ft_tw_is {fs os : List Nat} {σ0 : gMem} {h : Nat} {v1 : Int} {v2 : Int} {σ : gMem} (hf : [47, 49] ⊆ fs) (ho : [] ⊆ os) (hσ : FT h fs os σ0 σ) : Fo (fun r => FT h fs os σ0 r) (tw_is h v1 v2 σ) := by
  unfold tw_is
  refine FT.letIf hσ (hf (by decide)) (fun s1 q25 => ?_)
  refine FT.letIf q25 (hf (by decide)) (fun s4 q26 => ?_)
  exact Fo.some q26
theorem ft_tw_numberToken_l5 {fs os : List Nat} {σ0 : gMem} {N : Nat} {h : Nat} {K : Int → gMem → Option gMem} (hf : [] ⊆ fs) (ho : [] ⊆ os) (hK : ∀ (a0 : Int) (a1 : gMem), FT h fs os σ0 a1 → Fo (fun r => FT h fs os σ0 r) (K a0 a1)) : ∀ (n : Nat) (z0 : Int) (z1 : gMem), FT h fs os σ0 z1 → Fo (fun r => FT h fs os σ0 r) (tw_numberToken_l5 N h K n z0 z1) := by
  intro n
  induction n with
  | zero => intros; exact Fo.none
  | succ n ih =>
    intro v1 s hs
    unfold tw_numberToken_l5
    refine Fo.pure (fun x2 => ?_)
    refine Fo.pure (fun x4 => ?_)
    refine Fo.ite (fun _ => ?_) (fun _ => ?_)
    · exact (hK _ _ hs)
    · exact (ih _ _ hs)
theorem ft_tw_numberToken {fs os : List Nat} {σ0 : gMem} {N : Nat} {h : Nat} {σ : gMem} (hf : [47, 49, 51] ⊆ fs) (ho : [] ⊆ os) (hσ : FT h fs os σ0 σ) : Fo (fun r => FT h fs os σ0 r) (tw_numberToken N h σ) := by
  unfold tw_numberToken
  exact (ft_tw_numberToken_l5 (List.nil_subset _) ho (fun y6 s7 q27 => by
      refine Fo.ite (fun _ => ?_) (fun _ => ?_)
      · refine Fo.bind (ft_tw_is (List.Subset.trans (by decide) hf) ho  q27) (fun x10 q29 => ?_)
        exact Fo.some q29
      · refine FT.letIf q27 (hf (by decide)) (fun s14 q30 => ?_)
        refine Fo.bind (ft_tw_is (List.Subset.trans (by decide) hf) ho  q30) (fun x17 q31 => ?_)
        exact Fo.some q31)  _ _ _ hσ)
theorem ft_tw_corner_l66 {fs os : List Nat} {σ0 : gMem} {N : Nat} {h : Nat} {v3 : Int} {v4 : Int} {K : Int → Int → Int → gMem → Option (Int × gMem)} (hf : [] ⊆ fs) (ho : [] ⊆ os) (hK : ∀ (a0 : Int) (a1 : Int) (a2 : Int) (a3 : gMem), FT h fs os σ0 a3 → Fo (fun r => FT h fs os σ0 r.2) (K a0 a1 a2 a3)) : ∀ (n : Nat) (z0 : Int) (z1 : Int) (z2 : Int) (z3 : gMem), FT h fs os σ0 z3 → Fo (fun r => FT h fs os σ0 r.2) (tw_corner_l66 N h v3 v4 K n z0 z1 z2 z3) := by
  intro n
  induction n with
  | zero => intros; exact Fo.none
  | succ n ih =>
    intro v2 v5 v6 s hs
    unfold tw_corner_l66
    refine Fo.ite (fun _ => ?_) (fun _ => ?_)
    · exact (hK _ _ _ _ hs)
    · refine Fo.pure (fun x9 => ?_)
      refine Fo.pure (fun x11 => ?_)
      refine Fo.ite (fun _ => ?_) (fun _ => ?_)
      · exact (hK _ _ _ _ hs)
      · refine Fo.pure (fun x13 => ?_)
        exact (ih _ _ _ _ hs)
theorem ft_tw_corner_j108 {fs os : List Nat} {σ0 : gMem} {N : Nat} {h : Nat} {v2 : Int} {v3 : Int} {v4 : Int} {v5 : Int} {v6 : Int} {s : gMem} (hf : [52, 53, 54, 55] ⊆ fs) (ho : [] ⊆ os) (hs : FT h fs os σ0 s) : Fo (fun r => FT h fs os σ0 r.2) (tw_corner_j108 N h v2 v3 v4 v5 v6 s) := by
  unfold tw_corner_j108
  refine Fo.ite (fun _ => ?_) (fun _ => ?_)
  · exact Fo.some hs
  · refine Fo.pure (fun x20 => ?_)
    refine Fo.pure (fun x22 => ?_)
    refine Fo.ite (fun _ => ?_) (fun _ => ?_)
    · exact Fo.some hs
    · refine Fo.pure (fun x24 => ?_)
      refine Fo.pure (fun x26 => ?_)
      refine Fo.ite (fun _ => ?_) (fun _ => ?_)
      · refine FT.letIf hs (hf (by decide)) (fun s28 q32 => ?_)
        refine FT.letIf q32 (hf (by decide)) (fun s31 q33 => ?_)
        refine FT.letIf q33 (hf (by decide)) (fun s34 q34 => ?_)
        refine FT.letIf q34 (hf (by decide)) (fun s37 q35 => ?_)
        exact Fo.some q35
      · exact Fo.some hs
theorem ft_tw_corner_j60 {fs os : List Nat} {σ0 : gMem} {N : Nat} {h : Nat} {v2 : Int} {v3 : Int} {v4 : Int} {s : gMem} (hf : [52, 53, 54, 55] ⊆ fs) (ho : [] ⊆ os) (hs : FT h fs os σ0 s) : Fo (fun r => FT h fs os σ0 r.2) (tw_corner_j60 N h v2 v3 v4 s) := by
  unfold tw_corner_j60
  exact (ft_tw_corner_l66 (List.nil_subset _) ho (fun y15 y16 y17 s18 q36 => by
      exact (ft_tw_corner_j108 hf ho  q36))  _ _ _ _ _ hs)
theorem ft_tw_corner_j19 {fs os : List Nat} {σ0 : gMem} {N : Nat} {h : Nat} {v2 : Int} {v3 : Int} {s : gMem} (hf : [52, 53, 54, 55] ⊆ fs) (ho : [] ⊆ os) (hs : FT h fs os σ0 s) : Fo (fun r => FT h fs os σ0 r.2) (tw_corner_j19 N h v2 v3 s) := by
  unfold tw_corner_j19
  refine Fo.pure (fun x3 => ?_)
  refine Fo.pure (fun x5 => ?_)
  refine Fo.ite (fun _ => ?_) (fun _ => ?_)
  · refine Fo.pure (fun x7 => ?_)
    refine Fo.ite (fun _ => ?_) (fun _ => ?_)
    · exact (ft_tw_corner_j60 hf ho  hs)
    · exact (ft_tw_corner_j60 hf ho  hs)
  · exact Fo.some hs
theorem ft_tw_corner {fs os : List Nat} {σ0 : gMem} {N : Nat} {h : Nat} {v1 : Int} {σ : gMem} (hf : [52, 53, 54, 55] ⊆ fs) (ho : [] ⊆ os) (hσ : FT h fs os σ0 σ) : Fo (fun r => FT h fs os σ0 r.2) (tw_corner N h v1 σ) := by
  unfold tw_corner
  refine Fo.pure (fun x1 => ?_)
  refine Fo.ite (fun _ => ?_) (fun _ => ?_)
  · exact (ft_tw_corner_j19 hf ho  hσ)
  · exact (ft_tw_corner_j19 hf ho  hσ)
theorem ft_tw_sign {fs os : List Nat} {σ0 : gMem} {h : Nat} {v1 : Int} {v2 : Int} {σ : gMem} (hf : [47, 49, 50] ⊆ fs) (ho : [] ⊆ os) (hσ : FT h fs os σ0 σ) : Fo (fun r => FT h fs os σ0 r) (tw_sign h v1 v2 σ) := by
  unfold tw_sign
  refine FT.letIf hσ (hf (by decide)) (fun s1 q38 => ?_)
  refine FT.letIf q38 (hf (by decide)) (fun s4 q39 => ?_)
  refine FT.letIf q39 (hf (by decide)) (fun s7 q40 => ?_)
  exact Fo.some q40
theorem ft_tw_fail {fs os : List Nat} {σ0 : gMem} {h : Nat} {v1 : Int} {v2 : Int} {σ : gMem} (hf : [41, 42] ⊆ fs) (ho : [] ⊆ os) (hσ : FT h fs os σ0 σ) : Fo (fun r => FT h fs os σ0 r) (tw_fail h v1 v2 σ) := by
  unfold tw_fail
  refine Fo.ite (fun _ => ?_) (fun _ => ?_)
  · exact Fo.some hσ
  · refine FT.letIf hσ (hf (by decide)) (fun s2 q41 => ?_)
    refine FT.letIf q41 (hf (by decide)) (fun s5 q42 => ?_)
    exact Fo.some q42
theorem ft_tw_part_l54 {fs os : List Nat} {σ0 : gMem} {N : Nat} {h : Nat} {v2 : Int} {v3 : Int} {K : Int → gMem → Option (Int × gMem)} (hf : [] ⊆ fs) (ho : [] ⊆ os) (hK : ∀ (a0 : Int) (a1 : gMem), FT h fs os σ0 a1 → Fo (fun r => FT h fs os σ0 r.2) (K a0 a1)) : ∀ (n : Nat) (z0 : Int) (z1 : Int) (z2 : Int) (z3 : gMem), FT h fs os σ0 z3 → Fo (fun r => FT h fs os σ0 r.2) (tw_part_l54 N h v2 v3 K n z0 z1 z2 z3) := by
  intro n
  induction n with
  | zero => intros; exact Fo.none
  | succ n ih =>
    intro v4 v5 v6 s hs
    unfold tw_part_l54
    refine Fo.ite (fun _ => ?_) (fun _ => ?_)
    · exact (hK _ _ hs)
    · refine Fo.ite (fun _ => ?_) (fun _ => Fo.none)
      refine Fo.ite (fun _ => ?_) (fun _ => Fo.none)
      exact (ih _ _ _ _ hs)
theorem ft_tw_part {fs os : List Nat} {σ0 : gMem} {N : Nat} {h : Nat} {v1 : Int} {v2 : Int} {σ : gMem} (hf : [56] ⊆ fs) (ho : [14, 15, 16, 17, 18, 19, 20, 21, 22, 23, 24, 25] ⊆ os) (hσ : FT h fs os σ0 σ) : Fo (fun r => FT h fs os σ0 r.2) (tw_part N h v1 v2 σ) := by
  unfold tw_part
  refine Fo.ite (fun _ => ?_) (fun _ => ?_)
  · refine FT.letIf hσ (hf (by decide)) (fun s5 q43 => ?_)
    refine Fo.ite (fun _ => ?_) (fun _ => Fo.none)
    refine FT.letI q43 (ho (by decide)) (fun s8 q44 => ?_)
    refine Fo.ite (fun _ => ?_) (fun _ => Fo.none)
    refine FT.letI q44 (ho (by decide)) (fun s11 q45 => ?_)
    exact (ft_tw_part_l54 (List.nil_subset _) (List.nil_subset _) (fun y16 s17 q46 => by
      refine Fo.ite (fun _ => ?_) (fun _ => Fo.none)
      refine FT.letI q46 (ho (by decide)) (fun s19 q48 => ?_)
      refine Fo.ite (fun _ => ?_) (fun _ => Fo.none)
      refine FT.letL q48 (ho (by decide)) (fun s22 q49 => ?_)
      refine Fo.ite (fun _ => ?_) (fun _ => Fo.none)
      refine FT.letI q49 (ho (by decide)) (fun s25 q50 => ?_)
      refine Fo.ite (fun _ => ?_) (fun _ => Fo.none)
      refine FT.letI q50 (ho (by decide)) (fun s28 q51 => ?_)
      refine Fo.ite (fun _ => ?_) (fun _ => Fo.none)
      refine FT.letI q51 (ho (by decide)) (fun s31 q52 => ?_)
      refine Fo.ite (fun _ => ?_) (fun _ => Fo.none)
      refine FT.letI q52 (ho (by decide)) (fun s34 q53 => ?_)
      refine Fo.ite (fun _ => ?_) (fun _ => Fo.none)
      refine FT.letI q53 (ho (by decide)) (fun s37 q54 => ?_)
      refine Fo.ite (fun _ => ?_) (fun _ => Fo.none)
      refine FT.letI q54 (ho (by decide)) (fun s40 q55 => ?_)
      refine Fo.ite (fun _ => ?_) (fun _ => Fo.none)
      refine FT.letI q55 (ho (by decide)) (fun s43 q56 => ?_)
      refine Fo.ite (fun _ => ?_) (fun _ => Fo.none)
      refine FT.letI q56 (ho (by decide)) (fun s46 q57 => ?_)
      exact Fo.some q57)  _ _ _ _ _ q45)
  · exact Fo.some hσ
theorem ft_tw_kept_l8 {fs os : List Nat} {σ0 : gMem} {N : Nat} {h : Nat} {v2 : Int} {v3 : Int} {K : gMem → Option (Int × gMem)} (hf : [19] ⊆ fs) (ho : [9] ⊆ os) (hK : ∀ (a0 : gMem), FT h fs os σ0 a0 → Fo (fun r => FT h fs os σ0 r.2) (K a0)) : ∀ (n : Nat) (z0 : Int) (z1 : gMem), FT h fs os σ0 z1 → Fo (fun r => FT h fs os σ0 r.2) (tw_kept_l8 N h v2 v3 K n z0 z1) := by
  intro n
  induction n with
  | zero => intros; exact Fo.none
  | succ n ih =>
    intro v4 s hs
    unfold tw_kept_l8
    refine Fo.ite (fun _ => ?_) (fun _ => ?_)
    · exact (hK _ hs)
    · refine Fo.ite (fun _ => ?_) (fun _ => Fo.none)
      refine Fo.ite (fun _ => ?_) (fun _ => Fo.none)
      refine FT.letI hs (ho (by decide)) (fun s4 q58 => ?_)
      refine FT.letIf q58 (hf (by decide)) (fun s8 q59 => ?_)
      exact (ih _ _ q59)
theorem ft_tw_kept {fs os : List Nat} {σ0 : gMem} {N : Nat} {h : Nat} {v1 : Int} {v2 : Int} {σ : gMem} (hf : [19] ⊆ fs) (ho : [9] ⊆ os) (hσ : FT h fs os σ0 σ) : Fo (fun r => FT h fs os σ0 r.2) (tw_kept N h v1 v2 σ) := by
  unfold tw_kept
  exact (ft_tw_kept_l8 hf ho (fun s11 q60 => by
      exact Fo.some q60)  _ _ _ hσ)
theorem ft_tw_opens {fs os : List Nat} {σ0 : gMem} {h : Nat} {σ : gMem} (hf : [41, 42, 57] ⊆ fs) (ho : [] ⊆ os) (hσ : FT h fs os σ0 σ) : Fo (fun r => FT h fs os σ0 r.2) (tw_opens h σ) := by
  unfold tw_opens
  refine Fo.ite (fun _ => ?_) (fun _ => ?_)
  · refine FT.letIf hσ (hf (by decide)) (fun s3 q62 => ?_)
    exact Fo.some q62
  · refine Fo.bind (ft_tw_fail (List.Subset.trans (by decide) hf) ho  hσ) (fun x7 q63 => ?_)
    exact Fo.some q63
theorem ft_tw_readVersion_l42 {fs os : List Nat} {σ0 : gMem} {N : Nat} {h : Nat} {v1 : Int} {K : Int → Int → gMem → Option (Int × gMem)} (hf : [41, 42] ⊆ fs) (ho : [] ⊆ os) (hK : ∀ (a0 : Int) (a1 : Int) (a2 : gMem), FT h fs os σ0 a2 → Fo (fun r => FT h fs os σ0 r.2) (K a0 a1 a2)) : ∀ (n : Nat) (z0 : Int) (z1 : Int) (z2 : gMem), FT h fs os σ0 z2 → Fo (fun r => FT h fs os σ0 r.2) (tw_readVersion_l42 N h v1 K n z0 z1 z2) := by
  intro n
  induction n with
  | zero => intros; exact Fo.none
  | succ n ih =>
    intro v2 v3 s hs
    unfold tw_readVersion_l42
    refine Fo.pure (fun x10 => ?_)
    refine Fo.pure (fun x12 => ?_)
    refine Fo.ite (fun _ => ?_) (fun _ => ?_)
    · exact (hK _ _ _ hs)
    · refine Fo.ite (fun _ => ?_) (fun _ => ?_)
      · refine Fo.pure (fun x14 => ?_)
        exact (ih _ _ _ hs)
      · refine Fo.bind (ft_tw_fail hf ho  hs) (fun x16 q64 => ?_)
        exact Fo.some q64
theorem ft_tw_readVersion {fs os : List Nat} {σ0 : gMem} {N : Nat} {h : Nat} {v1 : Int} {σ : gMem} (hf : [41, 42, 46] ⊆ fs) (ho : [] ⊆ os) (hσ : FT h fs os σ0 σ) : Fo (fun r => FT h fs os σ0 r.2) (tw_readVersion N h v1 σ) := by
  unfold tw_readVersion
  refine FT.letIf hσ (hf (by decide)) (fun s1 q65 => ?_)
  refine Fo.pure (fun x4 => ?_)
  refine Fo.ite (fun _ => ?_) (fun _ => ?_)
  · refine Fo.pure (fun x6 => ?_)
    refine Fo.pure (fun x8 => ?_)
    refine Fo.ite (fun _ => ?_) (fun _ => ?_)
    · exact (ft_tw_readVersion_l42 (List.Subset.trans (by decide) hf) ho (fun y19 y20 s21 q66 => by
      refine FT.letIf q66 (hf (by decide)) (fun s23 q68 => ?_)
      exact Fo.some q68)  _ _ _ _ q65)
    · refine Fo.bind (ft_tw_fail (List.Subset.trans (by decide) hf) ho  q65) (fun x26 q69 => ?_)
      exact Fo.some q69
  · exact Fo.some q65
theorem ft_tw_later_j15 {fs os : List Nat} {σ0 : gMem} {h : Nat} {v1 : Int} {v2 : Int} {s : gMem} (hf : [58, 59] ⊆ fs) (ho : [] ⊆ os) (hs : FT h fs os σ0 s) : Fo (fun r => FT h fs os σ0 r) (tw_later_j15 h v1 v2 s) := by
  unfold tw_later_j15
  refine FT.letIf hs (hf (by decide)) (fun s2 q70 => ?_)
  refine FT.letIf q70 (hf (by decide)) (fun s5 q71 => ?_)
  exact Fo.some q71
theorem ft_tw_later {fs os : List Nat} {σ0 : gMem} {h : Nat} {v1 : Int} {v2 : Int} {σ : gMem} (hf : [58, 59] ⊆ fs) (ho : [] ⊆ os) (hσ : FT h fs os σ0 σ) : Fo (fun r => FT h fs os σ0 r) (tw_later h v1 v2 σ) := by
  unfold tw_later
  refine Fo.ite (fun _ => ?_) (fun _ => ?_)
  · exact (ft_tw_later_j15 hf ho  hσ)
  · refine Fo.ite (fun _ => ?_) (fun _ => ?_)
    · exact Fo.some hσ
    · exact (ft_tw_later_j15 hf ho  hσ)
theorem ft_tw_plain {fs os : List Nat} {σ0 : gMem} {h : Nat} {v1 : Int} {v2 : Int} {v4 : Int} {v5 : Int} {σ : gMem} (hf : [24] ⊆ fs) (ho : [10, 11, 12, 13] ⊆ os) (hσ : FT h fs os σ0 σ) : Fo (fun r => FT h fs os σ0 r.2) (tw_plain h v1 v2 v4 v5 σ) := by
  unfold tw_plain
  refine Fo.ite (fun _ => ?_) (fun _ => Fo.none)
  refine FT.letI hσ (ho (by decide)) (fun s2 q72 => ?_)
  refine Fo.ite (fun _ => ?_) (fun _ => Fo.none)
  refine FT.letL q72 (ho (by decide)) (fun s6 q73 => ?_)
  refine Fo.ite (fun _ => ?_) (fun _ => Fo.none)
  refine FT.letI q73 (ho (by decide)) (fun s10 q74 => ?_)
  refine Fo.ite (fun _ => ?_) (fun _ => Fo.none)
  refine FT.letI q74 (ho (by decide)) (fun s14 q75 => ?_)
  refine FT.letIf q75 (hf (by decide)) (fun s18 q76 => ?_)
  exact Fo.some q76
theorem ft_tw_step_j35 {fs os : List Nat} {σ0 : gMem} {N : Nat} {h : Nat} {s : gMem} (hf : [17, 65] ⊆ fs) (ho : [1, 2, 3, 4, 5] ⊆ os) (hs : FT h fs os σ0 s) : Fo (fun r => FT h fs os σ0 r.2) (tw_step_j35 N h s) := by
  unfold tw_step_j35
  refine FT.letIf hs (hf (by decide)) (fun s6 q77 => ?_)
  refine Fo.pure (fun x10 => ?_)
  refine Fo.bind (ft_tw_copySheet (List.Subset.trans (by decide) hf) ho  q77) (fun x12 q78 => ?_)
  refine FT.letIf q78 (hf (by decide)) (fun s15 q79 => ?_)
  exact Fo.some q79
theorem ft_tw_step {fs os : List Nat} {σ0 : gMem} {N : Nat} {h : Nat} {σ : gMem} (hf : [15, 16, 17, 65] ⊆ fs) (ho : [1, 2, 3, 4, 5] ⊆ os) (hσ : FT h fs os σ0 σ) : Fo (fun r => FT h fs os σ0 r.2) (tw_step N h σ) := by
  unfold tw_step
  refine Fo.ite (fun _ => ?_) (fun _ => ?_)
  · refine FT.letIf hσ (hf (by decide)) (fun s3 q80 => ?_)
    exact (ft_tw_step_j35 (List.Subset.trans (by decide) hf) ho  q80)
  · refine FT.letIf hσ (hf (by decide)) (fun s19 q81 => ?_)
    exact (ft_tw_step_j35 (List.Subset.trans (by decide) hf) ho  q81)
theorem ft_tw_setCell {fs os : List Nat} {σ0 : gMem} {h : Nat} {v1 : Int} {v2 : Int} {v3 : Int} {σ : gMem} (hf : [] ⊆ fs) (ho : [5] ⊆ os) (hσ : FT h fs os σ0 σ) : Fo (fun r => FT h fs os σ0 r) (tw_setCell h v1 v2 v3 σ) := by
  unfold tw_setCell
  refine Fo.ite (fun _ => ?_) (fun _ => Fo.none)
  refine FT.letI hσ (ho (by decide)) (fun s1 q82 => ?_)
  exact Fo.some q82
theorem ft_tw_fault {fs os : List Nat} {σ0 : gMem} {h : Nat} {v1 : Int} {σ : gMem} (hf : [0] ⊆ fs) (ho : [] ⊆ os) (hσ : FT h fs os σ0 σ) : Fo (fun r => FT h fs os σ0 r.2) (tw_fault h v1 σ) := by
  unfold tw_fault
  refine FT.letIf hσ (hf (by decide)) (fun s1 q83 => ?_)
  refine Fo.ite (fun _ => ?_) (fun _ => ?_)
  · refine Fo.ite (fun _ => ?_) (fun _ => ?_)
    · exact Fo.some q83
    · exact Fo.some q83
  · exact Fo.some q83
theorem ft_tw_lead {fs os : List Nat} {σ0 : gMem} {h : Nat} {v1 : Int} {v2 : Int} {σ : gMem} (hf : [] ⊆ fs) (ho : [38] ⊆ os) (hσ : FT h fs os σ0 σ) : Fo (fun r => FT h fs os σ0 r) (tw_lead h v1 v2 σ) := by
  unfold tw_lead
  refine Fo.ite (fun _ => ?_) (fun _ => Fo.none)
  refine Fo.ite (fun _ => ?_) (fun _ => Fo.none)
  refine FT.letL hσ (ho (by decide)) (fun s2 q84 => ?_)
  exact Fo.some q84
theorem ft_tw_goesThrough {fs os : List Nat} {σ0 : gMem} {h : Nat} {v1 : Int} {σ : gMem} (hf : [] ⊆ fs) (ho : [40, 41] ⊆ os) (hσ : FT h fs os σ0 σ) : Fo (fun r => FT h fs os σ0 r) (tw_goesThrough h v1 σ) := by
  unfold tw_goesThrough
  refine Fo.ite (fun _ => ?_) (fun _ => Fo.none)
  refine FT.letI hσ (ho (by decide)) (fun s1 q85 => ?_)
  refine Fo.ite (fun _ => ?_) (fun _ => Fo.none)
  refine Fo.ite (fun _ => ?_) (fun _ => Fo.none)
  refine FT.letL q85 (ho (by decide)) (fun s5 q86 => ?_)
  exact Fo.some q86
theorem ft_tw_text_l18 {fs os : List Nat} {σ0 : gMem} {N : Nat} {h : Nat} {v1 : Int} {v2 : Nat} {v3 : Int} {v4 : Int} {K : gMem → Option gMem} (hf : [] ⊆ fs) (ho : [36] ⊆ os) (hK : ∀ (a0 : gMem), FT h fs os σ0 a0 → Fo (fun r => FT h fs os σ0 r) (K a0)) : ∀ (n : Nat) (z0 : Int) (z1 : gMem), FT h fs os σ0 z1 → Fo (fun r => FT h fs os σ0 r) (tw_text_l18 N h v1 v2 v3 v4 K n z0 z1) := by
  intro n
  induction n with
  | zero => intros; exact Fo.none
  | succ n ih =>
    intro v5 s hs
    unfold tw_text_l18
    refine Fo.ite (fun _ => ?_) (fun _ => ?_)
    · exact (hK _ hs)
    · refine Fo.ite (fun _ => ?_) (fun _ => Fo.none)
      refine Fo.ite (fun _ => ?_) (fun _ => Fo.none)
      refine Fo.ite (fun _ => ?_) (fun _ => Fo.none)
      refine Fo.ite (fun _ => ?_) (fun _ => Fo.none)
      refine FT.letI hs (ho (by decide)) (fun s10 q87 => ?_)
      exact (ih _ _ q87)
theorem ft_tw_text {fs os : List Nat} {σ0 : gMem} {N : Nat} {h : Nat} {v1 : Int} {v2 : Nat} {v3 : Int} {v4 : Int} {σ : gMem} (hf : [] ⊆ fs) (ho : [33, 35, 36] ⊆ os) (hσ : FT h fs os σ0 σ) : Fo (fun r => FT h fs os σ0 r) (tw_text N h v1 v2 v3 v4 σ) := by
  unfold tw_text
  refine Fo.ite (fun _ => ?_) (fun _ => Fo.none)
  refine FT.letI hσ (ho (by decide)) (fun s1 q88 => ?_)
  refine Fo.ite (fun _ => ?_) (fun _ => Fo.none)
  refine FT.letI q88 (ho (by decide)) (fun s4 q89 => ?_)
  exact (ft_tw_text_l18 hf (List.Subset.trans (by decide) ho) (fun s13 q90 => by
      exact Fo.some q90)  _ _ _ q89)
theorem ft_tw_store_l52 {fs os : List Nat} {σ0 : gMem} {N : Nat} {h : Nat} {v1 : Int} {v2 : Int} {K : gMem → Option gMem} (hf : [] ⊆ fs) (ho : [31] ⊆ os) (hK : ∀ (a0 : gMem), FT h fs os σ0 a0 → Fo (fun r => FT h fs os σ0 r) (K a0)) : ∀ (n : Nat) (z0 : Int) (z1 : gMem), FT h fs os σ0 z1 → Fo (fun r => FT h fs os σ0 r) (tw_store_l52 N h v1 v2 K n z0 z1) := by
  intro n
  induction n with
  | zero => intros; exact Fo.none
  | succ n ih =>
    intro v3 s hs
    unfold tw_store_l52
    refine Fo.ite (fun _ => ?_) (fun _ => ?_)
    · exact (hK _ hs)
    · refine Fo.ite (fun _ => ?_) (fun _ => Fo.none)
      refine Fo.ite (fun _ => ?_) (fun _ => Fo.none)
      refine Fo.ite (fun _ => ?_) (fun _ => Fo.none)
      refine FT.letI hs (ho (by decide)) (fun s15 q92 => ?_)
      exact (ih _ _ q92)
theorem ft_tw_store_j49 {fs os : List Nat} {σ0 : gMem} {N : Nat} {h : Nat} {v1 : Int} {v2 : Int} {t0 : Int} {t1 : Int} {s : gMem} (hf : [] ⊆ fs) (ho : [30, 31] ⊆ os) (hs : FT h fs os σ0 s) : Fo (fun r => FT h fs os σ0 r) (tw_store_j49 N h v1 v2 t0 t1 s) := by
  unfold tw_store_j49
  refine Fo.ite (fun _ => ?_) (fun _ => Fo.none)
  refine FT.letI hs (ho (by decide)) (fun s10 q93 => ?_)
  exact (ft_tw_store_l52 hf (List.Subset.trans (by decide) ho) (fun s18 q94 => by
      exact Fo.some q94)  _ _ _ q93)
theorem ft_tw_store {fs os : List Nat} {σ0 : gMem} {N : Nat} {h : Nat} {v1 : Int} {v2 : Int} {σ : gMem} (hf : [] ⊆ fs) (ho : [28, 29, 30, 31] ⊆ os) (hσ : FT h fs os σ0 σ) : Fo (fun r => FT h fs os σ0 r) (tw_store N h v1 v2 σ) := by
  unfold tw_store
  refine Fo.ite (fun _ => ?_) (fun _ => Fo.none)
  refine Fo.ite (fun _ => ?_) (fun _ => Fo.none)
  refine FT.letI hσ (ho (by decide)) (fun s2 q96 => ?_)
  refine Fo.ite (fun _ => ?_) (fun _ => Fo.none)
  refine Fo.ite (fun _ => ?_) (fun _ => Fo.none)
  refine FT.letL q96 (ho (by decide)) (fun s6 q97 => ?_)
  refine Fo.ite (fun _ => ?_) (fun _ => Fo.none)
  refine Fo.ite (fun _ => ?_) (fun _ => ?_)
  · exact (ft_tw_store_j49 hf (List.Subset.trans (by decide) ho)  q97)
  · refine Fo.ite (fun _ => ?_) (fun _ => Fo.none)
    exact (ft_tw_store_j49 hf (List.Subset.trans (by decide) ho)  q97)
theorem ft_tw_error {fs os : List Nat} {σ0 : gMem} {h : Nat} {v1 : Int} {v2 : Int} {σ : gMem} (hf : [] ⊆ fs) (ho : [33, 34] ⊆ os) (hσ : FT h fs os σ0 σ) : Fo (fun r => FT h fs os σ0 r) (tw_error h v1 v2 σ) := by
  unfold tw_error
  refine Fo.ite (fun _ => ?_) (fun _ => Fo.none)
  refine FT.letI hσ (ho (by decide)) (fun s1 q98 => ?_)
  refine Fo.ite (fun _ => ?_) (fun _ => Fo.none)
  refine FT.letL q98 (ho (by decide)) (fun s4 q99 => ?_)
  exact Fo.some q99
theorem ft_tw_number_j38 {fs os : List Nat} {σ0 : gMem} {h : Nat} {v1 : Int} {v2 : Int} {v4 : Int} {t0 : Int} {t1 : Int} {s : gMem} (hf : [] ⊆ fs) (ho : [33, 34] ⊆ os) (hs : FT h fs os σ0 s) : Fo (fun r => FT h fs os σ0 r) (tw_number_j38 h v1 v2 v4 t0 t1 s) := by
  unfold tw_number_j38
  refine Fo.ite (fun _ => ?_) (fun _ => Fo.none)
  refine FT.letI hs (ho (by decide)) (fun s1 q100 => ?_)
  refine Fo.ite (fun _ => ?_) (fun _ => ?_)
  · refine Fo.ite (fun _ => ?_) (fun _ => Fo.none)
    refine FT.letL q100 (ho (by decide)) (fun s4 q101 => ?_)
    exact Fo.some q101
  · refine Fo.ite (fun _ => ?_) (fun _ => Fo.none)
    refine FT.letL q100 (ho (by decide)) (fun s7 q102 => ?_)
    exact Fo.some q102
theorem ft_tw_number_j21 {fs os : List Nat} {σ0 : gMem} {h : Nat} {v1 : Int} {v2 : Int} {t0 : Int} {s : gMem} (hf : [] ⊆ fs) (ho : [33, 34] ⊆ os) (hs : FT h fs os σ0 s) : Fo (fun r => FT h fs os σ0 r) (tw_number_j21 h v1 v2 t0 s) := by
  unfold tw_number_j21
  refine Fo.ite (fun _ => ?_) (fun _ => ?_)
  · exact (ft_tw_number_j38 hf ho  hs)
  · exact (ft_tw_number_j38 hf ho  hs)
theorem ft_tw_number_j16 {fs os : List Nat} {σ0 : gMem} {h : Nat} {v1 : Int} {v2 : Int} {s : gMem} (hf : [] ⊆ fs) (ho : [33, 34] ⊆ os) (hs : FT h fs os σ0 s) : Fo (fun r => FT h fs os σ0 r) (tw_number_j16 h v1 v2 s) := by
  unfold tw_number_j16
  exact (ft_tw_number_j21 hf ho  hs)
theorem ft_tw_number {fs os : List Nat} {σ0 : gMem} {h : Nat} {v1 : Int} {v2 : Int} {σ : gMem} (hf : [] ⊆ fs) (ho : [33, 34] ⊆ os) (hσ : FT h fs os σ0 σ) : Fo (fun r => FT h fs os σ0 r) (tw_number h v1 v2 σ) := by
  unfold tw_number
  refine Fo.ite (fun _ => ?_) (fun _ => ?_)
  · exact (ft_tw_number_j16 hf ho  hσ)
  · refine Fo.ite (fun _ => ?_) (fun _ => ?_)
    · exact (ft_tw_number_j21 hf ho  hσ)
    · exact (ft_tw_number_j16 hf ho  hσ)
theorem ft_tw_truth {fs os : List Nat} {σ0 : gMem} {h : Nat} {v1 : Int} {v2 : Int} {σ : gMem} (hf : [] ⊆ fs) (ho : [33, 34] ⊆ os) (hσ : FT h fs os σ0 σ) : Fo (fun r => FT h fs os σ0 r) (tw_truth h v1 v2 σ) := by
  unfold tw_truth
  refine Fo.ite (fun _ => ?_) (fun _ => Fo.none)
  refine FT.letI hσ (ho (by decide)) (fun s1 q103 => ?_)
  refine Fo.ite (fun _ => ?_) (fun _ => ?_)
  · refine Fo.ite (fun _ => ?_) (fun _ => Fo.none)
    refine FT.letL q103 (ho (by decide)) (fun s4 q104 => ?_)
    exact Fo.some q104
  · refine Fo.ite (fun _ => ?_) (fun _ => Fo.none)
    refine FT.letL q103 (ho (by decide)) (fun s7 q105 => ?_)
    exact Fo.some q105
theorem ft_tw_load {fs os : List Nat} {σ0 : gMem} {N : Nat} {h : Nat} {v1 : Int} {v2 : Int} {σ : gMem} (hf : [] ⊆ fs) (ho : [33, 34, 35, 36] ⊆ os) (hσ : FT h fs os σ0 σ) : Fo (fun r => FT h fs os σ0 r) (tw_load N h v1 v2 σ) := by
  unfold tw_load
  refine Fo.ite (fun _ => ?_) (fun _ => Fo.none)
  refine Fo.ite (fun _ => ?_) (fun _ => Fo.none)
  refine FT.letI hσ (ho (by decide)) (fun s2 q106 => ?_)
  refine Fo.ite (fun _ => ?_) (fun _ => Fo.none)
  refine Fo.ite (fun _ => ?_) (fun _ => Fo.none)
  refine FT.letL q106 (ho (by decide)) (fun s6 q107 => ?_)
  refine Fo.ite (fun _ => ?_) (fun _ => Fo.none)
  refine Fo.ite (fun _ => ?_) (fun _ => ?_)
  · exact Fo.some q107
  · refine Fo.ite (fun _ => ?_) (fun _ => Fo.none)
    refine Fo.bind (ft_tw_text hf (List.Subset.trans (by decide) ho)  q107) (fun x11 q108 => ?_)
    exact Fo.some q108
theorem ft_tw_wantsNumber_j31 {fs os : List Nat} {σ0 : gMem} {h : Nat} {v1 : Int} {s : gMem} (hf : [] ⊆ fs) (ho : [] ⊆ os) (hs : FT h fs os σ0 s) : Fo (fun r => FT h fs os σ0 r.2) (tw_wantsNumber_j31 h v1 s) := by
  unfold tw_wantsNumber_j31
  refine Fo.ite (fun _ => ?_) (fun _ => Fo.none)
  refine Fo.ite (fun _ => ?_) (fun _ => ?_)
  · exact Fo.some hs
  · exact Fo.some hs
theorem ft_tw_wantsNumber_j15 {fs os : List Nat} {σ0 : gMem} {h : Nat} {v1 : Int} {s : gMem} (hf : [] ⊆ fs) (ho : [33, 34] ⊆ os) (hs : FT h fs os σ0 s) : Fo (fun r => FT h fs os σ0 r.2) (tw_wantsNumber_j15 h v1 s) := by
  unfold tw_wantsNumber_j15
  refine Fo.ite (fun _ => ?_) (fun _ => Fo.none)
  refine Fo.ite (fun _ => ?_) (fun _ => ?_)
  · exact (ft_tw_wantsNumber_j31 hf (List.nil_subset _)  hs)
  · refine Fo.bind (ft_tw_error hf ho  hs) (fun x4 q109 => ?_)
    exact (ft_tw_wantsNumber_j31 hf (List.nil_subset _)  q109)
theorem ft_tw_wantsNumber {fs os : List Nat} {σ0 : gMem} {h : Nat} {v1 : Int} {σ : gMem} (hf : [] ⊆ fs) (ho : [33, 34] ⊆ os) (hσ : FT h fs os σ0 σ) : Fo (fun r => FT h fs os σ0 r.2) (tw_wantsNumber h v1 σ) := by
  unfold tw_wantsNumber
  refine Fo.ite (fun _ => ?_) (fun _ => Fo.none)
  refine Fo.ite (fun _ => ?_) (fun _ => ?_)
  · exact (ft_tw_wantsNumber_j15 hf ho  hσ)
  · refine Fo.bind (ft_tw_number hf ho  hσ) (fun x7 q110 => ?_)
    exact (ft_tw_wantsNumber_j15 hf ho  q110)
theorem ft_tw_bring_l38 {fs os : List Nat} {σ0 : gMem} {N : Nat} {h : Nat} {v1 : Int} {v2 : Int} {K : gMem → Option gMem} (hf : [] ⊆ fs) (ho : [36] ⊆ os) (hK : ∀ (a0 : gMem), FT h fs os σ0 a0 → Fo (fun r => FT h fs os σ0 r) (K a0)) : ∀ (n : Nat) (z0 : Int) (z1 : gMem), FT h fs os σ0 z1 → Fo (fun r => FT h fs os σ0 r) (tw_bring_l38 N h v1 v2 K n z0 z1) := by
  intro n
  induction n with
  | zero => intros; exact Fo.none
  | succ n ih =>
    intro v3 s hs
    unfold tw_bring_l38
    refine Fo.ite (fun _ => ?_) (fun _ => ?_)
    · exact (hK _ hs)
    · refine Fo.ite (fun _ => ?_) (fun _ => Fo.none)
      refine Fo.ite (fun _ => ?_) (fun _ => Fo.none)
      refine Fo.ite (fun _ => ?_) (fun _ => Fo.none)
      refine FT.letI hs (ho (by decide)) (fun s15 q111 => ?_)
      exact (ih _ _ q111)
theorem ft_tw_bring {fs os : List Nat} {σ0 : gMem} {N : Nat} {h : Nat} {v1 : Int} {v2 : Int} {σ : gMem} (hf : [] ⊆ fs) (ho : [33, 34, 35, 36] ⊆ os) (hσ : FT h fs os σ0 σ) : Fo (fun r => FT h fs os σ0 r) (tw_bring N h v1 v2 σ) := by
  unfold tw_bring
  refine Fo.ite (fun _ => ?_) (fun _ => Fo.none)
  refine Fo.ite (fun _ => ?_) (fun _ => Fo.none)
  refine FT.letI hσ (ho (by decide)) (fun s2 q112 => ?_)
  refine Fo.ite (fun _ => ?_) (fun _ => Fo.none)
  refine Fo.ite (fun _ => ?_) (fun _ => Fo.none)
  refine FT.letL q112 (ho (by decide)) (fun s6 q113 => ?_)
  refine Fo.ite (fun _ => ?_) (fun _ => Fo.none)
  refine Fo.ite (fun _ => ?_) (fun _ => Fo.none)
  refine FT.letI q113 (ho (by decide)) (fun s10 q114 => ?_)
  exact (ft_tw_bring_l38 hf (List.Subset.trans (by decide) ho) (fun s18 q115 => by
      exact Fo.some q115)  _ _ _ q114)
theorem ft_tw_word_l19 {fs os : List Nat} {σ0 : gMem} {N : Nat} {h : Nat} {v1 : Int} {v2 : Nat} {K : gMem → Option gMem} (hf : [] ⊆ fs) (ho : [36] ⊆ os) (hK : ∀ (a0 : gMem), FT h fs os σ0 a0 → Fo (fun r => FT h fs os σ0 r) (K a0)) : ∀ (n : Nat) (z0 : Int) (z1 : gMem), FT h fs os σ0 z1 → Fo (fun r => FT h fs os σ0 r) (tw_word_l19 N h v1 v2 K n z0 z1) := by
  intro n
  induction n with
  | zero => intros; exact Fo.none
  | succ n ih =>
    intro v3 s hs
    unfold tw_word_l19
    refine Fo.ite (fun _ => ?_) (fun _ => Fo.none)
    refine Fo.ite (fun _ => ?_) (fun _ => ?_)
    · exact (hK _ hs)
    · refine Fo.ite (fun _ => ?_) (fun _ => Fo.none)
      refine Fo.ite (fun _ => ?_) (fun _ => Fo.none)
      refine FT.letI hs (ho (by decide)) (fun s12 q117 => ?_)
      exact (ih _ _ q117)
theorem ft_tw_word {fs os : List Nat} {σ0 : gMem} {N : Nat} {h : Nat} {v1 : Int} {v2 : Nat} {σ : gMem} (hf : [] ⊆ fs) (ho : [33, 35, 36] ⊆ os) (hσ : FT h fs os σ0 σ) : Fo (fun r => FT h fs os σ0 r) (tw_word N h v1 v2 σ) := by
  unfold tw_word
  refine Fo.ite (fun _ => ?_) (fun _ => Fo.none)
  refine FT.letI hσ (ho (by decide)) (fun s1 q118 => ?_)
  refine Fo.ite (fun _ => ?_) (fun _ => Fo.none)
  refine Fo.ite (fun _ => ?_) (fun _ => Fo.none)
  refine FT.letI q118 (ho (by decide)) (fun s6 q119 => ?_)
  exact (ft_tw_word_l19 hf (List.Subset.trans (by decide) ho) (fun s15 q120 => by
      exact Fo.some q120)  _ _ _ q119)
theorem ft_tw_decimal_l16_j27 {fs os : List Nat} {σ0 : gMem} {N : Nat} {h : Nat} {v1 : Int} {v3 : Int} {v5 : Int} {Kh : Int → Int → gMem → Option (Int × gMem)} {K : Int → gMem → Option (Int × gMem)} {s : gMem} (hf : [] ⊆ fs) (ho : [37] ⊆ os) (hKh : ∀ (a0 : Int) (a1 : Int) (a2 : gMem), FT h fs os σ0 a2 → Fo (fun r => FT h fs os σ0 r.2) (Kh a0 a1 a2)) (hK : ∀ (a0 : Int) (a1 : gMem), FT h fs os σ0 a1 → Fo (fun r => FT h fs os σ0 r.2) (K a0 a1)) (hs : FT h fs os σ0 s) : Fo (fun r => FT h fs os σ0 r.2) (tw_decimal_l16_j27 N h v1 v3 v5 Kh K s) := by
  unfold tw_decimal_l16_j27
  refine Fo.ite (fun _ => ?_) (fun _ => Fo.none)
  refine FT.letI hs (ho (by decide)) (fun s1 q122 => ?_)
  exact (hKh _ _ _ q122)
theorem ft_tw_decimal_l16 {fs os : List Nat} {σ0 : gMem} {N : Nat} {h : Nat} {v1 : Int} {K : Int → gMem → Option (Int × gMem)} (hf : [] ⊆ fs) (ho : [37] ⊆ os) (hK : ∀ (a0 : Int) (a1 : gMem), FT h fs os σ0 a1 → Fo (fun r => FT h fs os σ0 r.2) (K a0 a1)) : ∀ (n : Nat) (z0 : Int) (z1 : Int) (z2 : gMem), FT h fs os σ0 z2 → Fo (fun r => FT h fs os σ0 r.2) (tw_decimal_l16 N h v1 K n z0 z1 z2) := by
  intro n
  induction n with
  | zero => intros; exact Fo.none
  | succ n ih =>
    intro v3 v5 s hs
    unfold tw_decimal_l16
    refine Fo.ite (fun _ => ?_) (fun _ => ?_)
    · exact (ft_tw_decimal_l16_j27 hf ho (fun a0 a1 a2 b2 => ih a0 a1 a2 b2) hK hs)
    · refine Fo.ite (fun _ => ?_) (fun _ => ?_)
      · exact (hK _ _ hs)
      · exact (ft_tw_decimal_l16_j27 hf ho (fun a0 a1 a2 b2 => ih a0 a1 a2 b2) hK hs)
theorem ft_tw_decimal_j12 {fs os : List Nat} {σ0 : gMem} {N : Nat} {h : Nat} {v1 : Int} {t0 : Int} {s : gMem} (hf : [] ⊆ fs) (ho : [37] ⊆ os) (hs : FT h fs os σ0 s) : Fo (fun r => FT h fs os σ0 r.2) (tw_decimal_j12 N h v1 t0 s) := by
  unfold tw_decimal_j12
  exact (ft_tw_decimal_l16 hf ho (fun y4 s5 q123 => by
      refine Fo.ite (fun _ => ?_) (fun _ => ?_)
      · exact Fo.some q123
      · refine Fo.ite (fun _ => ?_) (fun _ => Fo.none)
        refine FT.letI q123 (ho (by decide)) (fun s7 q125 => ?_)
        exact Fo.some q125)  _ _ _ _ hs)
theorem ft_tw_decimal {fs os : List Nat} {σ0 : gMem} {N : Nat} {h : Nat} {v1 : Int} {σ : gMem} (hf : [] ⊆ fs) (ho : [37] ⊆ os) (hσ : FT h fs os σ0 σ) : Fo (fun r => FT h fs os σ0 r.2) (tw_decimal N h v1 σ) := by
  unfold tw_decimal
  refine Fo.ite (fun _ => ?_) (fun _ => ?_)
  · exact (ft_tw_decimal_j12 hf ho  hσ)
  · exact (ft_tw_decimal_j12 hf ho  hσ)
theorem ft_tw_times_j59 {fs os : List Nat} {σ0 : gMem} {h : Nat} {v1 : Int} {v2 : Int} {v4 : Int} {s : gMem} (hf : [] ⊆ fs) (ho : [33, 34] ⊆ os) (hs : FT h fs os σ0 s) : Fo (fun r => FT h fs os σ0 r) (tw_times_j59 h v1 v2 v4 s) := by
  unfold tw_times_j59
  refine Fo.bind (ft_tw_number hf ho  hs) (fun x1 q126 => ?_)
  exact Fo.some q126
theorem ft_tw_times_j29 {fs os : List Nat} {σ0 : gMem} {h : Nat} {v1 : Int} {v2 : Int} {v4 : Int} {v6 : Int} {t0 : Int} {s : gMem} (hf : [] ⊆ fs) (ho : [33, 34] ⊆ os) (hs : FT h fs os σ0 s) : Fo (fun r => FT h fs os σ0 r) (tw_times_j29 h v1 v2 v4 v6 t0 s) := by
  unfold tw_times_j29
  refine Fo.ite (fun _ => ?_) (fun _ => ?_)
  · exact (ft_tw_times_j59 hf ho  hs)
  · refine Fo.ite (fun _ => ?_) (fun _ => Fo.none)
    refine Fo.ite (fun _ => ?_) (fun _ => ?_)
    · exact (ft_tw_times_j59 hf ho  hs)
    · refine Fo.bind (ft_tw_error hf ho  hs) (fun x4 q127 => ?_)
      exact Fo.some q127
theorem ft_tw_times_j12 {fs os : List Nat} {σ0 : gMem} {h : Nat} {v1 : Int} {v2 : Int} {v4 : Int} {t0 : Int} {s : gMem} (hf : [] ⊆ fs) (ho : [33, 34] ⊆ os) (hs : FT h fs os σ0 s) : Fo (fun r => FT h fs os σ0 r) (tw_times_j12 h v1 v2 v4 t0 s) := by
  unfold tw_times_j12
  refine Fo.ite (fun _ => ?_) (fun _ => ?_)
  · exact (ft_tw_times_j29 hf ho  hs)
  · exact (ft_tw_times_j29 hf ho  hs)
theorem ft_tw_times {fs os : List Nat} {σ0 : gMem} {h : Nat} {v1 : Int} {v2 : Int} {v4 : Int} {σ : gMem} (hf : [] ⊆ fs) (ho : [33, 34] ⊆ os) (hσ : FT h fs os σ0 σ) : Fo (fun r => FT h fs os σ0 r) (tw_times h v1 v2 v4 σ) := by
  unfold tw_times
  refine Fo.ite (fun _ => ?_) (fun _ => ?_)
  · exact (ft_tw_times_j12 hf ho  hσ)
  · exact (ft_tw_times_j12 hf ho  hσ)
theorem ft_tw_wantsTruth_j31 {fs os : List Nat} {σ0 : gMem} {h : Nat} {v1 : Int} {s : gMem} (hf : [] ⊆ fs) (ho : [] ⊆ os) (hs : FT h fs os σ0 s) : Fo (fun r => FT h fs os σ0 r.2) (tw_wantsTruth_j31 h v1 s) := by
  unfold tw_wantsTruth_j31
  refine Fo.ite (fun _ => ?_) (fun _ => Fo.none)
  refine Fo.ite (fun _ => ?_) (fun _ => ?_)
  · exact Fo.some hs
  · exact Fo.some hs
theorem ft_tw_wantsTruth_j15 {fs os : List Nat} {σ0 : gMem} {h : Nat} {v1 : Int} {s : gMem} (hf : [] ⊆ fs) (ho : [33, 34] ⊆ os) (hs : FT h fs os σ0 s) : Fo (fun r => FT h fs os σ0 r.2) (tw_wantsTruth_j15 h v1 s) := by
  unfold tw_wantsTruth_j15
  refine Fo.ite (fun _ => ?_) (fun _ => Fo.none)
  refine Fo.ite (fun _ => ?_) (fun _ => ?_)
  · exact (ft_tw_wantsTruth_j31 hf (List.nil_subset _)  hs)
  · refine Fo.bind (ft_tw_error hf ho  hs) (fun x4 q128 => ?_)
    exact (ft_tw_wantsTruth_j31 hf (List.nil_subset _)  q128)
theorem ft_tw_wantsTruth {fs os : List Nat} {σ0 : gMem} {h : Nat} {v1 : Int} {σ : gMem} (hf : [] ⊆ fs) (ho : [33, 34] ⊆ os) (hσ : FT h fs os σ0 σ) : Fo (fun r => FT h fs os σ0 r.2) (tw_wantsTruth h v1 σ) := by
  unfold tw_wantsTruth
  refine Fo.ite (fun _ => ?_) (fun _ => Fo.none)
  refine Fo.ite (fun _ => ?_) (fun _ => ?_)
  · exact (ft_tw_wantsTruth_j15 hf ho  hσ)
  · refine Fo.bind (ft_tw_truth hf ho  hσ) (fun x7 q129 => ?_)
    exact (ft_tw_wantsTruth_j15 hf ho  q129)
theorem ft_tw_count_j97 {fs os : List Nat} {σ0 : gMem} {h : Nat} {t0 : Int} {s : gMem} (hf : [76, 80] ⊆ fs) (ho : [] ⊆ os) (hs : FT h fs os σ0 s) : Fo (fun r => FT h fs os σ0 r) (tw_count_j97 h t0 s) := by
  unfold tw_count_j97
  refine Fo.ite (fun _ => ?_) (fun _ => Fo.none)
  refine FT.letIf hs (hf (by decide)) (fun s17 q130 => ?_)
  refine FT.letIf q130 (hf (by decide)) (fun s21 q131 => ?_)
  exact Fo.some q131
theorem ft_tw_count_j92 {fs os : List Nat} {σ0 : gMem} {h : Nat} {s : gMem} (hf : [76, 80] ⊆ fs) (ho : [] ⊆ os) (hs : FT h fs os σ0 s) : Fo (fun r => FT h fs os σ0 r) (tw_count_j92 h s) := by
  unfold tw_count_j92
  exact (ft_tw_count_j97 hf ho  hs)
theorem ft_tw_count_j75 {fs os : List Nat} {σ0 : gMem} {h : Nat} {v3 : Int} {t0 : Int} {s : gMem} (hf : [76, 79, 80] ⊆ fs) (ho : [] ⊆ os) (hs : FT h fs os σ0 s) : Fo (fun r => FT h fs os σ0 r) (tw_count_j75 h v3 t0 s) := by
  unfold tw_count_j75
  refine Fo.ite (fun _ => ?_) (fun _ => Fo.none)
  refine FT.letIf hs (hf (by decide)) (fun s12 q132 => ?_)
  refine Fo.ite (fun _ => ?_) (fun _ => ?_)
  · exact (ft_tw_count_j92 (List.Subset.trans (by decide) hf) ho  q132)
  · refine Fo.ite (fun _ => ?_) (fun _ => ?_)
    · exact (ft_tw_count_j97 (List.Subset.trans (by decide) hf) ho  q132)
    · exact (ft_tw_count_j92 (List.Subset.trans (by decide) hf) ho  q132)
theorem ft_tw_count_j74 {fs os : List Nat} {σ0 : gMem} {h : Nat} {v3 : Int} {s : gMem} (hf : [76, 79, 80] ⊆ fs) (ho : [] ⊆ os) (hs : FT h fs os σ0 s) : Fo (fun r => FT h fs os σ0 r) (tw_count_j74 h v3 s) := by
  unfold tw_count_j74
  exact (ft_tw_count_j75 hf ho  hs)
theorem ft_tw_count_j56 {fs os : List Nat} {σ0 : gMem} {h : Nat} {v3 : Int} {s : gMem} (hf : [76, 79, 80] ⊆ fs) (ho : [] ⊆ os) (hs : FT h fs os σ0 s) : Fo (fun r => FT h fs os σ0 r) (tw_count_j56 h v3 s) := by
  unfold tw_count_j56
  refine Fo.ite (fun _ => ?_) (fun _ => ?_)
  · exact (ft_tw_count_j74 hf ho  hs)
  · refine Fo.ite (fun _ => ?_) (fun _ => ?_)
    · exact (ft_tw_count_j74 hf ho  hs)
    · exact (ft_tw_count_j75 hf ho  hs)
theorem ft_tw_count_j51 {fs os : List Nat} {σ0 : gMem} {h : Nat} {v3 : Int} {s : gMem} (hf : [76, 78, 79, 80] ⊆ fs) (ho : [] ⊆ os) (hs : FT h fs os σ0 s) : Fo (fun r => FT h fs os σ0 r) (tw_count_j51 h v3 s) := by
  unfold tw_count_j51
  refine FT.letLf hs (hf (by decide)) (fun s7 q133 => ?_)
  exact (ft_tw_count_j56 (List.Subset.trans (by decide) hf) ho  q133)
theorem ft_tw_count {fs os : List Nat} {σ0 : gMem} {h : Nat} {v1 : Int} {v2 : Int} {σ : gMem} (hf : [76, 77, 78, 79, 80] ⊆ fs) (ho : [] ⊆ os) (hσ : FT h fs os σ0 σ) : Fo (fun r => FT h fs os σ0 r) (tw_count h v1 v2 σ) := by
  unfold tw_count
  refine Fo.ite (fun _ => ?_) (fun _ => Fo.none)
  refine FT.letLf hσ (hf (by decide)) (fun s3 q134 => ?_)
  refine Fo.ite (fun _ => ?_) (fun _ => ?_)
  · exact (ft_tw_count_j51 (List.Subset.trans (by decide) hf) ho  q134)
  · refine Fo.ite (fun _ => ?_) (fun _ => ?_)
    · refine Fo.ite (fun _ => ?_) (fun _ => ?_)
      · exact (ft_tw_count_j56 (List.Subset.trans (by decide) hf) ho  q134)
      · exact (ft_tw_count_j51 (List.Subset.trans (by decide) hf) ho  q134)
    · refine Fo.ite (fun _ => ?_) (fun _ => ?_)
      · exact (ft_tw_count_j56 (List.Subset.trans (by decide) hf) ho  q134)
      · exact (ft_tw_count_j51 (List.Subset.trans (by decide) hf) ho  q134)
theorem ft_tw_countArea_l2_j65 {fs os : List Nat} {σ0 : gMem} {N : Nat} {h : Nat} {v1 : Int} {v2 : Int} {v3 : Int} {Kh : Int → gMem → Option (Int × gMem)} {K : gMem → Option (Int × gMem)} {s : gMem} (hf : [] ⊆ fs) (ho : [] ⊆ os) (hKh : ∀ (a0 : Int) (a1 : gMem), FT h fs os σ0 a1 → Fo (fun r => FT h fs os σ0 r.2) (Kh a0 a1)) (hK : ∀ (a0 : gMem), FT h fs os σ0 a0 → Fo (fun r => FT h fs os σ0 r.2) (K a0)) (hs : FT h fs os σ0 s) : Fo (fun r => FT h fs os σ0 r.2) (tw_countArea_l2_j65 N h v1 v2 v3 Kh K s) := by
  unfold tw_countArea_l2_j65
  exact (hKh _ _ hs)
theorem ft_tw_countArea_l2_j56 {fs os : List Nat} {σ0 : gMem} {N : Nat} {h : Nat} {v1 : Int} {v2 : Int} {v3 : Int} {t0 : Int} {t1 : Int} {Kh : Int → gMem → Option (Int × gMem)} {K : gMem → Option (Int × gMem)} {s : gMem} (hf : [76, 77, 78, 79, 80] ⊆ fs) (ho : [] ⊆ os) (hKh : ∀ (a0 : Int) (a1 : gMem), FT h fs os σ0 a1 → Fo (fun r => FT h fs os σ0 r.2) (Kh a0 a1)) (hK : ∀ (a0 : gMem), FT h fs os σ0 a0 → Fo (fun r => FT h fs os σ0 r.2) (K a0)) (hs : FT h fs os σ0 s) : Fo (fun r => FT h fs os σ0 r.2) (tw_countArea_l2_j56 N h v1 v2 v3 t0 t1 Kh K s) := by
  unfold tw_countArea_l2_j56
  refine Fo.ite (fun _ => ?_) (fun _ => ?_)
  · exact (ft_tw_countArea_l2_j65 (List.nil_subset _) ho hKh hK hs)
  · refine Fo.bind (ft_tw_count hf ho  hs) (fun x12 q135 => ?_)
    exact (ft_tw_countArea_l2_j65 (List.nil_subset _) ho hKh hK q135)
theorem ft_tw_countArea_l2_j38 {fs os : List Nat} {σ0 : gMem} {N : Nat} {h : Nat} {v1 : Int} {v2 : Int} {v3 : Int} {Kh : Int → gMem → Option (Int × gMem)} {K : gMem → Option (Int × gMem)} {s : gMem} (hf : [76, 77, 78, 79, 80] ⊆ fs) (ho : [] ⊆ os) (hKh : ∀ (a0 : Int) (a1 : gMem), FT h fs os σ0 a1 → Fo (fun r => FT h fs os σ0 r.2) (Kh a0 a1)) (hK : ∀ (a0 : gMem), FT h fs os σ0 a0 → Fo (fun r => FT h fs os σ0 r.2) (K a0)) (hs : FT h fs os σ0 s) : Fo (fun r => FT h fs os σ0 r.2) (tw_countArea_l2_j38 N h v1 v2 v3 Kh K s) := by
  unfold tw_countArea_l2_j38
  refine Fo.ite (fun _ => ?_) (fun _ => Fo.none)
  refine Fo.pure (fun x10 => ?_)
  refine Fo.ite (fun _ => ?_) (fun _ => ?_)
  · exact (ft_tw_countArea_l2_j56 hf ho hKh hK hs)
  · exact (ft_tw_countArea_l2_j56 hf ho hKh hK hs)
theorem ft_tw_countArea_l2 {fs os : List Nat} {σ0 : gMem} {N : Nat} {h : Nat} {v1 : Int} {v2 : Int} {K : gMem → Option (Int × gMem)} (hf : [76, 77, 78, 79, 80] ⊆ fs) (ho : [33, 34, 35, 36] ⊆ os) (hK : ∀ (a0 : gMem), FT h fs os σ0 a0 → Fo (fun r => FT h fs os σ0 r.2) (K a0)) : ∀ (n : Nat) (z0 : Int) (z1 : gMem), FT h fs os σ0 z1 → Fo (fun r => FT h fs os σ0 r.2) (tw_countArea_l2 N h v1 v2 K n z0 z1) := by
  intro n
  induction n with
  | zero => intros; exact Fo.none
  | succ n ih =>
    intro v3 s hs
    unfold tw_countArea_l2
    refine Fo.pure (fun x1 => ?_)
    refine Fo.ite (fun _ => ?_) (fun _ => ?_)
    · exact (hK _ hs)
    · refine Fo.pure (fun x3 => ?_)
      refine Fo.bind (ft_tw_load (List.nil_subset _) ho  hs) (fun x5 q136 => ?_)
      refine Fo.ite (fun _ => ?_) (fun _ => Fo.none)
      refine Fo.ite (fun _ => ?_) (fun _ => ?_)
      · exact (ft_tw_countArea_l2_j38 hf (List.nil_subset _) (fun a0 a1 b1 => ih a0 a1 b1) hK q136)
      · refine Fo.ite (fun _ => ?_) (fun _ => ?_)
        · exact (ft_tw_countArea_l2_j38 hf (List.nil_subset _) (fun a0 a1 b1 => ih a0 a1 b1) hK q136)
        · exact Fo.some q136
theorem ft_tw_countArea {fs os : List Nat} {σ0 : gMem} {N : Nat} {h : Nat} {v1 : Int} {v2 : Int} {σ : gMem} (hf : [76, 77, 78, 79, 80] ⊆ fs) (ho : [33, 34, 35, 36] ⊆ os) (hσ : FT h fs os σ0 σ) : Fo (fun r => FT h fs os σ0 r.2) (tw_countArea N h v1 v2 σ) := by
  unfold tw_countArea
  exact (ft_tw_countArea_l2 hf ho (fun s15 q137 => by
      exact Fo.some q137)  _ _ _ hσ)
theorem ft_tw_come {fs os : List Nat} {σ0 : gMem} {h : Nat} {v1 : Int} {v2 : Int} {σ : gMem} (hf : [] ⊆ fs) (ho : [33, 34] ⊆ os) (hσ : FT h fs os σ0 σ) : Fo (fun r => FT h fs os σ0 r) (tw_come h v1 v2 σ) := by
  unfold tw_come
  refine Fo.ite (fun _ => ?_) (fun _ => ?_)
  · refine Fo.ite (fun _ => ?_) (fun _ => ?_)
    · refine Fo.ite (fun _ => ?_) (fun _ => ?_)
      · refine Fo.ite (fun _ => ?_) (fun _ => ?_)
        · refine Fo.ite (fun _ => ?_) (fun _ => ?_)
          · refine Fo.bind (ft_tw_number hf ho  hσ) (fun x3 q139 => ?_)
            exact Fo.some q139
          · refine Fo.bind (ft_tw_error hf ho  hσ) (fun x6 q140 => ?_)
            exact Fo.some q140
        · refine Fo.bind (ft_tw_number hf ho  hσ) (fun x10 q141 => ?_)
          exact Fo.some q141
      · refine Fo.bind (ft_tw_number hf ho  hσ) (fun x14 q142 => ?_)
        exact Fo.some q142
    · refine Fo.bind (ft_tw_truth hf ho  hσ) (fun x18 q143 => ?_)
      exact Fo.some q143
  · refine Fo.bind (ft_tw_truth hf ho  hσ) (fun x22 q144 => ?_)
    exact Fo.some q144
theorem ft_tw_put {fs os : List Nat} {σ0 : gMem} {h : Nat} {v1 : Int} {σ : gMem} (hf : [87] ⊆ fs) (ho : [42] ⊆ os) (hσ : FT h fs os σ0 σ) : Fo (fun r => FT h fs os σ0 r) (tw_put h v1 σ) := by
  unfold tw_put
  refine Fo.ite (fun _ => ?_) (fun _ => Fo.none)
  refine FT.letI hσ (ho (by decide)) (fun s2 q145 => ?_)
  refine FT.letIf q145 (hf (by decide)) (fun s6 q146 => ?_)
  exact Fo.some q146
theorem ft_tw_putNumber_l9 {fs os : List Nat} {σ0 : gMem} {N : Nat} {h : Nat} {v3 : Int} {K : gMem → Option gMem} (hf : [87] ⊆ fs) (ho : [42] ⊆ os) (hK : ∀ (a0 : gMem), FT h fs os σ0 a0 → Fo (fun r => FT h fs os σ0 r) (K a0)) : ∀ (n : Nat) (z0 : Int) (z1 : gMem), FT h fs os σ0 z1 → Fo (fun r => FT h fs os σ0 r) (tw_putNumber_l9 N h v3 K n z0 z1) := by
  intro n
  induction n with
  | zero => intros; exact Fo.none
  | succ n ih =>
    intro v4 s hs
    unfold tw_putNumber_l9
    refine Fo.ite (fun _ => ?_) (fun _ => ?_)
    · exact (hK _ hs)
    · refine Fo.ite (fun _ => ?_) (fun _ => Fo.none)
      refine Fo.bind (ft_tw_put hf ho  hs) (fun x6 q147 => ?_)
      exact (ih _ _ q147)
theorem ft_tw_putNumber {fs os : List Nat} {σ0 : gMem} {N : Nat} {h : Nat} {v1 : Int} {σ : gMem} (hf : [87] ⊆ fs) (ho : [37, 42] ⊆ os) (hσ : FT h fs os σ0 σ) : Fo (fun r => FT h fs os σ0 r) (tw_putNumber N h v1 σ) := by
  unfold tw_putNumber
  refine Fo.bind (ft_tw_decimal (List.nil_subset _) (List.Subset.trans (by decide) ho)  hσ) (fun x1 q148 => ?_)
  exact (ft_tw_putNumber_l9 hf (List.Subset.trans (by decide) ho) (fun s9 q149 => by
      exact Fo.some q149)  _ _ _ q148)
theorem ft_tw_putLetters_l2 {fs os : List Nat} {σ0 : gMem} {N : Nat} {h : Nat} {v1 : Int} {v2 : Int} {K : gMem → Option gMem} (hf : [87] ⊆ fs) (ho : [42] ⊆ os) (hK : ∀ (a0 : gMem), FT h fs os σ0 a0 → Fo (fun r => FT h fs os σ0 r) (K a0)) : ∀ (n : Nat) (z0 : Int) (z1 : gMem), FT h fs os σ0 z1 → Fo (fun r => FT h fs os σ0 r) (tw_putLetters_l2 N h v1 v2 K n z0 z1) := by
  intro n
  induction n with
  | zero => intros; exact Fo.none
  | succ n ih =>
    intro v3 s hs
    unfold tw_putLetters_l2
    refine Fo.ite (fun _ => ?_) (fun _ => ?_)
    · exact (hK _ hs)
    · refine Fo.ite (fun _ => ?_) (fun _ => Fo.none)
      refine Fo.bind (ft_tw_put hf ho  hs) (fun x2 q151 => ?_)
      exact (ih _ _ q151)
theorem ft_tw_putLetters {fs os : List Nat} {σ0 : gMem} {N : Nat} {h : Nat} {v1 : Int} {v2 : Int} {σ : gMem} (hf : [87] ⊆ fs) (ho : [42] ⊆ os) (hσ : FT h fs os σ0 σ) : Fo (fun r => FT h fs os σ0 r) (tw_putLetters N h v1 v2 σ) := by
  unfold tw_putLetters
  exact (ft_tw_putLetters_l2 hf ho (fun s5 q152 => by
      exact Fo.some q152)  _ _ _ hσ)
theorem ft_tw_say_l2 {fs os : List Nat} {σ0 : gMem} {N : Nat} {h : Nat} {v1 : Nat} {K : gMem → Option gMem} (hf : [87] ⊆ fs) (ho : [42] ⊆ os) (hK : ∀ (a0 : gMem), FT h fs os σ0 a0 → Fo (fun r => FT h fs os σ0 r) (K a0)) : ∀ (n : Nat) (z0 : Int) (z1 : gMem), FT h fs os σ0 z1 → Fo (fun r => FT h fs os σ0 r) (tw_say_l2 N h v1 K n z0 z1) := by
  intro n
  induction n with
  | zero => intros; exact Fo.none
  | succ n ih =>
    intro v2 s hs
    unfold tw_say_l2
    refine Fo.ite (fun _ => ?_) (fun _ => Fo.none)
    refine Fo.ite (fun _ => ?_) (fun _ => ?_)
    · exact (hK _ hs)
    · refine Fo.ite (fun _ => ?_) (fun _ => Fo.none)
      refine Fo.bind (ft_tw_put hf ho  hs) (fun x4 q154 => ?_)
      exact (ih _ _ q154)
theorem ft_tw_say {fs os : List Nat} {σ0 : gMem} {N : Nat} {h : Nat} {v1 : Nat} {σ : gMem} (hf : [87] ⊆ fs) (ho : [42] ⊆ os) (hσ : FT h fs os σ0 σ) : Fo (fun r => FT h fs os σ0 r) (tw_say N h v1 σ) := by
  unfold tw_say
  exact (ft_tw_say_l2 hf ho (fun s7 q155 => by
      exact Fo.some q155)  _ _ _ hσ)
theorem ft_tw_putCorner_j32 {fs os : List Nat} {σ0 : gMem} {N : Nat} {h : Nat} {v1 : Int} {s : gMem} (hf : [87] ⊆ fs) (ho : [37, 42] ⊆ os) (hs : FT h fs os σ0 s) : Fo (fun r => FT h fs os σ0 r) (tw_putCorner_j32 N h v1 s) := by
  unfold tw_putCorner_j32
  refine Fo.bind (ft_tw_putNumber hf ho  hs) (fun x4 q157 => ?_)
  exact Fo.some q157
theorem ft_tw_putCorner_j12 {fs os : List Nat} {σ0 : gMem} {N : Nat} {h : Nat} {v1 : Int} {v2 : Int} {v3 : Int} {s : gMem} (hf : [87] ⊆ fs) (ho : [37, 42] ⊆ os) (hs : FT h fs os σ0 s) : Fo (fun r => FT h fs os σ0 r) (tw_putCorner_j12 N h v1 v2 v3 s) := by
  unfold tw_putCorner_j12
  refine Fo.bind (ft_tw_put hf (List.Subset.trans (by decide) ho)  hs) (fun x1 q158 => ?_)
  refine Fo.ite (fun _ => ?_) (fun _ => ?_)
  · exact (ft_tw_putCorner_j32 hf ho  q158)
  · refine Fo.bind (ft_tw_put hf (List.Subset.trans (by decide) ho)  q158) (fun x7 q159 => ?_)
    exact (ft_tw_putCorner_j32 hf ho  q159)
theorem ft_tw_putCorner {fs os : List Nat} {σ0 : gMem} {N : Nat} {h : Nat} {v1 : Int} {v2 : Int} {v3 : Int} {σ : gMem} (hf : [87] ⊆ fs) (ho : [37, 42] ⊆ os) (hσ : FT h fs os σ0 σ) : Fo (fun r => FT h fs os σ0 r) (tw_putCorner N h v1 v2 v3 σ) := by
  unfold tw_putCorner
  refine Fo.ite (fun _ => ?_) (fun _ => ?_)
  · exact (ft_tw_putCorner_j12 hf ho  hσ)
  · refine Fo.bind (ft_tw_put hf (List.Subset.trans (by decide) ho)  hσ) (fun x10 q160 => ?_)
    exact (ft_tw_putCorner_j12 hf ho  q160)
theorem ft_tw_putSide_j10 {fs os : List Nat} {σ0 : gMem} {N : Nat} {W : Int → Int → gMem → Option gMem} {h : Nat} {v1 : Int} {v2 : Int} {v3 : Int} {s : gMem} (hf : [87] ⊆ fs) (ho : [42] ⊆ os) (hW : ∀ (a0 : Int) (a1 : Int) (a2 : gMem), FT h fs os σ0 a2 → Fo (fun r => FT h fs os σ0 r) (W a0 a1 a2)) (hs : FT h fs os σ0 s) : Fo (fun r => FT h fs os σ0 r) (tw_putSide_j10 N W h v1 v2 v3 s) := by
  unfold tw_putSide_j10
  refine Fo.bind (hW _ _ _ hs) (fun x1 q161 => ?_)
  refine Fo.ite (fun _ => ?_) (fun _ => ?_)
  · exact Fo.some q161
  · refine Fo.bind (ft_tw_put hf ho  q161) (fun x4 q162 => ?_)
    exact Fo.some q162
theorem ft_tw_putSide {fs os : List Nat} {σ0 : gMem} {N : Nat} {W : Int → Int → gMem → Option gMem} {h : Nat} {v1 : Int} {v2 : Int} {v3 : Int} {σ : gMem} (hf : [87] ⊆ fs) (ho : [42] ⊆ os) (hW : ∀ (a0 : Int) (a1 : Int) (a2 : gMem), FT h fs os σ0 a2 → Fo (fun r => FT h fs os σ0 r) (W a0 a1 a2)) (hσ : FT h fs os σ0 σ) : Fo (fun r => FT h fs os σ0 r) (tw_putSide N W h v1 v2 v3 σ) := by
  unfold tw_putSide
  refine Fo.ite (fun _ => ?_) (fun _ => ?_)
  · exact (ft_tw_putSide_j10 hf ho hW hσ)
  · refine Fo.bind (ft_tw_put hf ho  hσ) (fun x7 q163 => ?_)
    exact (ft_tw_putSide_j10 hf ho hW q163)
theorem ft_tw_erase_l71_j98 {fs os : List Nat} {σ0 : gMem} {N : Nat} {h : Nat} {v2 : Int} {v3 : Int} {v4 : Int} {v6 : Int} {v7 : Int} {t0 : Int} {t1 : Int} {Kh : Int → Int → gMem → Option (Int × gMem)} {K : Int → gMem → Option (Int × gMem)} {s : gMem} (hf : [] ⊆ fs) (ho : [5] ⊆ os) (hKh : ∀ (a0 : Int) (a1 : Int) (a2 : gMem), FT h fs os σ0 a2 → Fo (fun r => FT h fs os σ0 r.2) (Kh a0 a1 a2)) (hK : ∀ (a0 : Int) (a1 : gMem), FT h fs os σ0 a1 → Fo (fun r => FT h fs os σ0 r.2) (K a0 a1)) (hs : FT h fs os σ0 s) : Fo (fun r => FT h fs os σ0 r.2) (tw_erase_l71_j98 N h v2 v3 v4 v6 v7 t0 t1 Kh K s) := by
  unfold tw_erase_l71_j98
  refine Fo.bind (ft_tw_setCell hf ho  hs) (fun x22 q164 => ?_)
  exact (hKh _ _ _ q164)
theorem ft_tw_erase_l71 {fs os : List Nat} {σ0 : gMem} {N : Nat} {h : Nat} {v2 : Int} {v3 : Int} {v4 : Int} {v6 : Int} {K : Int → gMem → Option (Int × gMem)} (hf : [] ⊆ fs) (ho : [5] ⊆ os) (hK : ∀ (a0 : Int) (a1 : gMem), FT h fs os σ0 a1 → Fo (fun r => FT h fs os σ0 r.2) (K a0 a1)) : ∀ (n : Nat) (z0 : Int) (z1 : Int) (z2 : gMem), FT h fs os σ0 z2 → Fo (fun r => FT h fs os σ0 r.2) (tw_erase_l71 N h v2 v3 v4 v6 K n z0 z1 z2) := by
  intro n
  induction n with
  | zero => intros; exact Fo.none
  | succ n ih =>
    intro v5 v7 s hs
    unfold tw_erase_l71
    refine Fo.ite (fun _ => ?_) (fun _ => ?_)
    · exact (hK _ _ hs)
    · refine Fo.pure (fun x20 => ?_)
      refine Fo.ite (fun _ => ?_) (fun _ => ?_)
      · exact (ft_tw_erase_l71_j98 hf ho (fun a0 a1 a2 b2 => ih a0 a1 a2 b2) hK hs)
      · exact (ft_tw_erase_l71_j98 hf ho (fun a0 a1 a2 b2 => ih a0 a1 a2 b2) hK hs)
theorem ft_tw_erase_l62 {fs os : List Nat} {σ0 : gMem} {N : Nat} {h : Nat} {v2 : Int} {v3 : Int} {v4 : Int} {K : Int → gMem → Option (Int × gMem)} (hf : [] ⊆ fs) (ho : [5] ⊆ os) (hK : ∀ (a0 : Int) (a1 : gMem), FT h fs os σ0 a1 → Fo (fun r => FT h fs os σ0 r.2) (K a0 a1)) : ∀ (n : Nat) (z0 : Int) (z1 : Int) (z2 : gMem), FT h fs os σ0 z2 → Fo (fun r => FT h fs os σ0 r.2) (tw_erase_l62 N h v2 v3 v4 K n z0 z1 z2) := by
  intro n
  induction n with
  | zero => intros; exact Fo.none
  | succ n ih =>
    intro v5 v6 s hs
    unfold tw_erase_l62
    refine Fo.ite (fun _ => ?_) (fun _ => ?_)
    · exact (hK _ _ hs)
    · exact (ft_tw_erase_l71 hf ho (fun y25 s26 q165 => by
      exact (ih _ _ _ q165))  _ _ _ _ hs)
theorem ft_tw_erase {fs os : List Nat} {σ0 : gMem} {N : Nat} {h : Nat} {v1 : Int} {v2 : Int} {v3 : Int} {v4 : Int} {σ : gMem} (hf : [0, 15, 16, 17, 65] ⊆ fs) (ho : [1, 2, 3, 4, 5] ⊆ os) (hσ : FT h fs os σ0 σ) : Fo (fun r => FT h fs os σ0 r.2) (tw_erase N h v1 v2 v3 v4 σ) := by
  unfold tw_erase
  refine FT.letIf hσ (hf (by decide)) (fun s1 q167 => ?_)
  refine Fo.pure (fun x4 => ?_)
  refine Fo.ite (fun _ => ?_) (fun _ => ?_)
  · refine Fo.bind (ft_tw_throwing (List.Subset.trans (by decide) hf) (List.nil_subset _)  q167) (fun x6 q168 => ?_)
    exact Fo.some q168
  · refine Fo.pure (fun x10 => ?_)
    refine Fo.ite (fun _ => ?_) (fun _ => ?_)
    · refine Fo.ite (fun _ => ?_) (fun _ => ?_)
      · refine Fo.bind (ft_tw_throwing (List.Subset.trans (by decide) hf) (List.nil_subset _)  q167) (fun x12 q169 => ?_)
        exact Fo.some q169
      · refine Fo.ite (fun _ => ?_) (fun _ => ?_)
        · refine Fo.bind (ft_tw_step (List.Subset.trans (by decide) hf) ho  q167) (fun x16 q170 => ?_)
          exact (ft_tw_erase_l62 (List.nil_subset _) (List.Subset.trans (by decide) ho) (fun y28 s29 q171 => by
      exact Fo.some q171)  _ _ _ _ q170)
        · refine Fo.bind (ft_tw_throwing (List.Subset.trans (by decide) hf) (List.nil_subset _)  q167) (fun x31 q173 => ?_)
          exact Fo.some q173
    · refine Fo.bind (ft_tw_throwing (List.Subset.trans (by decide) hf) (List.nil_subset _)  q167) (fun x35 q174 => ?_)
      exact Fo.some q174
theorem ft_tw_setLines {fs os : List Nat} {σ0 : gMem} {h : Nat} {v1 : Int} {v2 : Int} {v3 : Int} {σ : gMem} (hf : [] ⊆ fs) (ho : [1, 2] ⊆ os) (hσ : FT h fs os σ0 σ) : Fo (fun r => FT h fs os σ0 r) (tw_setLines h v1 v2 v3 σ) := by
  unfold tw_setLines
  refine Fo.ite (fun _ => ?_) (fun _ => ?_)
  · refine Fo.ite (fun _ => ?_) (fun _ => Fo.none)
    refine FT.letI hσ (ho (by decide)) (fun s1 q175 => ?_)
    exact Fo.some q175
  · refine Fo.ite (fun _ => ?_) (fun _ => Fo.none)
    refine FT.letI hσ (ho (by decide)) (fun s4 q176 => ?_)
    exact Fo.some q176
theorem ft_tw_setLine {fs os : List Nat} {σ0 : gMem} {h : Nat} {v1 : Int} {v2 : Int} {v3 : Int} {v4 : Int} {σ : gMem} (hf : [] ⊆ fs) (ho : [3, 4] ⊆ os) (hσ : FT h fs os σ0 σ) : Fo (fun r => FT h fs os σ0 r) (tw_setLine h v1 v2 v3 v4 σ) := by
  unfold tw_setLine
  refine Fo.ite (fun _ => ?_) (fun _ => ?_)
  · refine Fo.ite (fun _ => ?_) (fun _ => Fo.none)
    refine FT.letI hσ (ho (by decide)) (fun s1 q177 => ?_)
    exact Fo.some q177
  · refine Fo.ite (fun _ => ?_) (fun _ => Fo.none)
    refine FT.letI hσ (ho (by decide)) (fun s4 q178 => ?_)
    exact Fo.some q178
theorem ft_tw_emptyLine_l2 {fs os : List Nat} {σ0 : gMem} {N : Nat} {h : Nat} {v1 : Int} {v2 : Int} {K : gMem → Option gMem} (hf : [] ⊆ fs) (ho : [5] ⊆ os) (hK : ∀ (a0 : gMem), FT h fs os σ0 a0 → Fo (fun r => FT h fs os σ0 r) (K a0)) : ∀ (n : Nat) (z0 : Int) (z1 : gMem), FT h fs os σ0 z1 → Fo (fun r => FT h fs os σ0 r) (tw_emptyLine_l2 N h v1 v2 K n z0 z1) := by
  intro n
  induction n with
  | zero => intros; exact Fo.none
  | succ n ih =>
    intro v3 s hs
    unfold tw_emptyLine_l2
    refine Fo.pure (fun x1 => ?_)
    refine Fo.ite (fun _ => ?_) (fun _ => ?_)
    · exact (hK _ hs)
    · refine Fo.pure (fun x3 => ?_)
      refine Fo.ite (fun _ => ?_) (fun _ => Fo.none)
      refine FT.letI hs (ho (by decide)) (fun s5 q179 => ?_)
      exact (ih _ _ q179)
theorem ft_tw_emptyLine {fs os : List Nat} {σ0 : gMem} {N : Nat} {h : Nat} {v1 : Int} {v2 : Int} {σ : gMem} (hf : [] ⊆ fs) (ho : [5] ⊆ os) (hσ : FT h fs os σ0 σ) : Fo (fun r => FT h fs os σ0 r) (tw_emptyLine N h v1 v2 σ) := by
  unfold tw_emptyLine
  exact (ft_tw_emptyLine_l2 hf ho (fun s8 q180 => by
      exact Fo.some q180)  _ _ _ hσ)
theorem ft_tw_branch {fs os : List Nat} {σ0 : gMem} {h : Nat} {v1 : Int} {σ : gMem} (hf : [0] ⊆ fs) (ho : [8] ⊆ os) (hσ : FT h fs os σ0 σ) : Fo (fun r => FT h fs os σ0 r.2) (tw_branch h v1 σ) := by
  unfold tw_branch
  refine FT.letIf hσ (hf (by decide)) (fun s1 q182 => ?_)
  refine Fo.pure (fun x4 => ?_)
  refine Fo.ite (fun _ => ?_) (fun _ => ?_)
  · refine Fo.ite (fun _ => ?_) (fun _ => Fo.none)
    refine Fo.ite (fun _ => ?_) (fun _ => ?_)
    · refine Fo.pure (fun x7 => ?_)
      refine Fo.ite (fun _ => ?_) (fun _ => Fo.none)
      refine FT.letI q182 (ho (by decide)) (fun s9 q183 => ?_)
      refine Fo.pure (fun x12 => ?_)
      exact Fo.some q183
    · refine Fo.bind (ft_tw_throwing hf (List.nil_subset _)  q182) (fun x14 q184 => ?_)
      exact Fo.some q184
  · refine Fo.bind (ft_tw_throwing hf (List.nil_subset _)  q182) (fun x18 q185 => ?_)
    exact Fo.some q185
theorem ft_tw_forgetSteps {fs os : List Nat} {σ0 : gMem} {h : Nat} {σ : gMem} (hf : [16, 17] ⊆ fs) (ho : [] ⊆ os) (hσ : FT h fs os σ0 σ) : Fo (fun r => FT h fs os σ0 r) (tw_forgetSteps h σ) := by
  unfold tw_forgetSteps
  refine FT.letIf hσ (hf (by decide)) (fun s1 q186 => ?_)
  refine FT.letIf q186 (hf (by decide)) (fun s4 q187 => ?_)
  exact Fo.some q187
theorem ft_tw_ancestors_l2_j20 {fs os : List Nat} {σ0 : gMem} {N : Nat} {h : Nat} {v1 : Int} {v2 : Nat} {v3 : Int} {t0 : Int} {t1 : Int} {t2 : Nat} {Kh : Int → gMem → Option gMem} {K : gMem → Option gMem} {s : gMem} (hf : [] ⊆ fs) (ho : [] ⊆ os) (gt2 : FAt h os t2) (hKh : ∀ (a0 : Int) (a1 : gMem), FT h fs os σ0 a1 → Fo (fun r => FT h fs os σ0 r) (Kh a0 a1)) (hK : ∀ (a0 : gMem), FT h fs os σ0 a0 → Fo (fun r => FT h fs os σ0 r) (K a0)) (hs : FT h fs os σ0 s) : Fo (fun r => FT h fs os σ0 r) (tw_ancestors_l2_j20 N h v1 v2 v3 t0 t1 t2 Kh K s) := by
  unfold tw_ancestors_l2_j20
  refine Fo.ite (fun _ => ?_) (fun _ => Fo.none)
  refine Fo.ite (fun _ => ?_) (fun _ => Fo.none)
  refine Fo.ite (fun _ => ?_) (fun _ => Fo.none)
  refine FT.letIa hs gt2 (fun s3 q188 => ?_)
  exact (hKh _ _ q188)
theorem ft_tw_ancestors_l2 {fs os : List Nat} {σ0 : gMem} {N : Nat} {h : Nat} {v1 : Int} {v2 : Nat} {K : gMem → Option gMem} (hf : [] ⊆ fs) (ho : [] ⊆ os) (gv2 : FAt h os v2) (hK : ∀ (a0 : gMem), FT h fs os σ0 a0 → Fo (fun r => FT h fs os σ0 r) (K a0)) : ∀ (n : Nat) (z0 : Int) (z1 : gMem), FT h fs os σ0 z1 → Fo (fun r => FT h fs os σ0 r) (tw_ancestors_l2 N h v1 v2 K n z0 z1) := by
  intro n
  induction n with
  | zero => intros; exact Fo.none
  | succ n ih =>
    intro v3 s hs
    unfold tw_ancestors_l2
    refine Fo.ite (fun _ => ?_) (fun _ => ?_)
    · exact (hK _ hs)
    · refine Fo.ite (fun _ => ?_) (fun _ => ?_)
      · exact (ft_tw_ancestors_l2_j20 hf ho gv2 (fun a0 a1 b1 => ih a0 a1 b1) hK hs)
      · exact (ft_tw_ancestors_l2_j20 hf ho gv2 (fun a0 a1 b1 => ih a0 a1 b1) hK hs)
theorem ft_tw_ancestors_l29_j66 {fs os : List Nat} {σ0 : gMem} {N : Nat} {h : Nat} {v2 : Nat} {v3 : Int} {Kh : Int → gMem → Option gMem} {K : gMem → Option gMem} {s : gMem} (hf : [] ⊆ fs) (ho : [] ⊆ os) (hKh : ∀ (a0 : Int) (a1 : gMem), FT h fs os σ0 a1 → Fo (fun r => FT h fs os σ0 r) (Kh a0 a1)) (hK : ∀ (a0 : gMem), FT h fs os σ0 a0 → Fo (fun r => FT h fs os σ0 r) (K a0)) (hs : FT h fs os σ0 s) : Fo (fun r => FT h fs os σ0 r) (tw_ancestors_l29_j66 N h v2 v3 Kh K s) := by
  unfold tw_ancestors_l29_j66
  exact (hKh _ _ hs)
theorem ft_tw_ancestors_l29 {fs os : List Nat} {σ0 : gMem} {N : Nat} {h : Nat} {v2 : Nat} {K : gMem → Option gMem} (hf : [] ⊆ fs) (ho : [] ⊆ os) (gv2 : FAt h os v2) (hK : ∀ (a0 : gMem), FT h fs os σ0 a0 → Fo (fun r => FT h fs os σ0 r) (K a0)) : ∀ (n : Nat) (z0 : Int) (z1 : gMem), FT h fs os σ0 z1 → Fo (fun r => FT h fs os σ0 r) (tw_ancestors_l29 N h v2 K n z0 z1) := by
  intro n
  induction n with
  | zero => intros; exact Fo.none
  | succ n ih =>
    intro v3 s hs
    unfold tw_ancestors_l29
    refine Fo.ite (fun _ => ?_) (fun _ => ?_)
    · exact (hK _ hs)
    · refine Fo.ite (fun _ => ?_) (fun _ => Fo.none)
      refine Fo.ite (fun _ => ?_) (fun _ => Fo.none)
      refine Fo.ite (fun _ => ?_) (fun _ => ?_)
      · exact (ft_tw_ancestors_l29_j66 hf ho (fun a0 a1 b1 => ih a0 a1 b1) hK hs)
      · refine Fo.ite (fun _ => ?_) (fun _ => Fo.none)
        refine Fo.ite (fun _ => ?_) (fun _ => Fo.none)
        refine FT.letIa hs gv2 (fun s11 q189 => ?_)
        refine Fo.ite (fun _ => ?_) (fun _ => Fo.none)
        refine Fo.ite (fun _ => ?_) (fun _ => ?_)
        · exact (ft_tw_ancestors_l29_j66 hf ho (fun a0 a1 b1 => ih a0 a1 b1) hK q189)
        · refine Fo.ite (fun _ => ?_) (fun _ => Fo.none)
          refine Fo.ite (fun _ => ?_) (fun _ => Fo.none)
          refine FT.letIa q189 gv2 (fun s16 q190 => ?_)
          exact (ft_tw_ancestors_l29_j66 hf ho (fun a0 a1 b1 => ih a0 a1 b1) hK q190)
theorem ft_tw_ancestors {fs os : List Nat} {σ0 : gMem} {N : Nat} {h : Nat} {v1 : Int} {v2 : Nat} {σ : gMem} (hf : [] ⊆ fs) (ho : [] ⊆ os) (gv2 : FAt h os v2) (hσ : FT h fs os σ0 σ) : Fo (fun r => FT h fs os σ0 r) (tw_ancestors N h v1 v2 σ) := by
  unfold tw_ancestors
  exact (ft_tw_ancestors_l2 hf ho gv2 (fun s6 q191 => by
      exact (ft_tw_ancestors_l29 hf ho gv2 (fun s19 q193 => by
        exact Fo.some q193)  _ _ _ q191))  _ _ _ hσ)
theorem ft_tw_putLine_l5 {fs os : List Nat} {σ0 : gMem} {N : Nat} {h : Nat} {v1 : Int} {v2 : Int} {K : gMem → Option gMem} (hf : [] ⊆ fs) (ho : [53] ⊆ os) (hK : ∀ (a0 : gMem), FT h fs os σ0 a0 → Fo (fun r => FT h fs os σ0 r) (K a0)) : ∀ (n : Nat) (z0 : Int) (z1 : gMem), FT h fs os σ0 z1 → Fo (fun r => FT h fs os σ0 r) (tw_putLine_l5 N h v1 v2 K n z0 z1) := by
  intro n
  induction n with
  | zero => intros; exact Fo.none
  | succ n ih =>
    intro v3 s hs
    unfold tw_putLine_l5
    refine Fo.ite (fun _ => ?_) (fun _ => ?_)
    · exact (hK _ hs)
    · refine Fo.ite (fun _ => ?_) (fun _ => Fo.none)
      refine Fo.ite (fun _ => ?_) (fun _ => Fo.none)
      refine FT.letI hs (ho (by decide)) (fun s3 q195 => ?_)
      exact (ih _ _ q195)
theorem ft_tw_putLine {fs os : List Nat} {σ0 : gMem} {N : Nat} {h : Nat} {v1 : Int} {v2 : Int} {σ : gMem} (hf : [100] ⊆ fs) (ho : [53] ⊆ os) (hσ : FT h fs os σ0 σ) : Fo (fun r => FT h fs os σ0 r) (tw_putLine N h v1 v2 σ) := by
  unfold tw_putLine
  exact (ft_tw_putLine_l5 (List.nil_subset _) ho (fun s6 q196 => by
      refine Fo.ite (fun _ => ?_) (fun _ => Fo.none)
      refine FT.letI q196 (ho (by decide)) (fun s8 q198 => ?_)
      refine FT.letIf q198 (hf (by decide)) (fun s12 q199 => ?_)
      exact Fo.some q199)  _ _ _ hσ)
theorem ft_tw_clash {fs os : List Nat} {σ0 : gMem} {h : Nat} {v1 : Int} {v2 : Int} {v3 : Int} {v4 : Int} {σ : gMem} (hf : [98] ⊆ fs) (ho : [46, 47, 48, 49, 50, 51, 52] ⊆ os) (hσ : FT h fs os σ0 σ) : Fo (fun r => FT h fs os σ0 r) (tw_clash h v1 v2 v3 v4 σ) := by
  unfold tw_clash
  refine Fo.ite (fun _ => ?_) (fun _ => Fo.none)
  refine FT.letI hσ (ho (by decide)) (fun s2 q200 => ?_)
  refine Fo.ite (fun _ => ?_) (fun _ => Fo.none)
  refine FT.letI q200 (ho (by decide)) (fun s6 q201 => ?_)
  refine Fo.ite (fun _ => ?_) (fun _ => Fo.none)
  refine FT.letI q201 (ho (by decide)) (fun s10 q202 => ?_)
  refine Fo.ite (fun _ => ?_) (fun _ => Fo.none)
  refine Fo.ite (fun _ => ?_) (fun _ => Fo.none)
  refine FT.letI q202 (ho (by decide)) (fun s15 q203 => ?_)
  refine Fo.ite (fun _ => ?_) (fun _ => Fo.none)
  refine FT.letI q203 (ho (by decide)) (fun s19 q204 => ?_)
  refine Fo.ite (fun _ => ?_) (fun _ => Fo.none)
  refine FT.letI q204 (ho (by decide)) (fun s23 q205 => ?_)
  refine Fo.ite (fun _ => ?_) (fun _ => Fo.none)
  refine FT.letI q205 (ho (by decide)) (fun s27 q206 => ?_)
  refine FT.letIf q206 (hf (by decide)) (fun s31 q207 => ?_)
  exact Fo.some q207
theorem ft_tw_differ {fs os : List Nat} {σ0 : gMem} {h : Nat} {v1 : Int} {v2 : Int} {v3 : Int} {σ : gMem} (hf : [104] ⊆ fs) (ho : [54, 55, 56] ⊆ os) (hσ : FT h fs os σ0 σ) : Fo (fun r => FT h fs os σ0 r) (tw_differ h v1 v2 v3 σ) := by
  unfold tw_differ
  refine Fo.ite (fun _ => ?_) (fun _ => Fo.none)
  refine FT.letI hσ (ho (by decide)) (fun s2 q208 => ?_)
  refine Fo.ite (fun _ => ?_) (fun _ => Fo.none)
  refine FT.letI q208 (ho (by decide)) (fun s6 q209 => ?_)
  refine Fo.ite (fun _ => ?_) (fun _ => Fo.none)
  refine FT.letI q209 (ho (by decide)) (fun s10 q210 => ?_)
  refine FT.letIf q210 (hf (by decide)) (fun s14 q211 => ?_)
  exact Fo.some q211
theorem ft_tw_difference {fs os : List Nat} {σ0 : gMem} {h : Nat} {v1 : Int} {v2 : Int} {σ : gMem} (hf : [0] ⊆ fs) (ho : [] ⊆ os) (hσ : FT h fs os σ0 σ) : Fo (fun r => FT h fs os σ0 r.2) (tw_difference h v1 v2 σ) := by
  unfold tw_difference
  refine FT.letIf hσ (hf (by decide)) (fun s1 q212 => ?_)
  refine Fo.pure (fun x5 => ?_)
  refine Fo.ite (fun _ => ?_) (fun _ => ?_)
  · refine Fo.ite (fun _ => ?_) (fun _ => ?_)
    · refine Fo.ite (fun _ => ?_) (fun _ => ?_)
      · refine Fo.ite (fun _ => ?_) (fun _ => ?_)
        · exact Fo.some q212
        · refine Fo.ite (fun _ => ?_) (fun _ => Fo.none)
          exact Fo.some q212
      · refine Fo.ite (fun _ => ?_) (fun _ => Fo.none)
        exact Fo.some q212
    · refine Fo.ite (fun _ => ?_) (fun _ => Fo.none)
      exact Fo.some q212
  · exact Fo.some q212
theorem ft_tw_sheet {fs os : List Nat} {σ0 : gMem} {h : Nat} {v1 : Int} {v2 : Int} {σ : gMem} (hf : [0] ⊆ fs) (ho : [] ⊆ os) (hσ : FT h fs os σ0 σ) : Fo (fun r => FT h fs os σ0 r.2) (tw_sheet h v1 v2 σ) := by
  unfold tw_sheet
  refine FT.letIf hσ (hf (by decide)) (fun s1 q213 => ?_)
  refine Fo.pure (fun x4 => ?_)
  refine Fo.ite (fun _ => ?_) (fun _ => ?_)
  · refine Fo.ite (fun _ => ?_) (fun _ => ?_)
    · refine Fo.pure (fun x7 => ?_)
      refine Fo.ite (fun _ => ?_) (fun _ => Fo.none)
      exact Fo.some q213
    · refine Fo.ite (fun _ => ?_) (fun _ => ?_)
      · refine Fo.pure (fun x11 => ?_)
        refine Fo.ite (fun _ => ?_) (fun _ => Fo.none)
        exact Fo.some q213
      · refine Fo.ite (fun _ => ?_) (fun _ => ?_)
        · refine Fo.ite (fun _ => ?_) (fun _ => ?_)
          · refine Fo.ite (fun _ => ?_) (fun _ => Fo.none)
            exact Fo.some q213
          · refine Fo.pure (fun x16 => ?_)
            exact Fo.some q213
        · refine Fo.ite (fun _ => ?_) (fun _ => ?_)
          · refine Fo.ite (fun _ => ?_) (fun _ => ?_)
            · refine Fo.ite (fun _ => ?_) (fun _ => Fo.none)
              exact Fo.some q213
            · exact Fo.some q213
          · exact Fo.some q213
  · exact Fo.some q213
theorem ft_tw_undo {fs os : List Nat} {σ0 : gMem} {N : Nat} {h : Nat} {σ : gMem} (hf : [0, 16, 17, 65] ⊆ fs) (ho : [1, 2, 3, 4, 5] ⊆ os) (hσ : FT h fs os σ0 σ) : Fo (fun r => FT h fs os σ0 r.2) (tw_undo N h σ) := by
  unfold tw_undo
  refine FT.letIf hσ (hf (by decide)) (fun s1 q214 => ?_)
  refine Fo.ite (fun _ => ?_) (fun _ => ?_)
  · refine Fo.bind (ft_tw_copySheet (List.Subset.trans (by decide) hf) ho  q214) (fun x6 q215 => ?_)
    refine FT.letIf q215 (hf (by decide)) (fun s10 q216 => ?_)
    refine FT.letIf q216 (hf (by decide)) (fun s14 q217 => ?_)
    refine Fo.pure (fun x18 => ?_)
    refine Fo.bind (ft_tw_copySheet (List.Subset.trans (by decide) hf) ho  q217) (fun x20 q218 => ?_)
    exact Fo.some q218
  · refine Fo.bind (ft_tw_throwing (List.Subset.trans (by decide) hf) (List.nil_subset _)  q214) (fun x24 q219 => ?_)
    exact Fo.some q219
theorem ft_tw_end {fs os : List Nat} {σ0 : gMem} {h : Nat} {v1 : Int} {σ : gMem} (hf : [0, 40] ⊆ fs) (ho : [] ⊆ os) (hσ : FT h fs os σ0 σ) : Fo (fun r => FT h fs os σ0 r.2) (tw_end h v1 σ) := by
  unfold tw_end
  refine FT.letIf hσ (hf (by decide)) (fun s1 q220 => ?_)
  refine Fo.pure (fun x5 => ?_)
  refine Fo.ite (fun _ => ?_) (fun _ => ?_)
  · refine Fo.ite (fun _ => ?_) (fun _ => Fo.none)
    exact Fo.some q220
  · refine FT.letIf q220 (hf (by decide)) (fun s7 q221 => ?_)
    refine Fo.ite (fun _ => ?_) (fun _ => Fo.none)
    exact Fo.some q221
theorem ft_tw_textToken_l13_j86 {fs os : List Nat} {σ0 : gMem} {N : Nat} {h : Nat} {v1 : Int} {Kh : Int → gMem → Option gMem} {K : Int → gMem → Option gMem} {s : gMem} (hf : [] ⊆ fs) (ho : [] ⊆ os) (hKh : ∀ (a0 : Int) (a1 : gMem), FT h fs os σ0 a1 → Fo (fun r => FT h fs os σ0 r) (Kh a0 a1)) (hK : ∀ (a0 : Int) (a1 : gMem), FT h fs os σ0 a1 → Fo (fun r => FT h fs os σ0 r) (K a0 a1)) (hs : FT h fs os σ0 s) : Fo (fun r => FT h fs os σ0 r) (tw_textToken_l13_j86 N h v1 Kh K s) := by
  unfold tw_textToken_l13_j86
  exact (hKh _ _ hs)
theorem ft_tw_textToken_l13 {fs os : List Nat} {σ0 : gMem} {N : Nat} {h : Nat} {K : Int → gMem → Option gMem} (hf : [51] ⊆ fs) (ho : [] ⊆ os) (hK : ∀ (a0 : Int) (a1 : gMem), FT h fs os σ0 a1 → Fo (fun r => FT h fs os σ0 r) (K a0 a1)) : ∀ (n : Nat) (z0 : Int) (z1 : gMem), FT h fs os σ0 z1 → Fo (fun r => FT h fs os σ0 r) (tw_textToken_l13 N h K n z0 z1) := by
  intro n
  induction n with
  | zero => intros; exact Fo.none
  | succ n ih =>
    intro v1 s hs
    unfold tw_textToken_l13
    refine Fo.ite (fun _ => ?_) (fun _ => ?_)
    · exact (hK _ _ hs)
    · refine Fo.pure (fun x6 => ?_)
      refine Fo.ite (fun _ => ?_) (fun _ => ?_)
      · exact (hK _ _ hs)
      · refine Fo.pure (fun x8 => ?_)
        refine Fo.ite (fun _ => ?_) (fun _ => ?_)
        · refine Fo.ite (fun _ => ?_) (fun _ => ?_)
          · refine Fo.pure (fun x11 => ?_)
            refine Fo.ite (fun _ => ?_) (fun _ => ?_)
            · exact (ft_tw_textToken_l13_j86 (List.nil_subset _) ho (fun a0 a1 b1 => ih a0 a1 b1) hK hs)
            · refine FT.letIf hs (hf (by decide)) (fun s13 q222 => ?_)
              exact (ft_tw_textToken_l13_j86 (List.nil_subset _) ho (fun a0 a1 b1 => ih a0 a1 b1) hK q222)
          · refine FT.letIf hs (hf (by decide)) (fun s17 q223 => ?_)
            exact (ft_tw_textToken_l13_j86 (List.nil_subset _) ho (fun a0 a1 b1 => ih a0 a1 b1) hK q223)
        · refine FT.letIf hs (hf (by decide)) (fun s21 q224 => ?_)
          exact (ft_tw_textToken_l13_j86 (List.nil_subset _) ho (fun a0 a1 b1 => ih a0 a1 b1) hK q224)
theorem ft_tw_textToken {fs os : List Nat} {σ0 : gMem} {N : Nat} {h : Nat} {σ : gMem} (hf : [47, 49, 51] ⊆ fs) (ho : [] ⊆ os) (hσ : FT h fs os σ0 σ) : Fo (fun r => FT h fs os σ0 r) (tw_textToken N h σ) := by
  unfold tw_textToken
  refine Fo.bind (ft_tw_is (List.Subset.trans (by decide) hf) ho  hσ) (fun x2 q225 => ?_)
  exact (ft_tw_textToken_l13 (List.Subset.trans (by decide) hf) ho (fun y24 s25 q226 => by
      refine FT.letIf q226 (hf (by decide)) (fun s27 q228 => ?_)
      exact Fo.some q228)  _ _ _ q225)
theorem ft_tw_wordToken_l49 {fs os : List Nat} {σ0 : gMem} {N : Nat} {h : Nat} {K : Int → gMem → Option gMem} (hf : [] ⊆ fs) (ho : [] ⊆ os) (hK : ∀ (a0 : Int) (a1 : gMem), FT h fs os σ0 a1 → Fo (fun r => FT h fs os σ0 r) (K a0 a1)) : ∀ (n : Nat) (z0 : Int) (z1 : gMem), FT h fs os σ0 z1 → Fo (fun r => FT h fs os σ0 r) (tw_wordToken_l49 N h K n z0 z1) := by
  intro n
  induction n with
  | zero => intros; exact Fo.none
  | succ n ih =>
    intro v2 s hs
    unfold tw_wordToken_l49
    refine Fo.pure (fun x7 => ?_)
    refine Fo.pure (fun x9 => ?_)
    refine Fo.ite (fun _ => ?_) (fun _ => ?_)
    · exact (hK _ _ hs)
    · exact (ih _ _ hs)
theorem ft_tw_wordToken {fs os : List Nat} {σ0 : gMem} {N : Nat} {h : Nat} {v1 : Int} {σ : gMem} (hf : [47, 49, 52, 53, 54, 55] ⊆ fs) (ho : [] ⊆ os) (hσ : FT h fs os σ0 σ) : Fo (fun r => FT h fs os σ0 r) (tw_wordToken N h v1 σ) := by
  unfold tw_wordToken
  refine Fo.bind (ft_tw_corner (List.Subset.trans (by decide) hf) ho  hσ) (fun x2 q229 => ?_)
  refine Fo.ite (fun _ => ?_) (fun _ => ?_)
  · refine Fo.ite (fun _ => ?_) (fun _ => ?_)
    · exact (ft_tw_wordToken_l49 (List.nil_subset _) ho (fun y11 s12 q230 => by
      refine Fo.bind (ft_tw_is (List.Subset.trans (by decide) hf) ho  q230) (fun x14 q232 => ?_)
      exact Fo.some q232)  _ _ _ q229)
    · refine Fo.bind (ft_tw_is (List.Subset.trans (by decide) hf) ho  q229) (fun x18 q233 => ?_)
      exact Fo.some q233
  · refine Fo.bind (ft_tw_is (List.Subset.trans (by decide) hf) ho  q229) (fun x22 q234 => ?_)
    exact Fo.some q234
theorem ft_tw_signToken_j116 {fs os : List Nat} {σ0 : gMem} {h : Nat} {v2 : Int} {t0 : Int} {s : gMem} (hf : [47, 49, 50] ⊆ fs) (ho : [] ⊆ os) (hs : FT h fs os σ0 s) : Fo (fun r => FT h fs os σ0 r) (tw_signToken_j116 h v2 t0 s) := by
  unfold tw_signToken_j116
  refine Fo.ite (fun _ => ?_) (fun _ => ?_)
  · refine Fo.bind (ft_tw_sign hf ho  hs) (fun x45 q235 => ?_)
    exact Fo.some q235
  · refine Fo.bind (ft_tw_sign hf ho  hs) (fun x49 q236 => ?_)
    exact Fo.some q236
theorem ft_tw_signToken_j75 {fs os : List Nat} {σ0 : gMem} {h : Nat} {t0 : Int} {s : gMem} (hf : [47, 49, 50] ⊆ fs) (ho : [] ⊆ os) (hs : FT h fs os σ0 s) : Fo (fun r => FT h fs os σ0 r) (tw_signToken_j75 h t0 s) := by
  unfold tw_signToken_j75
  refine Fo.bind (ft_tw_sign hf ho  hs) (fun x53 q237 => ?_)
  exact Fo.some q237
theorem ft_tw_signToken_j63 {fs os : List Nat} {σ0 : gMem} {h : Nat} {v2 : Int} {t0 : Int} {s : gMem} (hf : [47, 49, 50] ⊆ fs) (ho : [] ⊆ os) (hs : FT h fs os σ0 s) : Fo (fun r => FT h fs os σ0 r) (tw_signToken_j63 h v2 t0 s) := by
  unfold tw_signToken_j63
  refine Fo.ite (fun _ => ?_) (fun _ => ?_)
  · exact (ft_tw_signToken_j75 hf ho  hs)
  · refine Fo.ite (fun _ => ?_) (fun _ => ?_)
    · refine Fo.bind (ft_tw_sign hf ho  hs) (fun x57 q238 => ?_)
      exact Fo.some q238
    · exact (ft_tw_signToken_j75 hf ho  hs)
theorem ft_tw_signToken {fs os : List Nat} {σ0 : gMem} {h : Nat} {v1 : Int} {σ : gMem} (hf : [47, 49, 50] ⊆ fs) (ho : [] ⊆ os) (hσ : FT h fs os σ0 σ) : Fo (fun r => FT h fs os σ0 r) (tw_signToken h v1 σ) := by
  unfold tw_signToken
  refine Fo.pure (fun x2 => ?_)
  refine Fo.ite (fun _ => ?_) (fun _ => ?_)
  · refine Fo.ite (fun _ => ?_) (fun _ => ?_)
    · refine Fo.ite (fun _ => ?_) (fun _ => ?_)
      · refine Fo.ite (fun _ => ?_) (fun _ => ?_)
        · refine Fo.ite (fun _ => ?_) (fun _ => ?_)
          · refine Fo.ite (fun _ => ?_) (fun _ => ?_)
            · refine Fo.ite (fun _ => ?_) (fun _ => ?_)
              · refine Fo.ite (fun _ => ?_) (fun _ => ?_)
                · refine Fo.ite (fun _ => ?_) (fun _ => ?_)
                  · refine Fo.ite (fun _ => ?_) (fun _ => ?_)
                    · refine Fo.ite (fun _ => ?_) (fun _ => ?_)
                      · refine Fo.ite (fun _ => ?_) (fun _ => ?_)
                        · refine Fo.bind (ft_tw_is (List.Subset.trans (by decide) hf) ho  hσ) (fun x5 q239 => ?_)
                          exact Fo.some q239
                        · refine Fo.bind (ft_tw_is (List.Subset.trans (by decide) hf) ho  hσ) (fun x9 q240 => ?_)
                          exact Fo.some q240
                      · refine Fo.bind (ft_tw_is (List.Subset.trans (by decide) hf) ho  hσ) (fun x13 q241 => ?_)
                        exact Fo.some q241
                    · refine Fo.bind (ft_tw_is (List.Subset.trans (by decide) hf) ho  hσ) (fun x17 q242 => ?_)
                      exact Fo.some q242
                  · refine Fo.bind (ft_tw_sign hf ho  hσ) (fun x21 q243 => ?_)
                    exact Fo.some q243
                · refine Fo.bind (ft_tw_sign hf ho  hσ) (fun x25 q244 => ?_)
                  exact Fo.some q244
              · refine Fo.bind (ft_tw_sign hf ho  hσ) (fun x29 q245 => ?_)
                exact Fo.some q245
            · refine Fo.bind (ft_tw_sign hf ho  hσ) (fun x33 q246 => ?_)
              exact Fo.some q246
          · refine Fo.bind (ft_tw_sign hf ho  hσ) (fun x37 q247 => ?_)
            exact Fo.some q247
        · refine Fo.bind (ft_tw_sign hf ho  hσ) (fun x41 q248 => ?_)
          exact Fo.some q248
      · refine Fo.ite (fun _ => ?_) (fun _ => ?_)
        · exact (ft_tw_signToken_j116 hf ho  hσ)
        · exact (ft_tw_signToken_j116 hf ho  hσ)
    · refine Fo.ite (fun _ => ?_) (fun _ => ?_)
      · refine Fo.ite (fun _ => ?_) (fun _ => ?_)
        · exact (ft_tw_signToken_j63 hf ho  hσ)
        · exact (ft_tw_signToken_j63 hf ho  hσ)
      · exact (ft_tw_signToken_j63 hf ho  hσ)
  · refine Fo.bind (ft_tw_sign hf ho  hσ) (fun x61 q249 => ?_)
    exact Fo.some q249
theorem ft_tw_meanOne_j10 {fs os : List Nat} {σ0 : gMem} {h : Nat} {v1 : Int} {v2 : Int} {v3 : Int} {v4 : Int} {v5 : Int} {t0 : Int} {s : gMem} (hf : [] ⊆ fs) (ho : [20, 21, 24, 25] ⊆ os) (hs : FT h fs os σ0 s) : Fo (fun r => FT h fs os σ0 r) (tw_meanOne_j10 h v1 v2 v3 v4 v5 t0 s) := by
  unfold tw_meanOne_j10
  refine Fo.pure (fun x1 => ?_)
  refine Fo.ite (fun _ => ?_) (fun _ => Fo.none)
  refine FT.letI hs (ho (by decide)) (fun s3 q250 => ?_)
  refine Fo.pure (fun x6 => ?_)
  refine Fo.ite (fun _ => ?_) (fun _ => Fo.none)
  refine FT.letI q250 (ho (by decide)) (fun s8 q251 => ?_)
  refine Fo.ite (fun _ => ?_) (fun _ => Fo.none)
  refine FT.letI q251 (ho (by decide)) (fun s11 q252 => ?_)
  refine Fo.ite (fun _ => ?_) (fun _ => Fo.none)
  refine FT.letI q252 (ho (by decide)) (fun s14 q253 => ?_)
  exact Fo.some q253
theorem ft_tw_meanOne {fs os : List Nat} {σ0 : gMem} {h : Nat} {v1 : Int} {v2 : Int} {v3 : Int} {v4 : Int} {v5 : Int} {σ : gMem} (hf : [] ⊆ fs) (ho : [20, 21, 24, 25] ⊆ os) (hσ : FT h fs os σ0 σ) : Fo (fun r => FT h fs os σ0 r) (tw_meanOne h v1 v2 v3 v4 v5 σ) := by
  unfold tw_meanOne
  refine Fo.ite (fun _ => ?_) (fun _ => ?_)
  · exact (ft_tw_meanOne_j10 hf ho  hσ)
  · exact (ft_tw_meanOne_j10 hf ho  hσ)
theorem ft_tw_isArg_j50 {fs os : List Nat} {σ0 : gMem} {h : Nat} {v4 : Int} {s : gMem} (hf : [] ⊆ fs) (ho : [] ⊆ os) (hs : FT h fs os σ0 s) : Fo (fun r => FT h fs os σ0 r.2) (tw_isArg_j50 h v4 s) := by
  unfold tw_isArg_j50
  refine Fo.ite (fun _ => ?_) (fun _ => ?_)
  · exact Fo.some hs
  · refine Fo.ite (fun _ => ?_) (fun _ => ?_)
    · exact Fo.some hs
    · exact Fo.some hs
theorem ft_tw_isArg_j29 {fs os : List Nat} {σ0 : gMem} {h : Nat} {v3 : Int} {v4 : Int} {s : gMem} (hf : [] ⊆ fs) (ho : [24] ⊆ os) (hs : FT h fs os σ0 s) : Fo (fun r => FT h fs os σ0 r.2) (tw_isArg_j29 h v3 v4 s) := by
  unfold tw_isArg_j29
  refine Fo.ite (fun _ => ?_) (fun _ => ?_)
  · exact (ft_tw_isArg_j50 hf (List.nil_subset _)  hs)
  · refine Fo.ite (fun _ => ?_) (fun _ => Fo.none)
    refine Fo.ite (fun _ => ?_) (fun _ => Fo.none)
    refine FT.letI hs (ho (by decide)) (fun s5 q254 => ?_)
    exact (ft_tw_isArg_j50 hf (List.nil_subset _)  q254)
theorem ft_tw_isArg_j100 {fs os : List Nat} {σ0 : gMem} {h : Nat} {v4 : Int} {t0 : Int} {s : gMem} (hf : [] ⊆ fs) (ho : [] ⊆ os) (hs : FT h fs os σ0 s) : Fo (fun r => FT h fs os σ0 r.2) (tw_isArg_j100 h v4 t0 s) := by
  unfold tw_isArg_j100
  refine Fo.ite (fun _ => ?_) (fun _ => ?_)
  · refine Fo.ite (fun _ => ?_) (fun _ => ?_)
    · exact Fo.some hs
    · exact Fo.some hs
  · refine Fo.ite (fun _ => ?_) (fun _ => ?_)
    · exact Fo.some hs
    · refine Fo.ite (fun _ => ?_) (fun _ => ?_)
      · exact Fo.some hs
      · exact Fo.some hs
theorem ft_tw_isArg_j95 {fs os : List Nat} {σ0 : gMem} {h : Nat} {v4 : Int} {s : gMem} (hf : [] ⊆ fs) (ho : [] ⊆ os) (hs : FT h fs os σ0 s) : Fo (fun r => FT h fs os σ0 r.2) (tw_isArg_j95 h v4 s) := by
  unfold tw_isArg_j95
  exact (ft_tw_isArg_j100 hf ho  hs)
theorem ft_tw_isArg_j99 {fs os : List Nat} {σ0 : gMem} {h : Nat} {v4 : Int} {s : gMem} (hf : [] ⊆ fs) (ho : [] ⊆ os) (hs : FT h fs os σ0 s) : Fo (fun r => FT h fs os σ0 r.2) (tw_isArg_j99 h v4 s) := by
  unfold tw_isArg_j99
  exact (ft_tw_isArg_j100 hf ho  hs)
theorem ft_tw_isArg_j84 {fs os : List Nat} {σ0 : gMem} {h : Nat} {v1 : Int} {v2 : Int} {v4 : Int} {s : gMem} (hf : [] ⊆ fs) (ho : [] ⊆ os) (hs : FT h fs os σ0 s) : Fo (fun r => FT h fs os σ0 r.2) (tw_isArg_j84 h v1 v2 v4 s) := by
  unfold tw_isArg_j84
  refine Fo.ite (fun _ => ?_) (fun _ => ?_)
  · exact (ft_tw_isArg_j99 hf ho  hs)
  · refine Fo.ite (fun _ => ?_) (fun _ => ?_)
    · exact (ft_tw_isArg_j99 hf ho  hs)
    · exact (ft_tw_isArg_j95 hf ho  hs)
theorem ft_tw_isArg_j80 {fs os : List Nat} {σ0 : gMem} {h : Nat} {v1 : Int} {v2 : Int} {v4 : Int} {s : gMem} (hf : [] ⊆ fs) (ho : [] ⊆ os) (hs : FT h fs os σ0 s) : Fo (fun r => FT h fs os σ0 r.2) (tw_isArg_j80 h v1 v2 v4 s) := by
  unfold tw_isArg_j80
  refine Fo.ite (fun _ => ?_) (fun _ => ?_)
  · exact (ft_tw_isArg_j95 hf ho  hs)
  · exact (ft_tw_isArg_j84 hf ho  hs)
theorem ft_tw_isArg {fs os : List Nat} {σ0 : gMem} {h : Nat} {v1 : Int} {v2 : Int} {v3 : Int} {σ : gMem} (hf : [] ⊆ fs) (ho : [24] ⊆ os) (hσ : FT h fs os σ0 σ) : Fo (fun r => FT h fs os σ0 r.2) (tw_isArg h v1 v2 v3 σ) := by
  unfold tw_isArg
  refine Fo.ite (fun _ => ?_) (fun _ => Fo.none)
  refine Fo.pure (fun x2 => ?_)
  refine Fo.ite (fun _ => ?_) (fun _ => ?_)
  · refine Fo.ite (fun _ => ?_) (fun _ => ?_)
    · exact (ft_tw_isArg_j29 hf ho  hσ)
    · refine Fo.ite (fun _ => ?_) (fun _ => ?_)
      · refine Fo.ite (fun _ => ?_) (fun _ => ?_)
        · exact (ft_tw_isArg_j80 hf (List.nil_subset _)  hσ)
        · refine Fo.ite (fun _ => ?_) (fun _ => ?_)
          · exact (ft_tw_isArg_j84 hf (List.nil_subset _)  hσ)
          · exact (ft_tw_isArg_j80 hf (List.nil_subset _)  hσ)
      · exact (ft_tw_isArg_j29 hf ho  hσ)
  · exact Fo.some hσ
theorem ft_tw_plainEntered_l5_j31 {fs os : List Nat} {σ0 : gMem} {N : Nat} {h : Nat} {v1 : Int} {Kh : Int → gMem → Option (Int × gMem)} {K : gMem → Option (Int × gMem)} {s : gMem} (hf : [] ⊆ fs) (ho : [] ⊆ os) (hKh : ∀ (a0 : Int) (a1 : gMem), FT h fs os σ0 a1 → Fo (fun r => FT h fs os σ0 r.2) (Kh a0 a1)) (hK : ∀ (a0 : gMem), FT h fs os σ0 a0 → Fo (fun r => FT h fs os σ0 r.2) (K a0)) (hs : FT h fs os σ0 s) : Fo (fun r => FT h fs os σ0 r.2) (tw_plainEntered_l5_j31 N h v1 Kh K s) := by
  unfold tw_plainEntered_l5_j31
  exact (hKh _ _ hs)
theorem ft_tw_plainEntered_l5 {fs os : List Nat} {σ0 : gMem} {N : Nat} {h : Nat} {K : gMem → Option (Int × gMem)} (hf : [41, 42] ⊆ fs) (ho : [] ⊆ os) (hK : ∀ (a0 : gMem), FT h fs os σ0 a0 → Fo (fun r => FT h fs os σ0 r.2) (K a0)) : ∀ (n : Nat) (z0 : Int) (z1 : gMem), FT h fs os σ0 z1 → Fo (fun r => FT h fs os σ0 r.2) (tw_plainEntered_l5 N h K n z0 z1) := by
  intro n
  induction n with
  | zero => intros; exact Fo.none
  | succ n ih =>
    intro v1 s hs
    unfold tw_plainEntered_l5
    refine Fo.ite (fun _ => ?_) (fun _ => ?_)
    · exact (hK _ hs)
    · refine Fo.ite (fun _ => ?_) (fun _ => Fo.none)
      refine Fo.pure (fun x4 => ?_)
      refine Fo.ite (fun _ => ?_) (fun _ => ?_)
      · exact (ft_tw_plainEntered_l5_j31 (List.nil_subset _) ho (fun a0 a1 b1 => ih a0 a1 b1) hK hs)
      · refine Fo.bind (ft_tw_fail hf ho  hs) (fun x6 q255 => ?_)
        exact (ft_tw_plainEntered_l5_j31 (List.nil_subset _) ho (fun a0 a1 b1 => ih a0 a1 b1) hK q255)
theorem ft_tw_plainEntered_j171 {fs os : List Nat} {σ0 : gMem} {N : Nat} {h : Nat} {v2 : Int} {s : gMem} (hf : [24] ⊆ fs) (ho : [10, 11, 12, 13] ⊆ os) (hs : FT h fs os σ0 s) : Fo (fun r => FT h fs os σ0 r.2) (tw_plainEntered_j171 N h v2 s) := by
  unfold tw_plainEntered_j171
  refine Fo.ite (fun _ => ?_) (fun _ => ?_)
  · refine Fo.bind (ft_tw_plain hf ho  hs) (fun x21 q256 => ?_)
    exact Fo.some q256
  · refine Fo.bind (ft_tw_plain hf ho  hs) (fun x25 q257 => ?_)
    exact Fo.some q257
theorem ft_tw_plainEntered_j215 {fs os : List Nat} {σ0 : gMem} {N : Nat} {h : Nat} {t0 : Int} {s : gMem} (hf : [19, 24, 41, 42] ⊆ fs) (ho : [9, 10, 11, 12, 13] ⊆ os) (hs : FT h fs os σ0 s) : Fo (fun r => FT h fs os σ0 r.2) (tw_plainEntered_j215 N h t0 s) := by
  unfold tw_plainEntered_j215
  refine Fo.ite (fun _ => ?_) (fun _ => ?_)
  · refine Fo.bind (ft_tw_kept (List.Subset.trans (by decide) hf) (List.Subset.trans (by decide) ho)  hs) (fun x37 q258 => ?_)
    refine Fo.bind (ft_tw_plain (List.Subset.trans (by decide) hf) (List.Subset.trans (by decide) ho)  q258) (fun x42 q259 => ?_)
    exact Fo.some q259
  · refine Fo.bind (ft_tw_fail (List.Subset.trans (by decide) hf) (List.nil_subset _)  hs) (fun x46 q260 => ?_)
    exact Fo.some q260
theorem ft_tw_plainEntered_j113 {fs os : List Nat} {σ0 : gMem} {N : Nat} {h : Nat} {v2 : Int} {t0 : Int} {s : gMem} (hf : [24] ⊆ fs) (ho : [10, 11, 12, 13] ⊆ os) (hs : FT h fs os σ0 s) : Fo (fun r => FT h fs os σ0 r.2) (tw_plainEntered_j113 N h v2 t0 s) := by
  unfold tw_plainEntered_j113
  refine Fo.pure (fun x54 => ?_)
  refine Fo.ite (fun _ => ?_) (fun _ => ?_)
  · refine Fo.bind (ft_tw_plain hf ho  hs) (fun x56 q261 => ?_)
    exact Fo.some q261
  · refine Fo.bind (ft_tw_plain hf ho  hs) (fun x60 q262 => ?_)
    exact Fo.some q262
theorem ft_tw_plainEntered_j94 {fs os : List Nat} {σ0 : gMem} {N : Nat} {h : Nat} {t0 : Int} {s : gMem} (hf : [24] ⊆ fs) (ho : [10, 11, 12, 13] ⊆ os) (hs : FT h fs os σ0 s) : Fo (fun r => FT h fs os σ0 r.2) (tw_plainEntered_j94 N h t0 s) := by
  unfold tw_plainEntered_j94
  refine Fo.ite (fun _ => ?_) (fun _ => ?_)
  · exact (ft_tw_plainEntered_j113 hf ho  hs)
  · exact (ft_tw_plainEntered_j113 hf ho  hs)
theorem ft_tw_plainEntered {fs os : List Nat} {σ0 : gMem} {N : Nat} {h : Nat} {σ : gMem} (hf : [19, 24, 41, 42] ⊆ fs) (ho : [9, 10, 11, 12, 13] ⊆ os) (hσ : FT h fs os σ0 σ) : Fo (fun r => FT h fs os σ0 r.2) (tw_plainEntered N h σ) := by
  unfold tw_plainEntered
  exact (ft_tw_plainEntered_l5 (List.Subset.trans (by decide) hf) (List.nil_subset _) (fun s9 q263 => by
      refine Fo.ite (fun _ => ?_) (fun _ => ?_)
      · exact Fo.some q263
      · refine Fo.ite (fun _ => ?_) (fun _ => ?_)
        · refine Fo.pure (fun x16 => ?_)
          refine Fo.ite (fun _ => ?_) (fun _ => ?_)
          · refine Fo.pure (fun x19 => ?_)
            refine Fo.ite (fun _ => ?_) (fun _ => ?_)
            · exact (ft_tw_plainEntered_j171 (List.Subset.trans (by decide) hf) (List.Subset.trans (by decide) ho)  q263)
            · refine Fo.pure (fun x30 => ?_)
              refine Fo.ite (fun _ => ?_) (fun _ => ?_)
              · refine Fo.ite (fun _ => ?_) (fun _ => Fo.none)
                refine Fo.ite (fun _ => ?_) (fun _ => ?_)
                · exact (ft_tw_plainEntered_j215 hf ho  q263)
                · exact (ft_tw_plainEntered_j215 hf ho  q263)
              · exact (ft_tw_plainEntered_j171 (List.Subset.trans (by decide) hf) (List.Subset.trans (by decide) ho)  q263)
          · refine Fo.ite (fun _ => ?_) (fun _ => Fo.none)
            refine Fo.ite (fun _ => ?_) (fun _ => ?_)
            · exact (ft_tw_plainEntered_j94 (List.Subset.trans (by decide) hf) (List.Subset.trans (by decide) ho)  q263)
            · exact (ft_tw_plainEntered_j94 (List.Subset.trans (by decide) hf) (List.Subset.trans (by decide) ho)  q263)
        · exact Fo.some q263)  _ _ _ hσ)
theorem ft_tw_area {fs os : List Nat} {σ0 : gMem} {N : Nat} {h : Nat} {v1 : Int} {v2 : Int} {σ : gMem} (hf : [71, 72, 73, 74, 75] ⊆ fs) (ho : [] ⊆ os) (hσ : FT h fs os σ0 σ) : Fo (fun r => FT h fs os σ0 r.2) (tw_area N h v1 v2 σ) := by
  unfold tw_area
  refine Fo.ite (fun _ => ?_) (fun _ => Fo.none)
  refine Fo.ite (fun _ => ?_) (fun _ => ?_)
  · refine Fo.pure (fun x2 => ?_)
    refine Fo.ite (fun _ => ?_) (fun _ => Fo.none)
    refine Fo.pure (fun x5 => ?_)
    refine Fo.ite (fun _ => ?_) (fun _ => Fo.none)
    refine Fo.pure (fun x8 => ?_)
    refine Fo.ite (fun _ => ?_) (fun _ => Fo.none)
    refine Fo.pure (fun x11 => ?_)
    refine Fo.ite (fun _ => ?_) (fun _ => Fo.none)
    refine Fo.pure (fun x14 => ?_)
    refine FT.letIf hσ (hf (by decide)) (fun s16 q265 => ?_)
    refine Fo.pure (fun x19 => ?_)
    refine FT.letIf q265 (hf (by decide)) (fun s21 q266 => ?_)
    refine Fo.pure (fun x24 => ?_)
    refine FT.letIf q266 (hf (by decide)) (fun s26 q267 => ?_)
    refine Fo.pure (fun x29 => ?_)
    refine FT.letIf q267 (hf (by decide)) (fun s31 q268 => ?_)
    refine Fo.pure (fun x34 => ?_)
    refine FT.letIf q268 (hf (by decide)) (fun s36 q269 => ?_)
    refine Fo.ite (fun _ => ?_) (fun _ => ?_)
    · exact Fo.some q269
    · refine Fo.ite (fun _ => ?_) (fun _ => ?_)
      · exact Fo.some q269
      · refine Fo.ite (fun _ => ?_) (fun _ => ?_)
        · exact Fo.some q269
        · refine Fo.ite (fun _ => ?_) (fun _ => ?_)
          · exact Fo.some q269
          · exact Fo.some q269
  · exact Fo.some hσ
theorem ft_tw_plainValue {fs os : List Nat} {σ0 : gMem} {N : Nat} {h : Nat} {v1 : Int} {v2 : Int} {σ : gMem} (hf : [] ⊆ fs) (ho : [28, 29, 30, 31, 33, 34, 35, 36] ⊆ os) (hσ : FT h fs os σ0 σ) : Fo (fun r => FT h fs os σ0 r) (tw_plainValue N h v1 v2 σ) := by
  unfold tw_plainValue
  refine Fo.ite (fun _ => ?_) (fun _ => ?_)
  · refine Fo.ite (fun _ => ?_) (fun _ => Fo.none)
    refine Fo.ite (fun _ => ?_) (fun _ => ?_)
    · refine Fo.ite (fun _ => ?_) (fun _ => Fo.none)
      refine Fo.ite (fun _ => ?_) (fun _ => Fo.none)
      refine FT.letI hσ (ho (by decide)) (fun s3 q270 => ?_)
      refine Fo.ite (fun _ => ?_) (fun _ => Fo.none)
      refine Fo.ite (fun _ => ?_) (fun _ => Fo.none)
      refine FT.letL q270 (ho (by decide)) (fun s7 q271 => ?_)
      refine Fo.bind (ft_tw_store hf (List.Subset.trans (by decide) ho)  q271) (fun x10 q272 => ?_)
      exact Fo.some q272
    · refine Fo.ite (fun _ => ?_) (fun _ => Fo.none)
      refine Fo.ite (fun _ => ?_) (fun _ => Fo.none)
      refine Fo.bind (ft_tw_text hf (List.Subset.trans (by decide) ho)  hσ) (fun x15 q273 => ?_)
      refine Fo.bind (ft_tw_store hf (List.Subset.trans (by decide) ho)  q273) (fun x18 q274 => ?_)
      exact Fo.some q274
  · refine Fo.ite (fun _ => ?_) (fun _ => Fo.none)
    refine FT.letI hσ (ho (by decide)) (fun s21 q275 => ?_)
    refine Fo.ite (fun _ => ?_) (fun _ => Fo.none)
    refine FT.letL q275 (ho (by decide)) (fun s24 q276 => ?_)
    refine Fo.bind (ft_tw_store hf (List.Subset.trans (by decide) ho)  q276) (fun x27 q277 => ?_)
    exact Fo.some q277
theorem ft_tw_close_l2 {fs os : List Nat} {σ0 : gMem} {N : Nat} {h : Nat} {K : gMem → Option gMem} (hf : [] ⊆ fs) (ho : [39] ⊆ os) (hK : ∀ (a0 : gMem), FT h fs os σ0 a0 → Fo (fun r => FT h fs os σ0 r) (K a0)) : ∀ (n : Nat) (z0 : Int) (z1 : gMem), FT h fs os σ0 z1 → Fo (fun r => FT h fs os σ0 r) (tw_close_l2 N h K n z0 z1) := by
  intro n
  induction n with
  | zero => intros; exact Fo.none
  | succ n ih =>
    intro v1 s hs
    unfold tw_close_l2
    refine Fo.ite (fun _ => ?_) (fun _ => ?_)
    · exact (hK _ hs)
    · refine Fo.ite (fun _ => ?_) (fun _ => Fo.none)
      refine Fo.ite (fun _ => ?_) (fun _ => Fo.none)
      refine FT.letL hs (ho (by decide)) (fun s2 q278 => ?_)
      exact (ih _ _ q278)
theorem ft_tw_close_l38_j93 {fs os : List Nat} {σ0 : gMem} {N : Nat} {h : Nat} {v1 : Int} {v2 : Int} {Kh : Int → gMem → Option gMem} {K : gMem → Option gMem} {s : gMem} (hf : [] ⊆ fs) (ho : [] ⊆ os) (hKh : ∀ (a0 : Int) (a1 : gMem), FT h fs os σ0 a1 → Fo (fun r => FT h fs os σ0 r) (Kh a0 a1)) (hK : ∀ (a0 : gMem), FT h fs os σ0 a0 → Fo (fun r => FT h fs os σ0 r) (K a0)) (hs : FT h fs os σ0 s) : Fo (fun r => FT h fs os σ0 r) (tw_close_l38_j93 N h v1 v2 Kh K s) := by
  unfold tw_close_l38_j93
  exact (hKh _ _ hs)
theorem ft_tw_close_l59 {fs os : List Nat} {σ0 : gMem} {N : Nat} {h : Nat} {v1 : Int} {v2 : Int} {K : gMem → Option gMem} (hf : [] ⊆ fs) (ho : [39] ⊆ os) (hK : ∀ (a0 : gMem), FT h fs os σ0 a0 → Fo (fun r => FT h fs os σ0 r) (K a0)) : ∀ (n : Nat) (z0 : Int) (z1 : gMem), FT h fs os σ0 z1 → Fo (fun r => FT h fs os σ0 r) (tw_close_l59 N h v1 v2 K n z0 z1) := by
  intro n
  induction n with
  | zero => intros; exact Fo.none
  | succ n ih =>
    intro v3 s hs
    unfold tw_close_l59
    refine Fo.ite (fun _ => ?_) (fun _ => ?_)
    · exact (hK _ hs)
    · refine Fo.ite (fun _ => ?_) (fun _ => Fo.none)
      refine Fo.ite (fun _ => ?_) (fun _ => Fo.none)
      refine Fo.ite (fun _ => ?_) (fun _ => Fo.none)
      refine FT.letL hs (ho (by decide)) (fun s11 q279 => ?_)
      exact (ih _ _ q279)
theorem ft_tw_close_l38 {fs os : List Nat} {σ0 : gMem} {N : Nat} {h : Nat} {v1 : Int} {K : gMem → Option gMem} (hf : [] ⊆ fs) (ho : [39] ⊆ os) (hK : ∀ (a0 : gMem), FT h fs os σ0 a0 → Fo (fun r => FT h fs os σ0 r) (K a0)) : ∀ (n : Nat) (z0 : Int) (z1 : gMem), FT h fs os σ0 z1 → Fo (fun r => FT h fs os σ0 r) (tw_close_l38 N h v1 K n z0 z1) := by
  intro n
  induction n with
  | zero => intros; exact Fo.none
  | succ n ih =>
    intro v2 s hs
    unfold tw_close_l38
    refine Fo.ite (fun _ => ?_) (fun _ => ?_)
    · exact (hK _ hs)
    · refine Fo.pure (fun x7 => ?_)
      refine Fo.ite (fun _ => ?_) (fun _ => ?_)
      · exact (ft_tw_close_l38_j93 hf (List.nil_subset _) (fun a0 a1 b1 => ih a0 a1 b1) hK hs)
      · exact (ft_tw_close_l59 hf ho (fun s14 q280 => by
      exact (ft_tw_close_l38_j93 hf (List.nil_subset _) (fun a0 a1 b1 => ih a0 a1 b1) hK q280))  _ _ _ hs)
theorem ft_tw_close_l29 {fs os : List Nat} {σ0 : gMem} {N : Nat} {h : Nat} {K : gMem → Option gMem} (hf : [] ⊆ fs) (ho : [39] ⊆ os) (hK : ∀ (a0 : gMem), FT h fs os σ0 a0 → Fo (fun r => FT h fs os σ0 r) (K a0)) : ∀ (n : Nat) (z0 : Int) (z1 : gMem), FT h fs os σ0 z1 → Fo (fun r => FT h fs os σ0 r) (tw_close_l29 N h K n z0 z1) := by
  intro n
  induction n with
  | zero => intros; exact Fo.none
  | succ n ih =>
    intro v1 s hs
    unfold tw_close_l29
    refine Fo.ite (fun _ => ?_) (fun _ => ?_)
    · exact (hK _ hs)
    · exact (ft_tw_close_l38 hf ho (fun s16 q282 => by
      exact (ih _ _ q282))  _ _ _ hs)
theorem ft_tw_close {fs os : List Nat} {σ0 : gMem} {N : Nat} {h : Nat} {σ : gMem} (hf : [] ⊆ fs) (ho : [39] ⊆ os) (hσ : FT h fs os σ0 σ) : Fo (fun r => FT h fs os σ0 r) (tw_close N h σ) := by
  unfold tw_close
  exact (ft_tw_close_l2 hf ho (fun s5 q284 => by
      exact (ft_tw_close_l29 hf ho (fun s18 q286 => by
        exact Fo.some q286)  _ _ _ q284))  _ _ _ hσ)
theorem ft_tw_asOther_j58 {fs os : List Nat} {σ0 : gMem} {N : Nat} {h : Nat} {v1 : Int} {v2 : Int} {s : gMem} (hf : [] ⊆ fs) (ho : [33, 34] ⊆ os) (hs : FT h fs os σ0 s) : Fo (fun r => FT h fs os σ0 r) (tw_asOther_j58 N h v1 v2 s) := by
  unfold tw_asOther_j58
  refine Fo.ite (fun _ => ?_) (fun _ => Fo.none)
  refine Fo.ite (fun _ => ?_) (fun _ => ?_)
  · exact Fo.some hs
  · refine Fo.ite (fun _ => ?_) (fun _ => Fo.none)
    refine Fo.ite (fun _ => ?_) (fun _ => ?_)
    · exact Fo.some hs
    · refine Fo.bind (ft_tw_truth hf ho  hs) (fun x5 q288 => ?_)
      exact Fo.some q288
theorem ft_tw_asOther_j28 {fs os : List Nat} {σ0 : gMem} {N : Nat} {h : Nat} {v1 : Int} {v2 : Int} {s : gMem} (hf : [] ⊆ fs) (ho : [33, 34, 35, 36] ⊆ os) (hs : FT h fs os σ0 s) : Fo (fun r => FT h fs os σ0 r) (tw_asOther_j28 N h v1 v2 s) := by
  unfold tw_asOther_j28
  refine Fo.ite (fun _ => ?_) (fun _ => Fo.none)
  refine Fo.ite (fun _ => ?_) (fun _ => ?_)
  · exact (ft_tw_asOther_j58 hf (List.Subset.trans (by decide) ho)  hs)
  · refine Fo.ite (fun _ => ?_) (fun _ => Fo.none)
    refine Fo.ite (fun _ => ?_) (fun _ => ?_)
    · exact (ft_tw_asOther_j58 hf (List.Subset.trans (by decide) ho)  hs)
    · refine Fo.bind (ft_tw_word hf (List.Subset.trans (by decide) ho)  hs) (fun x9 q289 => ?_)
      exact Fo.some q289
theorem ft_tw_asOther {fs os : List Nat} {σ0 : gMem} {N : Nat} {h : Nat} {v1 : Int} {v2 : Int} {σ : gMem} (hf : [] ⊆ fs) (ho : [33, 34, 35, 36] ⊆ os) (hσ : FT h fs os σ0 σ) : Fo (fun r => FT h fs os σ0 r) (tw_asOther N h v1 v2 σ) := by
  unfold tw_asOther
  refine Fo.ite (fun _ => ?_) (fun _ => Fo.none)
  refine Fo.ite (fun _ => ?_) (fun _ => ?_)
  · exact (ft_tw_asOther_j28 hf ho  hσ)
  · refine Fo.ite (fun _ => ?_) (fun _ => Fo.none)
    refine Fo.ite (fun _ => ?_) (fun _ => ?_)
    · exact (ft_tw_asOther_j28 hf ho  hσ)
    · refine Fo.bind (ft_tw_number hf (List.Subset.trans (by decide) ho)  hσ) (fun x13 q290 => ?_)
      exact Fo.some q290
theorem ft_tw_wantsText {fs os : List Nat} {σ0 : gMem} {N : Nat} {h : Nat} {v1 : Int} {σ : gMem} (hf : [] ⊆ fs) (ho : [33, 35, 36, 37] ⊆ os) (hσ : FT h fs os σ0 σ) : Fo (fun r => FT h fs os σ0 r) (tw_wantsText N h v1 σ) := by
  unfold tw_wantsText
  refine Fo.ite (fun _ => ?_) (fun _ => Fo.none)
  refine Fo.ite (fun _ => ?_) (fun _ => ?_)
  · refine Fo.ite (fun _ => ?_) (fun _ => Fo.none)
    refine Fo.ite (fun _ => ?_) (fun _ => ?_)
    · refine Fo.ite (fun _ => ?_) (fun _ => Fo.none)
      refine Fo.ite (fun _ => ?_) (fun _ => ?_)
      · exact Fo.some hσ
      · refine Fo.ite (fun _ => ?_) (fun _ => Fo.none)
        refine Fo.bind (ft_tw_decimal hf (List.Subset.trans (by decide) ho)  hσ) (fun x5 q291 => ?_)
        refine Fo.bind (ft_tw_text hf (List.Subset.trans (by decide) ho)  q291) (fun x9 q292 => ?_)
        exact Fo.some q292
    · refine Fo.ite (fun _ => ?_) (fun _ => Fo.none)
      refine Fo.ite (fun _ => ?_) (fun _ => ?_)
      · refine Fo.bind (ft_tw_word hf (List.Subset.trans (by decide) ho)  hσ) (fun x13 q293 => ?_)
        exact Fo.some q293
      · refine Fo.bind (ft_tw_word hf (List.Subset.trans (by decide) ho)  hσ) (fun x16 q294 => ?_)
        exact Fo.some q294
  · refine Fo.bind (ft_tw_word hf (List.Subset.trans (by decide) ho)  hσ) (fun x19 q295 => ?_)
    exact Fo.some q295
theorem ft_tw_reckon {fs os : List Nat} {σ0 : gMem} {h : Nat} {v1 : Int} {v2 : Int} {σ : gMem} (hf : [] ⊆ fs) (ho : [33, 34] ⊆ os) (hσ : FT h fs os σ0 σ) : Fo (fun r => FT h fs os σ0 r) (tw_reckon h v1 v2 σ) := by
  unfold tw_reckon
  refine Fo.ite (fun _ => ?_) (fun _ => Fo.none)
  refine Fo.ite (fun _ => ?_) (fun _ => Fo.none)
  refine Fo.ite (fun _ => ?_) (fun _ => ?_)
  · refine Fo.ite (fun _ => ?_) (fun _ => ?_)
    · refine Fo.ite (fun _ => ?_) (fun _ => ?_)
      · refine Fo.ite (fun _ => ?_) (fun _ => ?_)
        · refine Fo.ite (fun _ => ?_) (fun _ => ?_)
          · refine Fo.ite (fun _ => ?_) (fun _ => Fo.none)
            refine Fo.bind (ft_tw_number hf ho  hσ) (fun x3 q296 => ?_)
            exact Fo.some q296
          · refine Fo.ite (fun _ => ?_) (fun _ => Fo.none)
            refine Fo.bind (ft_tw_number hf ho  hσ) (fun x6 q297 => ?_)
            exact Fo.some q297
        · refine Fo.bind (ft_tw_error hf ho  hσ) (fun x9 q298 => ?_)
          exact Fo.some q298
      · refine Fo.bind (ft_tw_times hf ho  hσ) (fun x12 q299 => ?_)
        exact Fo.some q299
    · refine Fo.bind (ft_tw_number hf ho  hσ) (fun x15 q300 => ?_)
      exact Fo.some q300
  · refine Fo.bind (ft_tw_number hf ho  hσ) (fun x18 q301 => ?_)
    exact Fo.some q301
theorem ft_tw_workIf_j47 {fs os : List Nat} {σ0 : gMem} {N : Nat} {W : Int → Int → Int → gMem → Option gMem} {h : Nat} {v1 : Int} {v2 : Int} {v3 : Int} {t0 : Int} {s : gMem} (hf : [] ⊆ fs) (ho : [] ⊆ os) (hW : ∀ (a0 : Int) (a1 : Int) (a2 : Int) (a3 : gMem), FT h fs os σ0 a3 → Fo (fun r => FT h fs os σ0 r) (W a0 a1 a2 a3)) (hs : FT h fs os σ0 s) : Fo (fun r => FT h fs os σ0 r) (tw_workIf_j47 N W h v1 v2 v3 t0 s) := by
  unfold tw_workIf_j47
  refine Fo.ite (fun _ => ?_) (fun _ => ?_)
  · refine Fo.pure (fun x12 => ?_)
    refine Fo.bind (hW _ _ _ _ hs) (fun x14 q302 => ?_)
    exact Fo.some q302
  · refine Fo.pure (fun x17 => ?_)
    refine Fo.bind (hW _ _ _ _ hs) (fun x19 q303 => ?_)
    exact Fo.some q303
theorem ft_tw_workIf {fs os : List Nat} {σ0 : gMem} {N : Nat} {W : Int → Int → Int → gMem → Option gMem} {h : Nat} {v1 : Int} {v2 : Int} {v3 : Int} {σ : gMem} (hf : [] ⊆ fs) (ho : [33, 34] ⊆ os) (hW : ∀ (a0 : Int) (a1 : Int) (a2 : Int) (a3 : gMem), FT h fs os σ0 a3 → Fo (fun r => FT h fs os σ0 r) (W a0 a1 a2 a3)) (hσ : FT h fs os σ0 σ) : Fo (fun r => FT h fs os σ0 r) (tw_workIf N W h v1 v2 v3 σ) := by
  unfold tw_workIf
  refine Fo.pure (fun x1 => ?_)
  refine Fo.bind (hW _ _ _ _ hσ) (fun x3 q304 => ?_)
  refine Fo.ite (fun _ => ?_) (fun _ => Fo.none)
  refine Fo.ite (fun _ => ?_) (fun _ => ?_)
  · exact Fo.some q304
  · refine Fo.bind (ft_tw_wantsTruth hf ho  q304) (fun x7 q305 => ?_)
    refine Fo.ite (fun _ => ?_) (fun _ => ?_)
    · refine Fo.ite (fun _ => ?_) (fun _ => Fo.none)
      refine Fo.ite (fun _ => ?_) (fun _ => ?_)
      · exact (ft_tw_workIf_j47 hf (List.nil_subset _) hW q305)
      · exact (ft_tw_workIf_j47 hf (List.nil_subset _) hW q305)
    · exact Fo.some q305
theorem ft_tw_workOne {fs os : List Nat} {σ0 : gMem} {N : Nat} {W : Int → Int → Int → gMem → Option gMem} {h : Nat} {v1 : Int} {v2 : Int} {v3 : Int} {σ : gMem} (hf : [] ⊆ fs) (ho : [33, 34, 35, 36, 37] ⊆ os) (hW : ∀ (a0 : Int) (a1 : Int) (a2 : Int) (a3 : gMem), FT h fs os σ0 a3 → Fo (fun r => FT h fs os σ0 r) (W a0 a1 a2 a3)) (hσ : FT h fs os σ0 σ) : Fo (fun r => FT h fs os σ0 r) (tw_workOne N W h v1 v2 v3 σ) := by
  unfold tw_workOne
  refine Fo.bind (hW _ _ _ _ hσ) (fun x1 q306 => ?_)
  refine Fo.ite (fun _ => ?_) (fun _ => Fo.none)
  refine Fo.ite (fun _ => ?_) (fun _ => ?_)
  · refine Fo.ite (fun _ => ?_) (fun _ => Fo.none)
    refine Fo.ite (fun _ => ?_) (fun _ => ?_)
    · refine Fo.ite (fun _ => ?_) (fun _ => ?_)
      · refine Fo.ite (fun _ => ?_) (fun _ => ?_)
        · refine Fo.bind (ft_tw_wantsNumber hf (List.Subset.trans (by decide) ho)  q306) (fun x6 q307 => ?_)
          refine Fo.ite (fun _ => ?_) (fun _ => ?_)
          · exact Fo.some q307
          · refine Fo.ite (fun _ => ?_) (fun _ => Fo.none)
            refine Fo.ite (fun _ => ?_) (fun _ => ?_)
            · refine Fo.ite (fun _ => ?_) (fun _ => Fo.none)
              refine Fo.bind (ft_tw_number hf (List.Subset.trans (by decide) ho)  q307) (fun x12 q308 => ?_)
              exact Fo.some q308
            · refine Fo.ite (fun _ => ?_) (fun _ => Fo.none)
              refine Fo.bind (ft_tw_number hf (List.Subset.trans (by decide) ho)  q307) (fun x16 q309 => ?_)
              exact Fo.some q309
        · refine Fo.bind (ft_tw_wantsTruth hf (List.Subset.trans (by decide) ho)  q306) (fun x19 q310 => ?_)
          refine Fo.ite (fun _ => ?_) (fun _ => ?_)
          · exact Fo.some q310
          · refine Fo.ite (fun _ => ?_) (fun _ => Fo.none)
            refine Fo.ite (fun _ => ?_) (fun _ => ?_)
            · refine Fo.bind (ft_tw_truth hf (List.Subset.trans (by decide) ho)  q310) (fun x24 q311 => ?_)
              exact Fo.some q311
            · refine Fo.bind (ft_tw_truth hf (List.Subset.trans (by decide) ho)  q310) (fun x27 q312 => ?_)
              exact Fo.some q312
      · refine Fo.bind (ft_tw_wantsText hf (List.Subset.trans (by decide) ho)  q306) (fun x30 q313 => ?_)
        refine Fo.ite (fun _ => ?_) (fun _ => Fo.none)
        refine Fo.bind (ft_tw_number hf (List.Subset.trans (by decide) ho)  q313) (fun x34 q314 => ?_)
        exact Fo.some q314
    · exact Fo.some q306
  · refine Fo.ite (fun _ => ?_) (fun _ => Fo.none)
    refine Fo.ite (fun _ => ?_) (fun _ => ?_)
    · refine Fo.bind (ft_tw_truth hf (List.Subset.trans (by decide) ho)  q306) (fun x38 q315 => ?_)
      exact Fo.some q315
    · refine Fo.bind (ft_tw_truth hf (List.Subset.trans (by decide) ho)  q306) (fun x41 q316 => ?_)
      exact Fo.some q316
theorem ft_tw_workEnd_l161 {fs os : List Nat} {σ0 : gMem} {N : Nat} {W : Int → Int → Int → gMem → Option gMem} {h : Nat} {v3 : Int} {v4 : Int} {v5 : Int} {K : gMem → Option gMem} (hf : [] ⊆ fs) (ho : [36] ⊆ os) (hW : ∀ (a0 : Int) (a1 : Int) (a2 : Int) (a3 : gMem), FT h fs os σ0 a3 → Fo (fun r => FT h fs os σ0 r) (W a0 a1 a2 a3)) (hK : ∀ (a0 : gMem), FT h fs os σ0 a0 → Fo (fun r => FT h fs os σ0 r) (K a0)) : ∀ (n : Nat) (z0 : Int) (z1 : gMem), FT h fs os σ0 z1 → Fo (fun r => FT h fs os σ0 r) (tw_workEnd_l161 N W h v3 v4 v5 K n z0 z1) := by
  intro n
  induction n with
  | zero => intros; exact Fo.none
  | succ n ih =>
    intro v6 s hs
    unfold tw_workEnd_l161
    refine Fo.ite (fun _ => ?_) (fun _ => ?_)
    · exact (hK _ hs)
    · refine Fo.ite (fun _ => ?_) (fun _ => Fo.none)
      refine Fo.ite (fun _ => ?_) (fun _ => Fo.none)
      refine Fo.ite (fun _ => ?_) (fun _ => Fo.none)
      refine FT.letI hs (ho (by decide)) (fun s31 q317 => ?_)
      exact (ih _ _ q317)
theorem ft_tw_workEnd_j156 {fs os : List Nat} {σ0 : gMem} {N : Nat} {W : Int → Int → Int → gMem → Option gMem} {h : Nat} {v3 : Int} {v4 : Int} {t0 : Int} {s : gMem} (hf : [] ⊆ fs) (ho : [35, 36] ⊆ os) (hW : ∀ (a0 : Int) (a1 : Int) (a2 : Int) (a3 : gMem), FT h fs os σ0 a3 → Fo (fun r => FT h fs os σ0 r) (W a0 a1 a2 a3)) (hs : FT h fs os σ0 s) : Fo (fun r => FT h fs os σ0 r) (tw_workEnd_j156 N W h v3 v4 t0 s) := by
  unfold tw_workEnd_j156
  exact (ft_tw_workEnd_l161 hf (List.Subset.trans (by decide) ho) hW (fun s34 q318 => by
      refine Fo.ite (fun _ => ?_) (fun _ => Fo.none)
      refine FT.letI q318 (ho (by decide)) (fun s36 q320 => ?_)
      exact Fo.some q320)  _ _ _ hs)
theorem ft_tw_workEnd_j130 {fs os : List Nat} {σ0 : gMem} {N : Nat} {W : Int → Int → Int → gMem → Option gMem} {h : Nat} {v1 : Int} {v3 : Int} {t0 : Int} {s : gMem} (hf : [] ⊆ fs) (ho : [35, 36] ⊆ os) (hW : ∀ (a0 : Int) (a1 : Int) (a2 : Int) (a3 : gMem), FT h fs os σ0 a3 → Fo (fun r => FT h fs os σ0 r) (W a0 a1 a2 a3)) (hs : FT h fs os σ0 s) : Fo (fun r => FT h fs os σ0 r) (tw_workEnd_j130 N W h v1 v3 t0 s) := by
  unfold tw_workEnd_j130
  refine Fo.ite (fun _ => ?_) (fun _ => Fo.none)
  refine Fo.ite (fun _ => ?_) (fun _ => ?_)
  · refine Fo.ite (fun _ => ?_) (fun _ => Fo.none)
    exact (ft_tw_workEnd_j156 hf ho hW hs)
  · exact (ft_tw_workEnd_j156 hf ho hW hs)
theorem ft_tw_workEnd {fs os : List Nat} {σ0 : gMem} {N : Nat} {W : Int → Int → Int → gMem → Option gMem} {h : Nat} {v1 : Int} {v2 : Int} {v3 : Int} {σ : gMem} (hf : [] ⊆ fs) (ho : [33, 34, 35, 36, 37] ⊆ os) (hW : ∀ (a0 : Int) (a1 : Int) (a2 : Int) (a3 : gMem), FT h fs os σ0 a3 → Fo (fun r => FT h fs os σ0 r) (W a0 a1 a2 a3)) (hσ : FT h fs os σ0 σ) : Fo (fun r => FT h fs os σ0 r) (tw_workEnd N W h v1 v2 v3 σ) := by
  unfold tw_workEnd
  refine Fo.pure (fun x1 => ?_)
  refine Fo.bind (hW _ _ _ _ hσ) (fun x3 q321 => ?_)
  refine Fo.ite (fun _ => ?_) (fun _ => Fo.none)
  refine Fo.ite (fun _ => ?_) (fun _ => ?_)
  · refine Fo.pure (fun x7 => ?_)
    refine Fo.bind (hW _ _ _ _ q321) (fun x9 q322 => ?_)
    refine Fo.ite (fun _ => ?_) (fun _ => Fo.none)
    refine Fo.ite (fun _ => ?_) (fun _ => ?_)
    · refine Fo.bind (ft_tw_wantsText hf (List.Subset.trans (by decide) ho)  q322) (fun x13 q323 => ?_)
      refine Fo.bind (ft_tw_wantsNumber hf (List.Subset.trans (by decide) ho)  q323) (fun x16 q324 => ?_)
      refine Fo.ite (fun _ => ?_) (fun _ => ?_)
      · refine Fo.bind (ft_tw_error hf (List.Subset.trans (by decide) ho)  q324) (fun x20 q325 => ?_)
        exact Fo.some q325
      · refine Fo.ite (fun _ => ?_) (fun _ => Fo.none)
        refine Fo.ite (fun _ => ?_) (fun _ => ?_)
        · refine Fo.ite (fun _ => ?_) (fun _ => Fo.none)
          refine Fo.ite (fun _ => ?_) (fun _ => Fo.none)
          refine Fo.ite (fun _ => ?_) (fun _ => ?_)
          · refine Fo.ite (fun _ => ?_) (fun _ => Fo.none)
            exact (ft_tw_workEnd_j130 hf (List.Subset.trans (by decide) ho) hW q324)
          · refine Fo.ite (fun _ => ?_) (fun _ => Fo.none)
            exact (ft_tw_workEnd_j130 hf (List.Subset.trans (by decide) ho) hW q324)
        · refine Fo.bind (ft_tw_error hf (List.Subset.trans (by decide) ho)  q324) (fun x40 q326 => ?_)
          exact Fo.some q326
    · refine Fo.bind (ft_tw_bring hf (List.Subset.trans (by decide) ho)  q322) (fun x43 q327 => ?_)
      exact Fo.some q327
  · exact Fo.some q321
theorem ft_tw_isLike {fs os : List Nat} {σ0 : gMem} {N : Nat} {h : Nat} {v1 : Int} {v2 : Int} {σ : gMem} (hf : [] ⊆ fs) (ho : [33, 34, 35, 36] ⊆ os) (hσ : FT h fs os σ0 σ) : Fo (fun r => FT h fs os σ0 r.2) (tw_isLike N h v1 v2 σ) := by
  unfold tw_isLike
  refine Fo.bind (ft_tw_load hf ho  hσ) (fun x1 q328 => ?_)
  refine Fo.ite (fun _ => ?_) (fun _ => Fo.none)
  refine Fo.ite (fun _ => ?_) (fun _ => ?_)
  · refine Fo.bind (ft_tw_bring hf ho  q328) (fun x5 q329 => ?_)
    refine Fo.bind (ft_tw_asOther hf ho  q329) (fun x8 q330 => ?_)
    refine Fo.bind (ft_tw_asOther hf ho  q330) (fun x11 q331 => ?_)
    refine Fo.ite (fun _ => ?_) (fun _ => Fo.none)
    refine Fo.ite (fun _ => ?_) (fun _ => Fo.none)
    refine Fo.ite (fun _ => ?_) (fun _ => ?_)
    · exact Fo.some q331
    · refine Fo.pure (fun x16 => ?_)
      refine Fo.ite (fun _ => ?_) (fun _ => ?_)
      · exact Fo.some q331
      · exact Fo.some q331
  · exact Fo.some q328
theorem ft_tw_putPlace_j168 {fs os : List Nat} {σ0 : gMem} {N : Nat} {h : Nat} {v1 : Int} {s : gMem} (hf : [87] ⊆ fs) (ho : [37, 42] ⊆ os) (hs : FT h fs os σ0 s) : Fo (fun r => FT h fs os σ0 r) (tw_putPlace_j168 N h v1 s) := by
  unfold tw_putPlace_j168
  refine Fo.ite (fun _ => ?_) (fun _ => Fo.none)
  refine Fo.ite (fun _ => ?_) (fun _ => ?_)
  · exact Fo.some hs
  · refine Fo.bind (ft_tw_put hf (List.Subset.trans (by decide) ho)  hs) (fun x24 q332 => ?_)
    refine Fo.ite (fun _ => ?_) (fun _ => Fo.none)
    refine Fo.bind (ft_tw_putNumber hf ho  q332) (fun x28 q333 => ?_)
    exact Fo.some q333
theorem ft_tw_putPlace_j97 {fs os : List Nat} {σ0 : gMem} {N : Nat} {h : Nat} {v1 : Int} {v4 : Int} {v5 : Int} {v6 : Int} {v7 : Int} {t0 : Int} {s : gMem} (hf : [87] ⊆ fs) (ho : [37, 42] ⊆ os) (hs : FT h fs os σ0 s) : Fo (fun r => FT h fs os σ0 r) (tw_putPlace_j97 N h v1 v4 v5 v6 v7 t0 s) := by
  unfold tw_putPlace_j97
  refine Fo.ite (fun _ => ?_) (fun _ => ?_)
  · refine Fo.bind (ft_tw_say hf (List.Subset.trans (by decide) ho)  hs) (fun x10 q334 => ?_)
    exact Fo.some q334
  · refine Fo.ite (fun _ => ?_) (fun _ => ?_)
    · refine Fo.bind (ft_tw_say hf (List.Subset.trans (by decide) ho)  hs) (fun x13 q335 => ?_)
      exact Fo.some q335
    · refine Fo.ite (fun _ => ?_) (fun _ => ?_)
      · refine Fo.bind (ft_tw_say hf (List.Subset.trans (by decide) ho)  hs) (fun x16 q336 => ?_)
        exact Fo.some q336
      · refine Fo.ite (fun _ => ?_) (fun _ => ?_)
        · refine Fo.ite (fun _ => ?_) (fun _ => Fo.none)
          refine Fo.bind (ft_tw_putCorner hf ho  hs) (fun x20 q337 => ?_)
          refine Fo.ite (fun _ => ?_) (fun _ => ?_)
          · exact (ft_tw_putPlace_j168 hf ho  q337)
          · refine Fo.bind (ft_tw_put hf (List.Subset.trans (by decide) ho)  q337) (fun x31 q338 => ?_)
            refine Fo.ite (fun _ => ?_) (fun _ => Fo.none)
            refine Fo.bind (ft_tw_putCorner hf ho  q338) (fun x35 q339 => ?_)
            exact (ft_tw_putPlace_j168 hf ho  q339)
        · refine Fo.bind (ft_tw_say hf (List.Subset.trans (by decide) ho)  hs) (fun x38 q340 => ?_)
          exact Fo.some q340
theorem ft_tw_putPlace_j74 {fs os : List Nat} {σ0 : gMem} {N : Nat} {h : Nat} {v1 : Int} {v3 : Int} {v4 : Int} {v5 : Int} {v6 : Int} {t0 : Int} {s : gMem} (hf : [87] ⊆ fs) (ho : [37, 42] ⊆ os) (hs : FT h fs os σ0 s) : Fo (fun r => FT h fs os σ0 r) (tw_putPlace_j74 N h v1 v3 v4 v5 v6 t0 s) := by
  unfold tw_putPlace_j74
  refine Fo.ite (fun _ => ?_) (fun _ => ?_)
  · exact (ft_tw_putPlace_j97 hf ho  hs)
  · refine Fo.ite (fun _ => ?_) (fun _ => Fo.none)
    refine Fo.pure (fun x42 => ?_)
    exact (ft_tw_putPlace_j97 hf ho  hs)
theorem ft_tw_putPlace_j23 {fs os : List Nat} {σ0 : gMem} {N : Nat} {h : Nat} {v1 : Int} {v3 : Int} {t0 : Int} {s : gMem} (hf : [87] ⊆ fs) (ho : [37, 42] ⊆ os) (hs : FT h fs os σ0 s) : Fo (fun r => FT h fs os σ0 r) (tw_putPlace_j23 N h v1 v3 t0 s) := by
  unfold tw_putPlace_j23
  refine Fo.ite (fun _ => ?_) (fun _ => Fo.none)
  refine Fo.pure (fun x5 => ?_)
  refine Fo.ite (fun _ => ?_) (fun _ => Fo.none)
  refine Fo.pure (fun x8 => ?_)
  refine Fo.ite (fun _ => ?_) (fun _ => ?_)
  · exact (ft_tw_putPlace_j74 hf ho  hs)
  · refine Fo.ite (fun _ => ?_) (fun _ => Fo.none)
    refine Fo.pure (fun x45 => ?_)
    exact (ft_tw_putPlace_j74 hf ho  hs)
theorem ft_tw_putPlace {fs os : List Nat} {σ0 : gMem} {N : Nat} {h : Nat} {v1 : Int} {v2 : Int} {σ : gMem} (hf : [87] ⊆ fs) (ho : [37, 42] ⊆ os) (hσ : FT h fs os σ0 σ) : Fo (fun r => FT h fs os σ0 r) (tw_putPlace N h v1 v2 σ) := by
  unfold tw_putPlace
  refine Fo.pure (fun x1 => ?_)
  refine Fo.ite (fun _ => ?_) (fun _ => Fo.none)
  refine Fo.ite (fun _ => ?_) (fun _ => ?_)
  · exact (ft_tw_putPlace_j23 hf ho  hσ)
  · exact (ft_tw_putPlace_j23 hf ho  hσ)
theorem ft_tw_comeLine_l19 {fs os : List Nat} {σ0 : gMem} {N : Nat} {h : Nat} {v1 : Int} {v2 : Int} {v3 : Int} {v4 : Int} {K : gMem → Option gMem} (hf : [] ⊆ fs) (ho : [5] ⊆ os) (hK : ∀ (a0 : gMem), FT h fs os σ0 a0 → Fo (fun r => FT h fs os σ0 r) (K a0)) : ∀ (n : Nat) (z0 : Int) (z1 : gMem), FT h fs os σ0 z1 → Fo (fun r => FT h fs os σ0 r) (tw_comeLine_l19 N h v1 v2 v3 v4 K n z0 z1) := by
  intro n
  induction n with
  | zero => intros; exact Fo.none
  | succ n ih =>
    intro v5 s hs
    unfold tw_comeLine_l19
    refine Fo.pure (fun x6 => ?_)
    refine Fo.ite (fun _ => ?_) (fun _ => ?_)
    · exact (hK _ hs)
    · refine Fo.pure (fun x8 => ?_)
      refine Fo.pure (fun x10 => ?_)
      refine Fo.ite (fun _ => ?_) (fun _ => Fo.none)
      refine Fo.ite (fun _ => ?_) (fun _ => Fo.none)
      refine FT.letI hs (ho (by decide)) (fun s13 q341 => ?_)
      exact (ih _ _ q341)
theorem ft_tw_comeLine {fs os : List Nat} {σ0 : gMem} {N : Nat} {h : Nat} {v1 : Int} {v2 : Int} {v3 : Int} {v4 : Int} {σ : gMem} (hf : [] ⊆ fs) (ho : [3, 4, 5] ⊆ os) (hσ : FT h fs os σ0 σ) : Fo (fun r => FT h fs os σ0 r) (tw_comeLine N h v1 v2 v3 v4 σ) := by
  unfold tw_comeLine
  refine Fo.pure (fun x1 => ?_)
  refine Fo.bind (ft_tw_setLine hf (List.Subset.trans (by decide) ho)  hσ) (fun x3 q342 => ?_)
  exact (ft_tw_comeLine_l19 hf (List.Subset.trans (by decide) ho) (fun s16 q343 => by
      exact Fo.some q343)  _ _ _ q342)
theorem ft_tw_goLine_l12 {fs os : List Nat} {σ0 : gMem} {N : Nat} {h : Nat} {v1 : Int} {v3 : Int} {v4 : Int} {K : gMem → Option gMem} (hf : [] ⊆ fs) (ho : [3, 4, 5] ⊆ os) (hK : ∀ (a0 : gMem), FT h fs os σ0 a0 → Fo (fun r => FT h fs os σ0 r) (K a0)) : ∀ (n : Nat) (z0 : Int) (z1 : gMem), FT h fs os σ0 z1 → Fo (fun r => FT h fs os σ0 r) (tw_goLine_l12 N h v1 v3 v4 K n z0 z1) := by
  intro n
  induction n with
  | zero => intros; exact Fo.none
  | succ n ih =>
    intro v5 s hs
    unfold tw_goLine_l12
    refine Fo.ite (fun _ => ?_) (fun _ => ?_)
    · exact (hK _ hs)
    · refine Fo.bind (ft_tw_comeLine hf ho  hs) (fun x3 q345 => ?_)
      exact (ih _ _ q345)
theorem ft_tw_goLine {fs os : List Nat} {σ0 : gMem} {N : Nat} {h : Nat} {v1 : Int} {v2 : Int} {v3 : Int} {σ : gMem} (hf : [] ⊆ fs) (ho : [1, 2, 3, 4, 5] ⊆ os) (hσ : FT h fs os σ0 σ) : Fo (fun r => FT h fs os σ0 r) (tw_goLine N h v1 v2 v3 σ) := by
  unfold tw_goLine
  refine Fo.pure (fun x1 => ?_)
  exact (ft_tw_goLine_l12 hf (List.Subset.trans (by decide) ho) (fun s6 q346 => by
      refine Fo.bind (ft_tw_emptyLine hf (List.Subset.trans (by decide) ho)  q346) (fun x8 q348 => ?_)
      refine Fo.bind (ft_tw_setLines hf (List.Subset.trans (by decide) ho)  q348) (fun x11 q349 => ?_)
      exact Fo.some q349)  _ _ _ hσ)
theorem ft_tw_move_l76 {fs os : List Nat} {σ0 : gMem} {N : Nat} {h : Nat} {v1 : Int} {v2 : Int} {v3 : Int} {v5 : Int} {v6 : Int} {K : gMem → Option (Int × gMem)} (hf : [] ⊆ fs) (ho : [3, 4, 5] ⊆ os) (hK : ∀ (a0 : gMem), FT h fs os σ0 a0 → Fo (fun r => FT h fs os σ0 r.2) (K a0)) : ∀ (n : Nat) (z0 : Int) (z1 : gMem), FT h fs os σ0 z1 → Fo (fun r => FT h fs os σ0 r.2) (tw_move_l76 N h v1 v2 v3 v5 v6 K n z0 z1) := by
  intro n
  induction n with
  | zero => intros; exact Fo.none
  | succ n ih =>
    intro v7 s hs
    unfold tw_move_l76
    refine Fo.ite (fun _ => ?_) (fun _ => ?_)
    · exact (hK _ hs)
    · refine Fo.bind (ft_tw_comeLine hf ho  hs) (fun x20 q350 => ?_)
      exact (ih _ _ q350)
theorem ft_tw_move_j71 {fs os : List Nat} {σ0 : gMem} {N : Nat} {h : Nat} {v1 : Int} {v2 : Int} {v3 : Int} {v5 : Int} {t0 : Int} {s : gMem} (hf : [] ⊆ fs) (ho : [3, 4, 5] ⊆ os) (hs : FT h fs os σ0 s) : Fo (fun r => FT h fs os σ0 r.2) (tw_move_j71 N h v1 v2 v3 v5 t0 s) := by
  unfold tw_move_j71
  exact (ft_tw_move_l76 hf ho (fun s23 q351 => by
      refine Fo.bind (ft_tw_comeLine hf ho  q351) (fun x25 q353 => ?_)
      refine Fo.ite (fun _ => ?_) (fun _ => ?_)
      · exact Fo.some q353
      · exact Fo.some q353)  _ _ _ hs)
theorem ft_tw_move {fs os : List Nat} {σ0 : gMem} {N : Nat} {h : Nat} {v1 : Int} {v2 : Int} {v3 : Int} {σ : gMem} (hf : [0, 15, 16, 17, 65] ⊆ fs) (ho : [1, 2, 3, 4, 5] ⊆ os) (hσ : FT h fs os σ0 σ) : Fo (fun r => FT h fs os σ0 r.2) (tw_move N h v1 v2 v3 σ) := by
  unfold tw_move
  refine FT.letIf hσ (hf (by decide)) (fun s1 q354 => ?_)
  refine Fo.pure (fun x4 => ?_)
  refine Fo.ite (fun _ => ?_) (fun _ => ?_)
  · refine Fo.pure (fun x6 => ?_)
    refine Fo.pure (fun x8 => ?_)
    refine Fo.ite (fun _ => ?_) (fun _ => ?_)
    · refine Fo.bind (ft_tw_throwing (List.Subset.trans (by decide) hf) (List.nil_subset _)  q354) (fun x10 q355 => ?_)
      exact Fo.some q355
    · refine Fo.pure (fun x14 => ?_)
      refine Fo.ite (fun _ => ?_) (fun _ => ?_)
      · refine Fo.bind (ft_tw_step (List.Subset.trans (by decide) hf) ho  q354) (fun x16 q356 => ?_)
        refine Fo.ite (fun _ => ?_) (fun _ => ?_)
        · exact (ft_tw_move_j71 (List.nil_subset _) (List.Subset.trans (by decide) ho)  q356)
        · exact (ft_tw_move_j71 (List.nil_subset _) (List.Subset.trans (by decide) ho)  q356)
      · refine Fo.bind (ft_tw_throwing (List.Subset.trans (by decide) hf) (List.nil_subset _)  q354) (fun x28 q357 => ?_)
        exact Fo.some q357
  · refine Fo.bind (ft_tw_throwing (List.Subset.trans (by decide) hf) (List.nil_subset _)  q354) (fun x32 q358 => ?_)
    exact Fo.some q358
theorem ft_tw_isAhead_j34 {fs os : List Nat} {σ0 : gMem} {N : Nat} {h : Nat} {v4 : Int} {v5 : Int} {s : gMem} (hf : [] ⊆ fs) (ho : [] ⊆ os) (hs : FT h fs os σ0 s) : Fo (fun r => FT h fs os σ0 r.2) (tw_isAhead_j34 N h v4 v5 s) := by
  unfold tw_isAhead_j34
  refine Fo.ite (fun _ => ?_) (fun _ => ?_)
  · exact Fo.some hs
  · exact Fo.some hs
theorem ft_tw_isAhead_j66 {fs os : List Nat} {σ0 : gMem} {N : Nat} {h : Nat} {v3 : Int} {t0 : Int} {s : gMem} (hf : [] ⊆ fs) (ho : [] ⊆ os) (hs : FT h fs os σ0 s) : Fo (fun r => FT h fs os σ0 r.2) (tw_isAhead_j66 N h v3 t0 s) := by
  unfold tw_isAhead_j66
  refine Fo.ite (fun _ => ?_) (fun _ => ?_)
  · exact Fo.some hs
  · exact Fo.some hs
theorem ft_tw_isAhead {fs os : List Nat} {σ0 : gMem} {N : Nat} {h : Nat} {v1 : Int} {v2 : Int} {v3 : Int} {σ : gMem} (hf : [] ⊆ fs) (ho : [33, 34, 35, 36] ⊆ os) (hσ : FT h fs os σ0 σ) : Fo (fun r => FT h fs os σ0 r.2) (tw_isAhead N h v1 v2 v3 σ) := by
  unfold tw_isAhead
  refine Fo.ite (fun _ => ?_) (fun _ => Fo.none)
  refine Fo.pure (fun x2 => ?_)
  refine Fo.ite (fun _ => ?_) (fun _ => Fo.none)
  refine Fo.pure (fun x5 => ?_)
  refine Fo.ite (fun _ => ?_) (fun _ => ?_)
  · exact (ft_tw_isAhead_j34 hf (List.nil_subset _)  hσ)
  · refine Fo.ite (fun _ => ?_) (fun _ => ?_)
    · refine Fo.ite (fun _ => ?_) (fun _ => ?_)
      · refine Fo.ite (fun _ => ?_) (fun _ => ?_)
        · refine Fo.bind (ft_tw_load hf ho  hσ) (fun x7 q359 => ?_)
          refine Fo.bind (ft_tw_load hf ho  q359) (fun x10 q360 => ?_)
          refine Fo.pure (fun x13 => ?_)
          refine Fo.ite (fun _ => ?_) (fun _ => ?_)
          · refine Fo.ite (fun _ => ?_) (fun _ => ?_)
            · exact Fo.some q360
            · exact Fo.some q360
          · refine Fo.ite (fun _ => ?_) (fun _ => ?_)
            · exact Fo.some q360
            · exact Fo.some q360
        · exact Fo.some hσ
      · refine Fo.ite (fun _ => ?_) (fun _ => ?_)
        · exact (ft_tw_isAhead_j66 hf (List.nil_subset _)  hσ)
        · exact (ft_tw_isAhead_j66 hf (List.nil_subset _)  hσ)
    · exact (ft_tw_isAhead_j34 hf (List.nil_subset _)  hσ)
theorem ft_tw_commit {fs os : List Nat} {σ0 : gMem} {N : Nat} {h : Nat} {σ : gMem} (hf : [0, 8, 13, 65, 98] ⊆ fs) (ho : [1, 2, 3, 4, 5, 6, 7, 8] ⊆ os) (hσ : FT h fs os σ0 σ) : Fo (fun r => FT h fs os σ0 r.2) (tw_commit N h σ) := by
  unfold tw_commit
  refine FT.letIf hσ (hf (by decide)) (fun s1 q361 => ?_)
  refine Fo.pure (fun x4 => ?_)
  refine Fo.ite (fun _ => ?_) (fun _ => ?_)
  · refine Fo.ite (fun _ => ?_) (fun _ => ?_)
    · refine Fo.bind (ft_tw_copySheet (List.Subset.trans (by decide) hf) (List.Subset.trans (by decide) ho)  q361) (fun x8 q362 => ?_)
      refine Fo.pure (fun x11 => ?_)
      refine Fo.ite (fun _ => ?_) (fun _ => Fo.none)
      refine FT.letI q362 (ho (by decide)) (fun s13 q363 => ?_)
      refine Fo.ite (fun _ => ?_) (fun _ => Fo.none)
      refine FT.letI q363 (ho (by decide)) (fun s17 q364 => ?_)
      refine FT.letIf q364 (hf (by decide)) (fun s20 q365 => ?_)
      refine FT.letIf q365 (hf (by decide)) (fun s23 q366 => ?_)
      refine Fo.ite (fun _ => ?_) (fun _ => Fo.none)
      refine FT.letI q366 (ho (by decide)) (fun s27 q367 => ?_)
      refine FT.letIf q367 (hf (by decide)) (fun s31 q368 => ?_)
      exact Fo.some q368
    · refine Fo.bind (ft_tw_throwing (List.Subset.trans (by decide) hf) (List.nil_subset _)  q361) (fun x34 q369 => ?_)
      exact Fo.some q369
  · refine Fo.bind (ft_tw_throwing (List.Subset.trans (by decide) hf) (List.nil_subset _)  q361) (fun x38 q370 => ?_)
    exact Fo.some q370
theorem ft_tw_become {fs os : List Nat} {σ0 : gMem} {N : Nat} {h : Nat} {v1 : Int} {σ : gMem} (hf : [13, 16, 17, 65, 98] ⊆ fs) (ho : [1, 2, 3, 4, 5] ⊆ os) (hσ : FT h fs os σ0 σ) : Fo (fun r => FT h fs os σ0 r) (tw_become N h v1 σ) := by
  unfold tw_become
  refine Fo.bind (ft_tw_copySheet (List.Subset.trans (by decide) hf) ho  hσ) (fun x1 q371 => ?_)
  refine FT.letIf q371 (hf (by decide)) (fun s4 q372 => ?_)
  refine FT.letIf q372 (hf (by decide)) (fun s7 q373 => ?_)
  refine Fo.bind (ft_tw_forgetSteps (List.Subset.trans (by decide) hf) (List.nil_subset _)  q373) (fun x10 q374 => ?_)
  exact Fo.some q374
theorem ft_tw_drop {fs os : List Nat} {σ0 : gMem} {N : Nat} {h : Nat} {σ : gMem} (hf : [0, 13, 16, 17, 65, 98] ⊆ fs) (ho : [1, 2, 3, 4, 5] ⊆ os) (hσ : FT h fs os σ0 σ) : Fo (fun r => FT h fs os σ0 r.2) (tw_drop N h σ) := by
  unfold tw_drop
  refine FT.letIf hσ (hf (by decide)) (fun s1 q375 => ?_)
  refine Fo.pure (fun x4 => ?_)
  refine Fo.bind (ft_tw_become (List.Subset.trans (by decide) hf) ho  q375) (fun x6 q376 => ?_)
  refine Fo.pure (fun x9 => ?_)
  exact Fo.some q376
theorem ft_tw_base_l60_j78 {fs os : List Nat} {σ0 : gMem} {N : Nat} {h : Nat} {v3 : Int} {Kh : Int → gMem → Option (Int × gMem)} {K : Int → gMem → Option (Int × gMem)} {s : gMem} (hf : [] ⊆ fs) (ho : [] ⊆ os) (hKh : ∀ (a0 : Int) (a1 : gMem), FT h fs os σ0 a1 → Fo (fun r => FT h fs os σ0 r.2) (Kh a0 a1)) (hK : ∀ (a0 : Int) (a1 : gMem), FT h fs os σ0 a1 → Fo (fun r => FT h fs os σ0 r.2) (K a0 a1)) (hs : FT h fs os σ0 s) : Fo (fun r => FT h fs os σ0 r.2) (tw_base_l60_j78 N h v3 Kh K s) := by
  unfold tw_base_l60_j78
  exact (hKh _ _ hs)
theorem ft_tw_base_l60 {fs os : List Nat} {σ0 : gMem} {N : Nat} {h : Nat} {K : Int → gMem → Option (Int × gMem)} (hf : [] ⊆ fs) (ho : [] ⊆ os) (hK : ∀ (a0 : Int) (a1 : gMem), FT h fs os σ0 a1 → Fo (fun r => FT h fs os σ0 r.2) (K a0 a1)) : ∀ (n : Nat) (z0 : Int) (z1 : gMem), FT h fs os σ0 z1 → Fo (fun r => FT h fs os σ0 r.2) (tw_base_l60 N h K n z0 z1) := by
  intro n
  induction n with
  | zero => intros; exact Fo.none
  | succ n ih =>
    intro v3 s hs
    unfold tw_base_l60
    refine Fo.ite (fun _ => ?_) (fun _ => Fo.none)
    refine Fo.ite (fun _ => ?_) (fun _ => ?_)
    · exact (ft_tw_base_l60_j78 hf ho (fun a0 a1 b1 => ih a0 a1 b1) hK hs)
    · refine Fo.ite (fun _ => ?_) (fun _ => Fo.none)
      refine Fo.ite (fun _ => ?_) (fun _ => ?_)
      · exact (hK _ _ hs)
      · exact (ft_tw_base_l60_j78 hf ho (fun a0 a1 b1 => ih a0 a1 b1) hK hs)
theorem ft_tw_base {fs os : List Nat} {σ0 : gMem} {N : Nat} {h : Nat} {v1 : Int} {v2 : Int} {σ : gMem} (hf : [0] ⊆ fs) (ho : [44, 45] ⊆ os) (hσ : FT h fs os σ0 σ) : Fo (fun r => FT h fs os σ0 r.2) (tw_base N h v1 v2 σ) := by
  unfold tw_base
  refine FT.letIf hσ (hf (by decide)) (fun s1 q377 => ?_)
  refine Fo.pure (fun x5 => ?_)
  refine Fo.ite (fun _ => ?_) (fun _ => ?_)
  · exact Fo.some q377
  · refine Fo.pure (fun x8 => ?_)
    refine Fo.ite (fun _ => ?_) (fun _ => ?_)
    · refine Fo.bind (ft_tw_ancestors (List.nil_subset _) (List.nil_subset _) ⟨44, ho (by decide), rfl⟩ q377) (fun x10 q378 => ?_)
      refine Fo.bind (ft_tw_ancestors (List.nil_subset _) (List.nil_subset _) ⟨45, ho (by decide), rfl⟩ q378) (fun x13 q379 => ?_)
      exact (ft_tw_base_l60 (List.nil_subset _) (List.nil_subset _) (fun y19 s20 q380 => by
      exact Fo.some q380)  _ _ _ q379)
    · exact Fo.some q377
theorem ft_tw_lineConflicts_l3_j113 {fs os : List Nat} {σ0 : gMem} {N : Nat} {h : Nat} {v1 : Int} {v2 : Int} {v3 : Int} {v4 : Int} {Kh : Int → gMem → Option gMem} {K : gMem → Option gMem} {s : gMem} (hf : [] ⊆ fs) (ho : [] ⊆ os) (hKh : ∀ (a0 : Int) (a1 : gMem), FT h fs os σ0 a1 → Fo (fun r => FT h fs os σ0 r) (Kh a0 a1)) (hK : ∀ (a0 : gMem), FT h fs os σ0 a0 → Fo (fun r => FT h fs os σ0 r) (K a0)) (hs : FT h fs os σ0 s) : Fo (fun r => FT h fs os σ0 r) (tw_lineConflicts_l3_j113 N h v1 v2 v3 v4 Kh K s) := by
  unfold tw_lineConflicts_l3_j113
  exact (hKh _ _ hs)
theorem ft_tw_lineConflicts_l3_j108 {fs os : List Nat} {σ0 : gMem} {N : Nat} {h : Nat} {v1 : Int} {v2 : Int} {v3 : Int} {v4 : Int} {v6 : Int} {t0 : Int} {t1 : Int} {t2 : Int} {Kh : Int → gMem → Option gMem} {K : gMem → Option gMem} {s : gMem} (hf : [98] ⊆ fs) (ho : [46, 47, 48, 49, 50, 51, 52] ⊆ os) (hKh : ∀ (a0 : Int) (a1 : gMem), FT h fs os σ0 a1 → Fo (fun r => FT h fs os σ0 r) (Kh a0 a1)) (hK : ∀ (a0 : gMem), FT h fs os σ0 a0 → Fo (fun r => FT h fs os σ0 r) (K a0)) (hs : FT h fs os σ0 s) : Fo (fun r => FT h fs os σ0 r) (tw_lineConflicts_l3_j108 N h v1 v2 v3 v4 v6 t0 t1 t2 Kh K s) := by
  unfold tw_lineConflicts_l3_j108
  refine Fo.bind (ft_tw_clash hf ho  hs) (fun x9 q382 => ?_)
  exact (ft_tw_lineConflicts_l3_j113 (List.nil_subset _) (List.nil_subset _) hKh hK q382)
theorem ft_tw_lineConflicts_l3_j98 {fs os : List Nat} {σ0 : gMem} {N : Nat} {h : Nat} {v1 : Int} {v2 : Int} {v3 : Int} {v4 : Int} {v5 : Int} {v6 : Int} {t0 : Int} {t1 : Int} {Kh : Int → gMem → Option gMem} {K : gMem → Option gMem} {s : gMem} (hf : [98] ⊆ fs) (ho : [46, 47, 48, 49, 50, 51, 52] ⊆ os) (hKh : ∀ (a0 : Int) (a1 : gMem), FT h fs os σ0 a1 → Fo (fun r => FT h fs os σ0 r) (Kh a0 a1)) (hK : ∀ (a0 : gMem), FT h fs os σ0 a0 → Fo (fun r => FT h fs os σ0 r) (K a0)) (hs : FT h fs os σ0 s) : Fo (fun r => FT h fs os σ0 r) (tw_lineConflicts_l3_j98 N h v1 v2 v3 v4 v5 v6 t0 t1 Kh K s) := by
  unfold tw_lineConflicts_l3_j98
  refine Fo.ite (fun _ => ?_) (fun _ => ?_)
  · exact (ft_tw_lineConflicts_l3_j108 hf ho hKh hK hs)
  · exact (ft_tw_lineConflicts_l3_j108 hf ho hKh hK hs)
theorem ft_tw_lineConflicts_l3_j66 {fs os : List Nat} {σ0 : gMem} {N : Nat} {h : Nat} {v1 : Int} {v2 : Int} {v3 : Int} {v4 : Int} {v5 : Int} {v6 : Int} {t0 : Int} {Kh : Int → gMem → Option gMem} {K : gMem → Option gMem} {s : gMem} (hf : [98] ⊆ fs) (ho : [46, 47, 48, 49, 50, 51, 52] ⊆ os) (hKh : ∀ (a0 : Int) (a1 : gMem), FT h fs os σ0 a1 → Fo (fun r => FT h fs os σ0 r) (Kh a0 a1)) (hK : ∀ (a0 : gMem), FT h fs os σ0 a0 → Fo (fun r => FT h fs os σ0 r) (K a0)) (hs : FT h fs os σ0 s) : Fo (fun r => FT h fs os σ0 r) (tw_lineConflicts_l3_j66 N h v1 v2 v3 v4 v5 v6 t0 Kh K s) := by
  unfold tw_lineConflicts_l3_j66
  refine Fo.ite (fun _ => ?_) (fun _ => ?_)
  · exact (ft_tw_lineConflicts_l3_j113 (List.nil_subset _) (List.nil_subset _) hKh hK hs)
  · refine Fo.pure (fun x7 => ?_)
    refine Fo.ite (fun _ => ?_) (fun _ => ?_)
    · exact (ft_tw_lineConflicts_l3_j113 (List.nil_subset _) (List.nil_subset _) hKh hK hs)
    · refine Fo.ite (fun _ => ?_) (fun _ => ?_)
      · exact (ft_tw_lineConflicts_l3_j98 hf ho hKh hK hs)
      · exact (ft_tw_lineConflicts_l3_j98 hf ho hKh hK hs)
theorem ft_tw_lineConflicts_l3_j65 {fs os : List Nat} {σ0 : gMem} {N : Nat} {h : Nat} {v1 : Int} {v2 : Int} {v3 : Int} {v4 : Int} {v5 : Int} {v6 : Int} {Kh : Int → gMem → Option gMem} {K : gMem → Option gMem} {s : gMem} (hf : [98] ⊆ fs) (ho : [46, 47, 48, 49, 50, 51, 52] ⊆ os) (hKh : ∀ (a0 : Int) (a1 : gMem), FT h fs os σ0 a1 → Fo (fun r => FT h fs os σ0 r) (Kh a0 a1)) (hK : ∀ (a0 : gMem), FT h fs os σ0 a0 → Fo (fun r => FT h fs os σ0 r) (K a0)) (hs : FT h fs os σ0 s) : Fo (fun r => FT h fs os σ0 r) (tw_lineConflicts_l3_j65 N h v1 v2 v3 v4 v5 v6 Kh K s) := by
  unfold tw_lineConflicts_l3_j65
  exact (ft_tw_lineConflicts_l3_j66 hf ho hKh hK hs)
theorem ft_tw_lineConflicts_l3_j43 {fs os : List Nat} {σ0 : gMem} {N : Nat} {h : Nat} {v1 : Int} {v2 : Int} {v3 : Int} {v4 : Int} {v5 : Int} {t0 : Int} {Kh : Int → gMem → Option gMem} {K : gMem → Option gMem} {s : gMem} (hf : [98] ⊆ fs) (ho : [46, 47, 48, 49, 50, 51, 52] ⊆ os) (hKh : ∀ (a0 : Int) (a1 : gMem), FT h fs os σ0 a1 → Fo (fun r => FT h fs os σ0 r) (Kh a0 a1)) (hK : ∀ (a0 : gMem), FT h fs os σ0 a0 → Fo (fun r => FT h fs os σ0 r) (K a0)) (hs : FT h fs os σ0 s) : Fo (fun r => FT h fs os σ0 r) (tw_lineConflicts_l3_j43 N h v1 v2 v3 v4 v5 t0 Kh K s) := by
  unfold tw_lineConflicts_l3_j43
  refine Fo.ite (fun _ => ?_) (fun _ => ?_)
  · exact (ft_tw_lineConflicts_l3_j65 hf ho hKh hK hs)
  · refine Fo.pure (fun x12 => ?_)
    refine Fo.ite (fun _ => ?_) (fun _ => ?_)
    · exact (ft_tw_lineConflicts_l3_j65 hf ho hKh hK hs)
    · exact (ft_tw_lineConflicts_l3_j66 hf ho hKh hK hs)
theorem ft_tw_lineConflicts_l3 {fs os : List Nat} {σ0 : gMem} {N : Nat} {h : Nat} {v1 : Int} {v2 : Int} {v3 : Int} {K : gMem → Option gMem} (hf : [98] ⊆ fs) (ho : [46, 47, 48, 49, 50, 51, 52] ⊆ os) (hK : ∀ (a0 : gMem), FT h fs os σ0 a0 → Fo (fun r => FT h fs os σ0 r) (K a0)) : ∀ (n : Nat) (z0 : Int) (z1 : gMem), FT h fs os σ0 z1 → Fo (fun r => FT h fs os σ0 r) (tw_lineConflicts_l3 N h v1 v2 v3 K n z0 z1) := by
  intro n
  induction n with
  | zero => intros; exact Fo.none
  | succ n ih =>
    intro v4 s hs
    unfold tw_lineConflicts_l3
    refine Fo.pure (fun x1 => ?_)
    refine Fo.ite (fun _ => ?_) (fun _ => ?_)
    · exact (hK _ hs)
    · refine Fo.pure (fun x3 => ?_)
      refine Fo.pure (fun x5 => ?_)
      refine Fo.ite (fun _ => ?_) (fun _ => ?_)
      · exact (ft_tw_lineConflicts_l3_j43 hf ho (fun a0 a1 b1 => ih a0 a1 b1) hK hs)
      · exact (ft_tw_lineConflicts_l3_j43 hf ho (fun a0 a1 b1 => ih a0 a1 b1) hK hs)
theorem ft_tw_lineConflicts {fs os : List Nat} {σ0 : gMem} {N : Nat} {h : Nat} {v1 : Int} {v2 : Int} {v3 : Int} {σ : gMem} (hf : [98] ⊆ fs) (ho : [46, 47, 48, 49, 50, 51, 52] ⊆ os) (hσ : FT h fs os σ0 σ) : Fo (fun r => FT h fs os σ0 r) (tw_lineConflicts N h v1 v2 v3 σ) := by
  unfold tw_lineConflicts
  exact (ft_tw_lineConflicts_l3 hf ho (fun s14 q383 => by
      exact Fo.some q383)  _ _ _ hσ)
theorem ft_tw_conflict {fs os : List Nat} {σ0 : gMem} {N : Nat} {h : Nat} {v1 : Int} {v2 : Int} {σ : gMem} (hf : [0] ⊆ fs) (ho : [] ⊆ os) (hσ : FT h fs os σ0 σ) : Fo (fun r => FT h fs os σ0 r.2) (tw_conflict N h v1 v2 σ) := by
  unfold tw_conflict
  refine FT.letIf hσ (hf (by decide)) (fun s1 q385 => ?_)
  refine Fo.pure (fun x5 => ?_)
  refine Fo.ite (fun _ => ?_) (fun _ => ?_)
  · refine Fo.ite (fun _ => ?_) (fun _ => ?_)
    · refine Fo.ite (fun _ => ?_) (fun _ => Fo.none)
      exact Fo.some q385
    · refine Fo.ite (fun _ => ?_) (fun _ => ?_)
      · refine Fo.ite (fun _ => ?_) (fun _ => Fo.none)
        refine Fo.pure (fun x11 => ?_)
        exact Fo.some q385
      · refine Fo.ite (fun _ => ?_) (fun _ => ?_)
        · refine Fo.ite (fun _ => ?_) (fun _ => Fo.none)
          refine Fo.pure (fun x15 => ?_)
          exact Fo.some q385
        · refine Fo.ite (fun _ => ?_) (fun _ => ?_)
          · refine Fo.ite (fun _ => ?_) (fun _ => Fo.none)
            refine Fo.ite (fun _ => ?_) (fun _ => ?_)
            · exact Fo.some q385
            · exact Fo.some q385
          · exact Fo.some q385
  · exact Fo.some q385
theorem ft_tw_choose_j153 {fs os : List Nat} {σ0 : gMem} {N : Nat} {h : Nat} {v3 : Int} {v7 : Int} {t0 : Int} {s : gMem} (hf : [] ⊆ fs) (ho : [1, 2, 3, 4, 5] ⊆ os) (hs : FT h fs os σ0 s) : Fo (fun r => FT h fs os σ0 r.2) (tw_choose_j153 N h v3 v7 t0 s) := by
  unfold tw_choose_j153
  refine Fo.ite (fun _ => ?_) (fun _ => ?_)
  · refine Fo.pure (fun x24 => ?_)
    exact Fo.some hs
  · refine Fo.pure (fun x26 => ?_)
    refine Fo.ite (fun _ => ?_) (fun _ => ?_)
    · refine Fo.pure (fun x28 => ?_)
      exact Fo.some hs
    · refine Fo.bind (ft_tw_goLine hf ho  hs) (fun x30 q386 => ?_)
      refine Fo.pure (fun x33 => ?_)
      exact Fo.some q386
theorem ft_tw_choose {fs os : List Nat} {σ0 : gMem} {N : Nat} {h : Nat} {v1 : Int} {v2 : Int} {σ : gMem} (hf : [0, 15, 16, 17, 65] ⊆ fs) (ho : [1, 2, 3, 4, 5, 52] ⊆ os) (hσ : FT h fs os σ0 σ) : Fo (fun r => FT h fs os σ0 r.2) (tw_choose N h v1 v2 σ) := by
  unfold tw_choose
  refine FT.letIf hσ (hf (by decide)) (fun s1 q387 => ?_)
  refine Fo.pure (fun x5 => ?_)
  refine Fo.ite (fun _ => ?_) (fun _ => ?_)
  · refine Fo.bind (ft_tw_step (List.Subset.trans (by decide) hf) (List.Subset.trans (by decide) ho)  q387) (fun x7 q388 => ?_)
    refine Fo.ite (fun _ => ?_) (fun _ => Fo.none)
    refine FT.letI q388 (ho (by decide)) (fun s11 q389 => ?_)
    refine Fo.ite (fun _ => ?_) (fun _ => Fo.none)
    refine Fo.ite (fun _ => ?_) (fun _ => Fo.none)
    refine Fo.pure (fun x16 => ?_)
    refine Fo.ite (fun _ => ?_) (fun _ => Fo.none)
    refine Fo.pure (fun x19 => ?_)
    refine Fo.ite (fun _ => ?_) (fun _ => ?_)
    · refine Fo.ite (fun _ => ?_) (fun _ => Fo.none)
      refine Fo.ite (fun _ => ?_) (fun _ => ?_)
      · refine Fo.pure (fun x22 => ?_)
        exact Fo.some q389
      · refine Fo.ite (fun _ => ?_) (fun _ => ?_)
        · exact (ft_tw_choose_j153 (List.nil_subset _) (List.Subset.trans (by decide) ho)  q389)
        · exact (ft_tw_choose_j153 (List.nil_subset _) (List.Subset.trans (by decide) ho)  q389)
    · refine Fo.ite (fun _ => ?_) (fun _ => ?_)
      · refine Fo.pure (fun x35 => ?_)
        exact Fo.some q389
      · refine Fo.ite (fun _ => ?_) (fun _ => ?_)
        · refine Fo.pure (fun x37 => ?_)
          exact Fo.some q389
        · refine Fo.ite (fun _ => ?_) (fun _ => ?_)
          · refine Fo.ite (fun _ => ?_) (fun _ => Fo.none)
            refine Fo.bind (ft_tw_setCell (List.nil_subset _) (List.Subset.trans (by decide) ho)  q389) (fun x40 q390 => ?_)
            refine Fo.pure (fun x43 => ?_)
            exact Fo.some q390
          · refine Fo.ite (fun _ => ?_) (fun _ => Fo.none)
            refine Fo.bind (ft_tw_setCell (List.nil_subset _) (List.Subset.trans (by decide) ho)  q389) (fun x46 q391 => ?_)
            refine Fo.pure (fun x49 => ?_)
            exact Fo.some q391
  · refine Fo.bind (ft_tw_throwing (List.Subset.trans (by decide) hf) (List.nil_subset _)  q387) (fun x51 q392 => ?_)
    exact Fo.some q392
theorem ft_tw_linesAlone_l3_j61 {fs os : List Nat} {σ0 : gMem} {N : Nat} {h : Nat} {v1 : Int} {v2 : Int} {v3 : Int} {v4 : Int} {v5 : Int} {Kh : Int → gMem → Option gMem} {K : gMem → Option gMem} {s : gMem} (hf : [] ⊆ fs) (ho : [] ⊆ os) (hKh : ∀ (a0 : Int) (a1 : gMem), FT h fs os σ0 a1 → Fo (fun r => FT h fs os σ0 r) (Kh a0 a1)) (hK : ∀ (a0 : gMem), FT h fs os σ0 a0 → Fo (fun r => FT h fs os σ0 r) (K a0)) (hs : FT h fs os σ0 s) : Fo (fun r => FT h fs os σ0 r) (tw_linesAlone_l3_j61 N h v1 v2 v3 v4 v5 Kh K s) := by
  unfold tw_linesAlone_l3_j61
  exact (hKh _ _ hs)
theorem ft_tw_linesAlone_l3_j58 {fs os : List Nat} {σ0 : gMem} {N : Nat} {h : Nat} {v1 : Int} {v2 : Int} {v3 : Int} {v4 : Int} {v5 : Int} {t0 : Int} {t1 : Int} {t2 : Int} {Kh : Int → gMem → Option gMem} {K : gMem → Option gMem} {s : gMem} (hf : [104] ⊆ fs) (ho : [54, 55, 56] ⊆ os) (hKh : ∀ (a0 : Int) (a1 : gMem), FT h fs os σ0 a1 → Fo (fun r => FT h fs os σ0 r) (Kh a0 a1)) (hK : ∀ (a0 : gMem), FT h fs os σ0 a0 → Fo (fun r => FT h fs os σ0 r) (K a0)) (hs : FT h fs os σ0 s) : Fo (fun r => FT h fs os σ0 r) (tw_linesAlone_l3_j58 N h v1 v2 v3 v4 v5 t0 t1 t2 Kh K s) := by
  unfold tw_linesAlone_l3_j58
  refine Fo.bind (ft_tw_differ hf ho  hs) (fun x7 q393 => ?_)
  exact (ft_tw_linesAlone_l3_j61 (List.nil_subset _) (List.nil_subset _) hKh hK q393)
theorem ft_tw_linesAlone_l3_j46 {fs os : List Nat} {σ0 : gMem} {N : Nat} {h : Nat} {v1 : Int} {v2 : Int} {v3 : Int} {v4 : Int} {v5 : Int} {t0 : Int} {t1 : Int} {Kh : Int → gMem → Option gMem} {K : gMem → Option gMem} {s : gMem} (hf : [104] ⊆ fs) (ho : [54, 55, 56] ⊆ os) (hKh : ∀ (a0 : Int) (a1 : gMem), FT h fs os σ0 a1 → Fo (fun r => FT h fs os σ0 r) (Kh a0 a1)) (hK : ∀ (a0 : gMem), FT h fs os σ0 a0 → Fo (fun r => FT h fs os σ0 r) (K a0)) (hs : FT h fs os σ0 s) : Fo (fun r => FT h fs os σ0 r) (tw_linesAlone_l3_j46 N h v1 v2 v3 v4 v5 t0 t1 Kh K s) := by
  unfold tw_linesAlone_l3_j46
  refine Fo.ite (fun _ => ?_) (fun _ => ?_)
  · exact (ft_tw_linesAlone_l3_j58 hf ho hKh hK hs)
  · exact (ft_tw_linesAlone_l3_j58 hf ho hKh hK hs)
theorem ft_tw_linesAlone_l3 {fs os : List Nat} {σ0 : gMem} {N : Nat} {h : Nat} {v1 : Int} {v2 : Int} {v3 : Int} {v4 : Int} {K : gMem → Option gMem} (hf : [104] ⊆ fs) (ho : [54, 55, 56] ⊆ os) (hK : ∀ (a0 : gMem), FT h fs os σ0 a0 → Fo (fun r => FT h fs os σ0 r) (K a0)) : ∀ (n : Nat) (z0 : Int) (z1 : gMem), FT h fs os σ0 z1 → Fo (fun r => FT h fs os σ0 r) (tw_linesAlone_l3 N h v1 v2 v3 v4 K n z0 z1) := by
  intro n
  induction n with
  | zero => intros; exact Fo.none
  | succ n ih =>
    intro v5 s hs
    unfold tw_linesAlone_l3
    refine Fo.pure (fun x1 => ?_)
    refine Fo.ite (fun _ => ?_) (fun _ => ?_)
    · exact (hK _ hs)
    · refine Fo.pure (fun x3 => ?_)
      refine Fo.pure (fun x5 => ?_)
      refine Fo.ite (fun _ => ?_) (fun _ => ?_)
      · exact (ft_tw_linesAlone_l3_j61 (List.nil_subset _) (List.nil_subset _) (fun a0 a1 b1 => ih a0 a1 b1) hK hs)
      · refine Fo.ite (fun _ => ?_) (fun _ => ?_)
        · exact (ft_tw_linesAlone_l3_j46 hf ho (fun a0 a1 b1 => ih a0 a1 b1) hK hs)
        · exact (ft_tw_linesAlone_l3_j46 hf ho (fun a0 a1 b1 => ih a0 a1 b1) hK hs)
theorem ft_tw_linesAlone {fs os : List Nat} {σ0 : gMem} {N : Nat} {h : Nat} {v1 : Int} {v2 : Int} {v3 : Int} {v4 : Int} {σ : gMem} (hf : [104] ⊆ fs) (ho : [54, 55, 56] ⊆ os) (hσ : FT h fs os σ0 σ) : Fo (fun r => FT h fs os σ0 r) (tw_linesAlone N h v1 v2 v3 v4 σ) := by
  unfold tw_linesAlone
  exact (ft_tw_linesAlone_l3 hf ho (fun s10 q394 => by
      exact Fo.some q394)  _ _ _ hσ)
theorem ft_tw_next_j113 {fs os : List Nat} {σ0 : gMem} {N : Nat} {h : Nat} {v1 : Int} {s : gMem} (hf : [46, 47, 49, 52, 53, 54, 55] ⊆ fs) (ho : [] ⊆ os) (hs : FT h fs os σ0 s) : Fo (fun r => FT h fs os σ0 r) (tw_next_j113 N h v1 s) := by
  unfold tw_next_j113
  refine Fo.bind (ft_tw_wordToken (List.Subset.trans (by decide) hf) ho  hs) (fun x18 q396 => ?_)
  refine FT.letIf q396 (hf (by decide)) (fun s22 q397 => ?_)
  exact Fo.some q397
theorem ft_tw_next_j156 {fs os : List Nat} {σ0 : gMem} {N : Nat} {h : Nat} {v1 : Int} {s : gMem} (hf : [46, 47, 49, 50] ⊆ fs) (ho : [] ⊆ os) (hs : FT h fs os σ0 s) : Fo (fun r => FT h fs os σ0 r) (tw_next_j156 N h v1 s) := by
  unfold tw_next_j156
  refine Fo.bind (ft_tw_signToken (List.Subset.trans (by decide) hf) ho  hs) (fun x25 q398 => ?_)
  refine FT.letIf q398 (hf (by decide)) (fun s29 q399 => ?_)
  exact Fo.some q399
theorem ft_tw_next_l0 {fs os : List Nat} {σ0 : gMem} {N : Nat} {h : Nat} {K : gMem → Option gMem} (hf : [46] ⊆ fs) (ho : [] ⊆ os) (hK : ∀ (a0 : gMem), FT h fs os σ0 a0 → Fo (fun r => FT h fs os σ0 r) (K a0)) : ∀ (n : Nat) (z0 : gMem), FT h fs os σ0 z0 → Fo (fun r => FT h fs os σ0 r) (tw_next_l0 N h K n z0) := by
  intro n
  induction n with
  | zero => intros; exact Fo.none
  | succ n ih =>
    intro s hs
    unfold tw_next_l0
    refine Fo.pure (fun x74 => ?_)
    refine Fo.ite (fun _ => ?_) (fun _ => ?_)
    · exact (hK _ hs)
    · refine FT.letIf hs (hf (by decide)) (fun s77 q400 => ?_)
      exact (ih _ q400)
theorem ft_tw_next {fs os : List Nat} {σ0 : gMem} {N : Nat} {h : Nat} {σ : gMem} (hf : [46, 47, 48, 49, 50, 51, 52, 53, 54, 55] ⊆ fs) (ho : [] ⊆ os) (hσ : FT h fs os σ0 σ) : Fo (fun r => FT h fs os σ0 r) (tw_next N h σ) := by
  unfold tw_next
  refine Fo.pure (fun x2 => ?_)
  refine Fo.ite (fun _ => ?_) (fun _ => ?_)
  · refine FT.letIf hσ (hf (by decide)) (fun s5 q401 => ?_)
    refine FT.letIf q401 (hf (by decide)) (fun s8 q402 => ?_)
    refine Fo.pure (fun x12 => ?_)
    refine Fo.ite (fun _ => ?_) (fun _ => ?_)
    · refine Fo.pure (fun x14 => ?_)
      refine Fo.ite (fun _ => ?_) (fun _ => ?_)
      · refine Fo.ite (fun _ => ?_) (fun _ => ?_)
        · refine Fo.pure (fun x16 => ?_)
          refine Fo.ite (fun _ => ?_) (fun _ => ?_)
          · exact (ft_tw_next_j113 (List.Subset.trans (by decide) hf) ho  q402)
          · refine Fo.ite (fun _ => ?_) (fun _ => ?_)
            · refine Fo.ite (fun _ => ?_) (fun _ => ?_)
              · exact (ft_tw_next_j156 (List.Subset.trans (by decide) hf) ho  q402)
              · refine Fo.pure (fun x33 => ?_)
                refine Fo.ite (fun _ => ?_) (fun _ => ?_)
                · exact (ft_tw_next_j156 (List.Subset.trans (by decide) hf) ho  q402)
                · refine Fo.bind (ft_tw_is (List.Subset.trans (by decide) hf) ho  q402) (fun x36 q403 => ?_)
                  refine FT.letIf q403 (hf (by decide)) (fun s40 q404 => ?_)
                  exact Fo.some q404
            · exact (ft_tw_next_j113 (List.Subset.trans (by decide) hf) ho  q402)
        · refine Fo.bind (ft_tw_textToken (List.Subset.trans (by decide) hf) ho  q402) (fun x43 q405 => ?_)
          refine FT.letIf q405 (hf (by decide)) (fun s47 q406 => ?_)
          exact Fo.some q406
      · refine Fo.bind (ft_tw_numberToken (List.Subset.trans (by decide) hf) ho  q402) (fun x50 q407 => ?_)
        refine FT.letIf q407 (hf (by decide)) (fun s54 q408 => ?_)
        exact Fo.some q408
    · refine Fo.bind (ft_tw_is (List.Subset.trans (by decide) hf) ho  q402) (fun x58 q409 => ?_)
      refine FT.letIf q409 (hf (by decide)) (fun s62 q410 => ?_)
      refine FT.letIf q410 (hf (by decide)) (fun s66 q411 => ?_)
      exact Fo.some q411
  · refine FT.letIf hσ (hf (by decide)) (fun s70 q412 => ?_)
    exact (ft_tw_next_l0 (List.Subset.trans (by decide) hf) ho (fun s80 q413 => by
      refine FT.letIf q413 (hf (by decide)) (fun s83 q415 => ?_)
      refine FT.letIf q415 (hf (by decide)) (fun s86 q416 => ?_)
      refine Fo.pure (fun x90 => ?_)
      refine Fo.ite (fun _ => ?_) (fun _ => ?_)
      · refine Fo.pure (fun x92 => ?_)
        refine Fo.ite (fun _ => ?_) (fun _ => ?_)
        · refine Fo.ite (fun _ => ?_) (fun _ => ?_)
          · refine Fo.pure (fun x94 => ?_)
            refine Fo.ite (fun _ => ?_) (fun _ => ?_)
            · exact (ft_tw_next_j113 (List.Subset.trans (by decide) hf) ho  q416)
            · refine Fo.ite (fun _ => ?_) (fun _ => ?_)
              · refine Fo.ite (fun _ => ?_) (fun _ => ?_)
                · exact (ft_tw_next_j156 (List.Subset.trans (by decide) hf) ho  q416)
                · refine Fo.pure (fun x97 => ?_)
                  refine Fo.ite (fun _ => ?_) (fun _ => ?_)
                  · exact (ft_tw_next_j156 (List.Subset.trans (by decide) hf) ho  q416)
                  · refine Fo.bind (ft_tw_is (List.Subset.trans (by decide) hf) ho  q416) (fun x100 q417 => ?_)
                    refine FT.letIf q417 (hf (by decide)) (fun s104 q418 => ?_)
                    exact Fo.some q418
              · exact (ft_tw_next_j113 (List.Subset.trans (by decide) hf) ho  q416)
          · refine Fo.bind (ft_tw_textToken (List.Subset.trans (by decide) hf) ho  q416) (fun x107 q419 => ?_)
            refine FT.letIf q419 (hf (by decide)) (fun s111 q420 => ?_)
            exact Fo.some q420
        · refine Fo.bind (ft_tw_numberToken (List.Subset.trans (by decide) hf) ho  q416) (fun x114 q421 => ?_)
          refine FT.letIf q421 (hf (by decide)) (fun s118 q422 => ?_)
          exact Fo.some q422
      · refine Fo.bind (ft_tw_is (List.Subset.trans (by decide) hf) ho  q416) (fun x122 q423 => ?_)
        refine FT.letIf q423 (hf (by decide)) (fun s126 q424 => ?_)
        refine FT.letIf q424 (hf (by decide)) (fun s130 q425 => ?_)
        exact Fo.some q425)  _ _ q412)
theorem ft_tw_readProduct_l4 {fs os : List Nat} {σ0 : gMem} {N : Nat} {W : gMem → Option gMem} {h : Nat} {K : gMem → Option gMem} (hf : [46, 47, 48, 49, 50, 51, 52, 53, 54, 55, 56] ⊆ fs) (ho : [14, 15, 16, 17, 18, 19, 20, 21, 22, 23, 24, 25] ⊆ os) (hW : ∀ (a0 : gMem), FT h fs os σ0 a0 → Fo (fun r => FT h fs os σ0 r) (W a0)) (hK : ∀ (a0 : gMem), FT h fs os σ0 a0 → Fo (fun r => FT h fs os σ0 r) (K a0)) : ∀ (n : Nat) (z0 : gMem), FT h fs os σ0 z0 → Fo (fun r => FT h fs os σ0 r) (tw_readProduct_l4 N W h K n z0) := by
  intro n
  induction n with
  | zero => intros; exact Fo.none
  | succ n ih =>
    intro s hs
    unfold tw_readProduct_l4
    refine Fo.pure (fun x4 => ?_)
    refine Fo.ite (fun _ => ?_) (fun _ => ?_)
    · exact (hK _ hs)
    · refine Fo.bind (ft_tw_next (List.Subset.trans (by decide) hf) (List.nil_subset _)  hs) (fun x7 q426 => ?_)
      refine Fo.bind (hW _ q426) (fun x10 q427 => ?_)
      refine Fo.bind (ft_tw_part (List.Subset.trans (by decide) hf) ho  q427) (fun x13 q428 => ?_)
      exact (ih _ q428)
theorem ft_tw_readProduct {fs os : List Nat} {σ0 : gMem} {N : Nat} {W : gMem → Option gMem} {h : Nat} {σ : gMem} (hf : [46, 47, 48, 49, 50, 51, 52, 53, 54, 55, 56] ⊆ fs) (ho : [14, 15, 16, 17, 18, 19, 20, 21, 22, 23, 24, 25] ⊆ os) (hW : ∀ (a0 : gMem), FT h fs os σ0 a0 → Fo (fun r => FT h fs os σ0 r) (W a0)) (hσ : FT h fs os σ0 σ) : Fo (fun r => FT h fs os σ0 r) (tw_readProduct N W h σ) := by
  unfold tw_readProduct
  refine Fo.bind (hW _ hσ) (fun x1 q429 => ?_)
  exact (ft_tw_readProduct_l4 hf ho hW (fun s17 q430 => by
      exact Fo.some q430)  _ _ q429)
theorem ft_tw_readPlain {fs os : List Nat} {σ0 : gMem} {N : Nat} {h : Nat} {σ : gMem} (hf : [19, 41, 42, 46, 47, 48, 49, 50, 51, 52, 53, 54, 55, 56] ⊆ fs) (ho : [9, 14, 15, 16, 17, 18, 19, 20, 21, 22, 23, 24, 25] ⊆ os) (hσ : FT h fs os σ0 σ) : Fo (fun r => FT h fs os σ0 r) (tw_readPlain N h σ) := by
  unfold tw_readPlain
  refine Fo.ite (fun _ => ?_) (fun _ => ?_)
  · refine Fo.ite (fun _ => ?_) (fun _ => ?_)
    · refine Fo.bind (ft_tw_part (List.Subset.trans (by decide) hf) (List.Subset.trans (by decide) ho)  hσ) (fun x3 q432 => ?_)
      refine Fo.bind (ft_tw_kept (List.Subset.trans (by decide) hf) (List.Subset.trans (by decide) ho)  q432) (fun x9 q433 => ?_)
      refine Fo.ite (fun _ => ?_) (fun _ => Fo.none)
      refine FT.letI q433 (ho (by decide)) (fun s13 q434 => ?_)
      refine Fo.ite (fun _ => ?_) (fun _ => Fo.none)
      refine FT.letI q434 (ho (by decide)) (fun s18 q435 => ?_)
      refine Fo.bind (ft_tw_next (List.Subset.trans (by decide) hf) (List.nil_subset _)  q435) (fun x21 q436 => ?_)
      exact Fo.some q436
    · refine Fo.bind (ft_tw_part (List.Subset.trans (by decide) hf) (List.Subset.trans (by decide) ho)  hσ) (fun x24 q437 => ?_)
      refine Fo.pure (fun x30 => ?_)
      refine Fo.ite (fun _ => ?_) (fun _ => Fo.none)
      refine FT.letL q437 (ho (by decide)) (fun s32 q438 => ?_)
      refine Fo.bind (ft_tw_next (List.Subset.trans (by decide) hf) (List.nil_subset _)  q438) (fun x35 q439 => ?_)
      exact Fo.some q439
  · refine Fo.bind (ft_tw_fail (List.Subset.trans (by decide) hf) (List.nil_subset _)  hσ) (fun x39 q440 => ?_)
    exact Fo.some q440
theorem ft_tw_readArea_j185 {fs os : List Nat} {σ0 : gMem} {N : Nat} {h : Nat} {v1 : Int} {s : gMem} (hf : [46, 47, 48, 49, 50, 51, 52, 53, 54, 55, 58, 59] ⊆ fs) (ho : [] ⊆ os) (hs : FT h fs os σ0 s) : Fo (fun r => FT h fs os σ0 r) (tw_readArea_j185 N h v1 s) := by
  unfold tw_readArea_j185
  refine Fo.bind (ft_tw_later (List.Subset.trans (by decide) hf) ho  hs) (fun x25 q441 => ?_)
  refine Fo.bind (ft_tw_next (List.Subset.trans (by decide) hf) ho  q441) (fun x28 q442 => ?_)
  exact Fo.some q442
theorem ft_tw_readArea_j144 {fs os : List Nat} {σ0 : gMem} {N : Nat} {h : Nat} {v6 : Int} {v7 : Int} {v10 : Int} {t0 : Int} {s : gMem} (hf : [46, 47, 48, 49, 50, 51, 52, 53, 54, 55] ⊆ fs) (ho : [22, 23] ⊆ os) (hs : FT h fs os σ0 s) : Fo (fun r => FT h fs os σ0 r) (tw_readArea_j144 N h v6 v7 v10 t0 s) := by
  unfold tw_readArea_j144
  refine Fo.pure (fun x36 => ?_)
  refine Fo.ite (fun _ => ?_) (fun _ => Fo.none)
  refine FT.letI hs (ho (by decide)) (fun s38 q443 => ?_)
  refine Fo.pure (fun x41 => ?_)
  refine Fo.ite (fun _ => ?_) (fun _ => Fo.none)
  refine FT.letI q443 (ho (by decide)) (fun s43 q444 => ?_)
  refine Fo.bind (ft_tw_next hf (List.nil_subset _)  q444) (fun x46 q445 => ?_)
  exact Fo.some q445
theorem ft_tw_readArea {fs os : List Nat} {σ0 : gMem} {N : Nat} {h : Nat} {σ : gMem} (hf : [41, 42, 46, 47, 48, 49, 50, 51, 52, 53, 54, 55, 56, 58, 59] ⊆ fs) (ho : [14, 15, 16, 17, 18, 19, 20, 21, 22, 23, 24, 25] ⊆ os) (hσ : FT h fs os σ0 σ) : Fo (fun r => FT h fs os σ0 r) (tw_readArea N h σ) := by
  unfold tw_readArea
  refine Fo.bind (ft_tw_corner (List.Subset.trans (by decide) hf) (List.nil_subset _)  hσ) (fun x6 q446 => ?_)
  refine Fo.ite (fun _ => ?_) (fun _ => ?_)
  · refine Fo.bind (ft_tw_readVersion (List.Subset.trans (by decide) hf) (List.nil_subset _)  q446) (fun x14 q447 => ?_)
    refine Fo.ite (fun _ => ?_) (fun _ => ?_)
    · refine Fo.bind (ft_tw_part (List.Subset.trans (by decide) hf) ho  q447) (fun x19 q448 => ?_)
      refine Fo.pure (fun x23 => ?_)
      refine Fo.ite (fun _ => ?_) (fun _ => ?_)
      · exact (ft_tw_readArea_j185 (List.Subset.trans (by decide) hf) (List.nil_subset _)  q448)
      · refine Fo.pure (fun x31 => ?_)
        refine Fo.ite (fun _ => ?_) (fun _ => ?_)
        · exact (ft_tw_readArea_j185 (List.Subset.trans (by decide) hf) (List.nil_subset _)  q448)
        · refine Fo.bind (ft_tw_meanOne (List.nil_subset _) (List.Subset.trans (by decide) ho)  q448) (fun x33 q449 => ?_)
          refine Fo.ite (fun _ => ?_) (fun _ => ?_)
          · exact (ft_tw_readArea_j144 (List.Subset.trans (by decide) hf) (List.Subset.trans (by decide) ho)  q449)
          · exact (ft_tw_readArea_j144 (List.Subset.trans (by decide) hf) (List.Subset.trans (by decide) ho)  q449)
    · exact Fo.some q447
  · refine Fo.bind (ft_tw_fail (List.Subset.trans (by decide) hf) (List.nil_subset _)  q446) (fun x49 q450 => ?_)
    exact Fo.some q450
theorem ft_tw_readShut {fs os : List Nat} {σ0 : gMem} {N : Nat} {h : Nat} {σ : gMem} (hf : [41, 42, 46, 47, 48, 49, 50, 51, 52, 53, 54, 55, 57] ⊆ fs) (ho : [] ⊆ os) (hσ : FT h fs os σ0 σ) : Fo (fun r => FT h fs os σ0 r) (tw_readShut N h σ) := by
  unfold tw_readShut
  refine Fo.ite (fun _ => ?_) (fun _ => ?_)
  · refine Fo.ite (fun _ => ?_) (fun _ => ?_)
    · refine FT.letIf hσ (hf (by decide)) (fun s4 q451 => ?_)
      refine Fo.bind (ft_tw_next (List.Subset.trans (by decide) hf) ho  q451) (fun x7 q452 => ?_)
      exact Fo.some q452
    · refine Fo.bind (ft_tw_fail (List.Subset.trans (by decide) hf) ho  hσ) (fun x11 q453 => ?_)
      exact Fo.some q453
  · exact Fo.some hσ
theorem ft_tw_readSpot {fs os : List Nat} {σ0 : gMem} {N : Nat} {h : Nat} {σ : gMem} (hf : [41, 42, 46, 47, 48, 49, 50, 51, 52, 53, 54, 55, 56, 58, 59] ⊆ fs) (ho : [14, 15, 16, 17, 18, 19, 20, 21, 22, 23, 24, 25] ⊆ os) (hσ : FT h fs os σ0 σ) : Fo (fun r => FT h fs os σ0 r) (tw_readSpot N h σ) := by
  unfold tw_readSpot
  refine Fo.bind (ft_tw_readVersion (List.Subset.trans (by decide) hf) (List.nil_subset _)  hσ) (fun x6 q454 => ?_)
  refine Fo.ite (fun _ => ?_) (fun _ => ?_)
  · refine Fo.bind (ft_tw_part (List.Subset.trans (by decide) hf) ho  q454) (fun x11 q455 => ?_)
    refine Fo.pure (fun x15 => ?_)
    refine Fo.ite (fun _ => ?_) (fun _ => ?_)
    · refine Fo.bind (ft_tw_later (List.Subset.trans (by decide) hf) (List.nil_subset _)  q455) (fun x17 q456 => ?_)
      refine Fo.bind (ft_tw_next (List.Subset.trans (by decide) hf) (List.nil_subset _)  q456) (fun x20 q457 => ?_)
      exact Fo.some q457
    · refine Fo.bind (ft_tw_meanOne (List.nil_subset _) (List.Subset.trans (by decide) ho)  q455) (fun x23 q458 => ?_)
      refine Fo.bind (ft_tw_next (List.Subset.trans (by decide) hf) (List.nil_subset _)  q458) (fun x26 q459 => ?_)
      exact Fo.some q459
  · exact Fo.some q454
theorem ft_tw_compare {fs os : List Nat} {σ0 : gMem} {N : Nat} {h : Nat} {v1 : Int} {v2 : Int} {σ : gMem} (hf : [] ⊆ fs) (ho : [33, 34, 35, 36] ⊆ os) (hσ : FT h fs os σ0 σ) : Fo (fun r => FT h fs os σ0 r) (tw_compare N h v1 v2 σ) := by
  unfold tw_compare
  refine Fo.bind (ft_tw_asOther hf ho  hσ) (fun x1 q460 => ?_)
  refine Fo.bind (ft_tw_asOther hf ho  q460) (fun x4 q461 => ?_)
  refine Fo.ite (fun _ => ?_) (fun _ => Fo.none)
  refine Fo.ite (fun _ => ?_) (fun _ => Fo.none)
  refine Fo.ite (fun _ => ?_) (fun _ => ?_)
  · refine Fo.ite (fun _ => ?_) (fun _ => ?_)
    · refine Fo.bind (ft_tw_error hf (List.Subset.trans (by decide) ho)  q461) (fun x9 q462 => ?_)
      exact Fo.some q462
    · refine Fo.ite (fun _ => ?_) (fun _ => ?_)
      · refine Fo.bind (ft_tw_truth hf (List.Subset.trans (by decide) ho)  q461) (fun x12 q463 => ?_)
        exact Fo.some q463
      · refine Fo.bind (ft_tw_truth hf (List.Subset.trans (by decide) ho)  q461) (fun x15 q464 => ?_)
        exact Fo.some q464
  · refine Fo.pure (fun x18 => ?_)
    refine Fo.pure (fun x20 => ?_)
    refine Fo.bind (ft_tw_truth hf (List.Subset.trans (by decide) ho)  q461) (fun x22 q465 => ?_)
    exact Fo.some q465
theorem ft_tw_join_l46 {fs os : List Nat} {σ0 : gMem} {N : Nat} {h : Nat} {v1 : Int} {v2 : Int} {v3 : Int} {K : gMem → Option gMem} (hf : [] ⊆ fs) (ho : [36] ⊆ os) (hK : ∀ (a0 : gMem), FT h fs os σ0 a0 → Fo (fun r => FT h fs os σ0 r) (K a0)) : ∀ (n : Nat) (z0 : Int) (z1 : gMem), FT h fs os σ0 z1 → Fo (fun r => FT h fs os σ0 r) (tw_join_l46 N h v1 v2 v3 K n z0 z1) := by
  intro n
  induction n with
  | zero => intros; exact Fo.none
  | succ n ih =>
    intro v4 s hs
    unfold tw_join_l46
    refine Fo.ite (fun _ => ?_) (fun _ => ?_)
    · exact (hK _ hs)
    · refine Fo.ite (fun _ => ?_) (fun _ => Fo.none)
      refine Fo.ite (fun _ => ?_) (fun _ => Fo.none)
      refine Fo.ite (fun _ => ?_) (fun _ => Fo.none)
      refine FT.letI hs (ho (by decide)) (fun s11 q466 => ?_)
      exact (ih _ _ q466)
theorem ft_tw_join {fs os : List Nat} {σ0 : gMem} {N : Nat} {h : Nat} {v1 : Int} {σ : gMem} (hf : [] ⊆ fs) (ho : [33, 34, 35, 36, 37] ⊆ os) (hσ : FT h fs os σ0 σ) : Fo (fun r => FT h fs os σ0 r) (tw_join N h v1 σ) := by
  unfold tw_join
  refine Fo.bind (ft_tw_wantsText hf (List.Subset.trans (by decide) ho)  hσ) (fun x1 q467 => ?_)
  refine Fo.bind (ft_tw_wantsText hf (List.Subset.trans (by decide) ho)  q467) (fun x4 q468 => ?_)
  refine Fo.ite (fun _ => ?_) (fun _ => Fo.none)
  refine Fo.ite (fun _ => ?_) (fun _ => Fo.none)
  refine Fo.ite (fun _ => ?_) (fun _ => ?_)
  · exact (ft_tw_join_l46 hf (List.Subset.trans (by decide) ho) (fun s14 q469 => by
      refine Fo.ite (fun _ => ?_) (fun _ => Fo.none)
      refine FT.letI q469 (ho (by decide)) (fun s16 q471 => ?_)
      exact Fo.some q471)  _ _ _ q468)
  · refine Fo.bind (ft_tw_error hf (List.Subset.trans (by decide) ho)  q468) (fun x19 q472 => ?_)
    exact Fo.some q472
theorem ft_tw_workLook_l153_j195 {fs os : List Nat} {σ0 : gMem} {N : Nat} {W : Int → Int → Int → gMem → Option gMem} {h : Nat} {v3 : Int} {v4 : Int} {v6 : Int} {v7 : Int} {v8 : Int} {Kh : Int → Int → Int → gMem → Option gMem} {K : Int → Int → gMem → Option gMem} {s : gMem} (hf : [] ⊆ fs) (ho : [] ⊆ os) (hW : ∀ (a0 : Int) (a1 : Int) (a2 : Int) (a3 : gMem), FT h fs os σ0 a3 → Fo (fun r => FT h fs os σ0 r) (W a0 a1 a2 a3)) (hKh : ∀ (a0 : Int) (a1 : Int) (a2 : Int) (a3 : gMem), FT h fs os σ0 a3 → Fo (fun r => FT h fs os σ0 r) (Kh a0 a1 a2 a3)) (hK : ∀ (a0 : Int) (a1 : Int) (a2 : gMem), FT h fs os σ0 a2 → Fo (fun r => FT h fs os σ0 r) (K a0 a1 a2)) (hs : FT h fs os σ0 s) : Fo (fun r => FT h fs os σ0 r) (tw_workLook_l153_j195 N W h v3 v4 v6 v7 v8 Kh K s) := by
  unfold tw_workLook_l153_j195
  exact (hKh _ _ _ _ hs)
theorem ft_tw_workLook_l153_j193 {fs os : List Nat} {σ0 : gMem} {N : Nat} {W : Int → Int → Int → gMem → Option gMem} {h : Nat} {v3 : Int} {v4 : Int} {v6 : Int} {v8 : Int} {t0 : Int} {Kh : Int → Int → Int → gMem → Option gMem} {K : Int → Int → gMem → Option gMem} {s : gMem} (hf : [] ⊆ fs) (ho : [] ⊆ os) (hW : ∀ (a0 : Int) (a1 : Int) (a2 : Int) (a3 : gMem), FT h fs os σ0 a3 → Fo (fun r => FT h fs os σ0 r) (W a0 a1 a2 a3)) (hKh : ∀ (a0 : Int) (a1 : Int) (a2 : Int) (a3 : gMem), FT h fs os σ0 a3 → Fo (fun r => FT h fs os σ0 r) (Kh a0 a1 a2 a3)) (hK : ∀ (a0 : Int) (a1 : Int) (a2 : gMem), FT h fs os σ0 a2 → Fo (fun r => FT h fs os σ0 r) (K a0 a1 a2)) (hs : FT h fs os σ0 s) : Fo (fun r => FT h fs os σ0 r) (tw_workLook_l153_j193 N W h v3 v4 v6 v8 t0 Kh K s) := by
  unfold tw_workLook_l153_j193
  exact (ft_tw_workLook_l153_j195 hf ho hW hKh hK hs)
theorem ft_tw_workLook_l153 {fs os : List Nat} {σ0 : gMem} {N : Nat} {W : Int → Int → Int → gMem → Option gMem} {h : Nat} {v3 : Int} {v4 : Int} {K : Int → Int → gMem → Option gMem} (hf : [] ⊆ fs) (ho : [33, 34, 35, 36] ⊆ os) (hW : ∀ (a0 : Int) (a1 : Int) (a2 : Int) (a3 : gMem), FT h fs os σ0 a3 → Fo (fun r => FT h fs os σ0 r) (W a0 a1 a2 a3)) (hK : ∀ (a0 : Int) (a1 : Int) (a2 : gMem), FT h fs os σ0 a2 → Fo (fun r => FT h fs os σ0 r) (K a0 a1 a2)) : ∀ (n : Nat) (z0 : Int) (z1 : Int) (z2 : Int) (z3 : gMem), FT h fs os σ0 z3 → Fo (fun r => FT h fs os σ0 r) (tw_workLook_l153 N W h v3 v4 K n z0 z1 z2 z3) := by
  intro n
  induction n with
  | zero => intros; exact Fo.none
  | succ n ih =>
    intro v6 v7 v8 s hs
    unfold tw_workLook_l153
    refine Fo.pure (fun x14 => ?_)
    refine Fo.ite (fun _ => ?_) (fun _ => ?_)
    · exact (hK _ _ _ hs)
    · refine Fo.pure (fun x16 => ?_)
      refine Fo.bind (ft_tw_isLike hf ho  hs) (fun x18 q473 => ?_)
      refine Fo.ite (fun _ => ?_) (fun _ => ?_)
      · exact (ft_tw_workLook_l153_j195 hf (List.nil_subset _) hW (fun a0 a1 a2 a3 b3 => ih a0 a1 a2 a3 b3) hK q473)
      · refine Fo.ite (fun _ => ?_) (fun _ => ?_)
        · exact (ft_tw_workLook_l153_j193 hf (List.nil_subset _) hW (fun a0 a1 a2 a3 b3 => ih a0 a1 a2 a3 b3) hK q473)
        · exact (ft_tw_workLook_l153_j193 hf (List.nil_subset _) hW (fun a0 a1 a2 a3 b3 => ih a0 a1 a2 a3 b3) hK q473)
theorem ft_tw_workLook_j42 {fs os : List Nat} {σ0 : gMem} {N : Nat} {W : Int → Int → Int → gMem → Option gMem} {h : Nat} {v2 : Int} {v3 : Int} {v4 : Int} {v5 : Int} {t0 : Int} {t1 : Int} {s : gMem} (hf : [71, 72, 73, 74, 75] ⊆ fs) (ho : [33, 34, 35, 36] ⊆ os) (hW : ∀ (a0 : Int) (a1 : Int) (a2 : Int) (a3 : gMem), FT h fs os σ0 a3 → Fo (fun r => FT h fs os σ0 r) (W a0 a1 a2 a3)) (hs : FT h fs os σ0 s) : Fo (fun r => FT h fs os σ0 r) (tw_workLook_j42 N W h v2 v3 v4 v5 t0 t1 s) := by
  unfold tw_workLook_j42
  refine Fo.pure (fun x4 => ?_)
  refine Fo.bind (hW _ _ _ _ hs) (fun x6 q474 => ?_)
  refine Fo.ite (fun _ => ?_) (fun _ => Fo.none)
  refine Fo.ite (fun _ => ?_) (fun _ => ?_)
  · refine Fo.bind (ft_tw_area hf (List.nil_subset _)  q474) (fun x10 q475 => ?_)
    refine Fo.ite (fun _ => ?_) (fun _ => ?_)
    · refine Fo.ite (fun _ => ?_) (fun _ => ?_)
      · exact (ft_tw_workLook_l153 (List.nil_subset _) ho hW (fun y22 y23 s24 q476 => by
      refine Fo.ite (fun _ => ?_) (fun _ => ?_)
      · refine Fo.ite (fun _ => ?_) (fun _ => ?_)
        · refine Fo.bind (ft_tw_number (List.nil_subset _) (List.Subset.trans (by decide) ho)  q476) (fun x26 q478 => ?_)
          exact Fo.some q478
        · refine Fo.bind (ft_tw_error (List.nil_subset _) (List.Subset.trans (by decide) ho)  q476) (fun x29 q479 => ?_)
          exact Fo.some q479
      · refine Fo.bind (ft_tw_number (List.nil_subset _) (List.Subset.trans (by decide) ho)  q476) (fun x32 q480 => ?_)
        exact Fo.some q480)  _ _ _ _ _ q475)
      · refine Fo.bind (ft_tw_wantsNumber (List.nil_subset _) (List.Subset.trans (by decide) ho)  q475) (fun x35 q481 => ?_)
        refine Fo.ite (fun _ => ?_) (fun _ => ?_)
        · refine Fo.ite (fun _ => ?_) (fun _ => Fo.none)
          refine Fo.ite (fun _ => ?_) (fun _ => ?_)
          · refine Fo.bind (ft_tw_error (List.nil_subset _) (List.Subset.trans (by decide) ho)  q481) (fun x40 q482 => ?_)
            exact Fo.some q482
          · refine Fo.pure (fun x43 => ?_)
            refine Fo.ite (fun _ => ?_) (fun _ => ?_)
            · refine Fo.pure (fun x45 => ?_)
              refine Fo.bind (ft_tw_load (List.nil_subset _) ho  q481) (fun x47 q483 => ?_)
              exact Fo.some q483
            · refine Fo.bind (ft_tw_error (List.nil_subset _) (List.Subset.trans (by decide) ho)  q481) (fun x50 q484 => ?_)
              exact Fo.some q484
        · exact Fo.some q481
    · refine Fo.bind (ft_tw_error (List.nil_subset _) (List.Subset.trans (by decide) ho)  q475) (fun x53 q485 => ?_)
      exact Fo.some q485
  · exact Fo.some q474
theorem ft_tw_workLook_j22 {fs os : List Nat} {σ0 : gMem} {N : Nat} {W : Int → Int → Int → gMem → Option gMem} {h : Nat} {v1 : Int} {v2 : Int} {v3 : Int} {v4 : Int} {t0 : Int} {t1 : Int} {s : gMem} (hf : [71, 72, 73, 74, 75] ⊆ fs) (ho : [33, 34, 35, 36] ⊆ os) (hW : ∀ (a0 : Int) (a1 : Int) (a2 : Int) (a3 : gMem), FT h fs os σ0 a3 → Fo (fun r => FT h fs os σ0 r) (W a0 a1 a2 a3)) (hs : FT h fs os σ0 s) : Fo (fun r => FT h fs os σ0 r) (tw_workLook_j22 N W h v1 v2 v3 v4 t0 t1 s) := by
  unfold tw_workLook_j22
  refine Fo.pure (fun x2 => ?_)
  refine Fo.ite (fun _ => ?_) (fun _ => ?_)
  · exact (ft_tw_workLook_j42 hf ho hW hs)
  · exact (ft_tw_workLook_j42 hf ho hW hs)
theorem ft_tw_workLook {fs os : List Nat} {σ0 : gMem} {N : Nat} {W : Int → Int → Int → gMem → Option gMem} {h : Nat} {v1 : Int} {v2 : Int} {v3 : Int} {σ : gMem} (hf : [71, 72, 73, 74, 75] ⊆ fs) (ho : [33, 34, 35, 36] ⊆ os) (hW : ∀ (a0 : Int) (a1 : Int) (a2 : Int) (a3 : gMem), FT h fs os σ0 a3 → Fo (fun r => FT h fs os σ0 r) (W a0 a1 a2 a3)) (hσ : FT h fs os σ0 σ) : Fo (fun r => FT h fs os σ0 r) (tw_workLook N W h v1 v2 v3 σ) := by
  unfold tw_workLook
  refine Fo.ite (fun _ => ?_) (fun _ => Fo.none)
  refine Fo.ite (fun _ => ?_) (fun _ => ?_)
  · exact (ft_tw_workLook_j22 hf ho hW hσ)
  · exact (ft_tw_workLook_j22 hf ho hW hσ)
theorem ft_tw_putPart_o_l285_j309 {fs os : List Nat} {σ0 : gMem} {N : Nat} {W : Int → Int → gMem → Option gMem} {h : Nat} {v1 : Int} {v2 : Int} {v5 : Int} {t0 : Int} {Kh : Int → gMem → Option gMem} {K : gMem → Option gMem} {s : gMem} (hf : [87] ⊆ fs) (ho : [42] ⊆ os) (hW : ∀ (a0 : Int) (a1 : Int) (a2 : gMem), FT h fs os σ0 a2 → Fo (fun r => FT h fs os σ0 r) (W a0 a1 a2)) (hKh : ∀ (a0 : Int) (a1 : gMem), FT h fs os σ0 a1 → Fo (fun r => FT h fs os σ0 r) (Kh a0 a1)) (hK : ∀ (a0 : gMem), FT h fs os σ0 a0 → Fo (fun r => FT h fs os σ0 r) (K a0)) (hs : FT h fs os σ0 s) : Fo (fun r => FT h fs os σ0 r) (tw_putPart_o_l285_j309 N W h v1 v2 v5 t0 Kh K s) := by
  unfold tw_putPart_o_l285_j309
  refine Fo.bind (ft_tw_put hf ho  hs) (fun x12 q486 => ?_)
  refine Fo.pure (fun x15 => ?_)
  refine Fo.bind (hW _ _ _ q486) (fun x17 q487 => ?_)
  exact (hKh _ _ q487)
theorem ft_tw_putPart_o_l285 {fs os : List Nat} {σ0 : gMem} {N : Nat} {W : Int → Int → gMem → Option gMem} {h : Nat} {v1 : Int} {v2 : Int} {K : gMem → Option gMem} (hf : [87] ⊆ fs) (ho : [42] ⊆ os) (hW : ∀ (a0 : Int) (a1 : Int) (a2 : gMem), FT h fs os σ0 a2 → Fo (fun r => FT h fs os σ0 r) (W a0 a1 a2)) (hK : ∀ (a0 : gMem), FT h fs os σ0 a0 → Fo (fun r => FT h fs os σ0 r) (K a0)) : ∀ (n : Nat) (z0 : Int) (z1 : gMem), FT h fs os σ0 z1 → Fo (fun r => FT h fs os σ0 r) (tw_putPart_o_l285 N W h v1 v2 K n z0 z1) := by
  intro n
  induction n with
  | zero => intros; exact Fo.none
  | succ n ih =>
    intro v5 s hs
    unfold tw_putPart_o_l285
    refine Fo.ite (fun _ => ?_) (fun _ => Fo.none)
    refine Fo.ite (fun _ => ?_) (fun _ => ?_)
    · exact (hK _ hs)
    · refine Fo.ite (fun _ => ?_) (fun _ => ?_)
      · exact (ft_tw_putPart_o_l285_j309 hf ho hW (fun a0 a1 b1 => ih a0 a1 b1) hK hs)
      · exact (ft_tw_putPart_o_l285_j309 hf ho hW (fun a0 a1 b1 => ih a0 a1 b1) hK hs)
theorem ft_tw_putPart_o_j231 {fs os : List Nat} {σ0 : gMem} {N : Nat} {W : Int → Int → gMem → Option gMem} {h : Nat} {v1 : Int} {v2 : Int} {v3 : Int} {v4 : Int} {t0 : Int} {t1 : Int} {t2 : Int} {s : gMem} (hf : [87] ⊆ fs) (ho : [42] ⊆ os) (hW : ∀ (a0 : Int) (a1 : Int) (a2 : gMem), FT h fs os σ0 a2 → Fo (fun r => FT h fs os σ0 r) (W a0 a1 a2)) (hs : FT h fs os σ0 s) : Fo (fun r => FT h fs os σ0 r) (tw_putPart_o_j231 N W h v1 v2 v3 v4 t0 t1 t2 s) := by
  unfold tw_putPart_o_j231
  refine Fo.bind (ft_tw_putSide hf ho hW hs) (fun x30 q488 => ?_)
  refine Fo.pure (fun x33 => ?_)
  refine Fo.bind (ft_tw_say hf ho  q488) (fun x34 q489 => ?_)
  refine Fo.ite (fun _ => ?_) (fun _ => Fo.none)
  refine Fo.pure (fun x38 => ?_)
  refine Fo.ite (fun _ => ?_) (fun _ => ?_)
  · refine Fo.bind (ft_tw_putSide hf ho hW q489) (fun x40 q490 => ?_)
    exact Fo.some q490
  · refine Fo.bind (ft_tw_putSide hf ho hW q489) (fun x43 q491 => ?_)
    exact Fo.some q491
theorem ft_tw_putPart_o_j226 {fs os : List Nat} {σ0 : gMem} {N : Nat} {W : Int → Int → gMem → Option gMem} {h : Nat} {v1 : Int} {v2 : Int} {v3 : Int} {v4 : Int} {t0 : Int} {t1 : Int} {s : gMem} (hf : [87] ⊆ fs) (ho : [42] ⊆ os) (hW : ∀ (a0 : Int) (a1 : Int) (a2 : gMem), FT h fs os σ0 a2 → Fo (fun r => FT h fs os σ0 r) (W a0 a1 a2)) (hs : FT h fs os σ0 s) : Fo (fun r => FT h fs os σ0 r) (tw_putPart_o_j226 N W h v1 v2 v3 v4 t0 t1 s) := by
  unfold tw_putPart_o_j226
  exact (ft_tw_putPart_o_j231 hf ho hW hs)
theorem ft_tw_putPart_o_j230 {fs os : List Nat} {σ0 : gMem} {N : Nat} {W : Int → Int → gMem → Option gMem} {h : Nat} {v1 : Int} {v2 : Int} {v3 : Int} {v4 : Int} {t0 : Int} {t1 : Int} {s : gMem} (hf : [87] ⊆ fs) (ho : [42] ⊆ os) (hW : ∀ (a0 : Int) (a1 : Int) (a2 : gMem), FT h fs os σ0 a2 → Fo (fun r => FT h fs os σ0 r) (W a0 a1 a2)) (hs : FT h fs os σ0 s) : Fo (fun r => FT h fs os σ0 r) (tw_putPart_o_j230 N W h v1 v2 v3 v4 t0 t1 s) := by
  unfold tw_putPart_o_j230
  exact (ft_tw_putPart_o_j231 hf ho hW hs)
theorem ft_tw_putPart_o {fs os : List Nat} {σ0 : gMem} {N : Nat} {W : Int → Int → gMem → Option gMem} {h : Nat} {v1 : Int} {v2 : Int} {σ : gMem} (hf : [87] ⊆ fs) (ho : [37, 42] ⊆ os) (hW : ∀ (a0 : Int) (a1 : Int) (a2 : gMem), FT h fs os σ0 a2 → Fo (fun r => FT h fs os σ0 r) (W a0 a1 a2)) (hσ : FT h fs os σ0 σ) : Fo (fun r => FT h fs os σ0 r) (tw_putPart_o N W h v1 v2 σ) := by
  unfold tw_putPart_o
  refine Fo.ite (fun _ => ?_) (fun _ => Fo.none)
  refine Fo.pure (fun x2 => ?_)
  refine Fo.ite (fun _ => ?_) (fun _ => ?_)
  · refine Fo.ite (fun _ => ?_) (fun _ => ?_)
    · refine Fo.ite (fun _ => ?_) (fun _ => ?_)
      · refine Fo.ite (fun _ => ?_) (fun _ => ?_)
        · refine Fo.ite (fun _ => ?_) (fun _ => ?_)
          · refine Fo.bind (ft_tw_putPlace hf ho  hσ) (fun x4 q492 => ?_)
            exact Fo.some q492
          · refine Fo.ite (fun _ => ?_) (fun _ => ?_)
            · refine Fo.ite (fun _ => ?_) (fun _ => ?_)
              · refine Fo.ite (fun _ => ?_) (fun _ => ?_)
                · refine Fo.pure (fun x7 => ?_)
                  refine Fo.bind (ft_tw_say hf (List.Subset.trans (by decide) ho)  hσ) (fun x8 q493 => ?_)
                  exact (ft_tw_putPart_o_l285 hf (List.Subset.trans (by decide) ho) hW (fun s20 q494 => by
      refine Fo.bind (ft_tw_put hf (List.Subset.trans (by decide) ho)  q494) (fun x22 q496 => ?_)
      exact Fo.some q496)  _ _ _ q493)
                · refine Fo.pure (fun x25 => ?_)
                  refine Fo.ite (fun _ => ?_) (fun _ => Fo.none)
                  refine Fo.pure (fun x28 => ?_)
                  refine Fo.ite (fun _ => ?_) (fun _ => ?_)
                  · exact (ft_tw_putPart_o_j226 hf (List.Subset.trans (by decide) ho) hW hσ)
                  · refine Fo.ite (fun _ => ?_) (fun _ => ?_)
                    · exact (ft_tw_putPart_o_j230 hf (List.Subset.trans (by decide) ho) hW hσ)
                    · refine Fo.ite (fun _ => ?_) (fun _ => ?_)
                      · exact (ft_tw_putPart_o_j230 hf (List.Subset.trans (by decide) ho) hW hσ)
                      · exact (ft_tw_putPart_o_j226 hf (List.Subset.trans (by decide) ho) hW hσ)
              · refine Fo.bind (ft_tw_put hf (List.Subset.trans (by decide) ho)  hσ) (fun x46 q497 => ?_)
                refine Fo.ite (fun _ => ?_) (fun _ => Fo.none)
                refine Fo.pure (fun x50 => ?_)
                refine Fo.ite (fun _ => ?_) (fun _ => ?_)
                · refine Fo.bind (ft_tw_putSide hf (List.Subset.trans (by decide) ho) hW q497) (fun x52 q498 => ?_)
                  exact Fo.some q498
                · refine Fo.bind (ft_tw_putSide hf (List.Subset.trans (by decide) ho) hW q497) (fun x55 q499 => ?_)
                  exact Fo.some q499
            · refine Fo.bind (ft_tw_putPlace hf ho  hσ) (fun x58 q500 => ?_)
              exact Fo.some q500
        · refine Fo.bind (ft_tw_say hf (List.Subset.trans (by decide) ho)  hσ) (fun x61 q501 => ?_)
          exact Fo.some q501
      · refine Fo.ite (fun _ => ?_) (fun _ => Fo.none)
        refine Fo.ite (fun _ => ?_) (fun _ => ?_)
        · refine Fo.bind (ft_tw_say hf (List.Subset.trans (by decide) ho)  hσ) (fun x65 q502 => ?_)
          exact Fo.some q502
        · refine Fo.bind (ft_tw_say hf (List.Subset.trans (by decide) ho)  hσ) (fun x68 q503 => ?_)
          exact Fo.some q503
    · refine Fo.bind (ft_tw_put hf (List.Subset.trans (by decide) ho)  hσ) (fun x71 q504 => ?_)
      refine Fo.ite (fun _ => ?_) (fun _ => Fo.none)
      refine Fo.ite (fun _ => ?_) (fun _ => Fo.none)
      refine Fo.bind (ft_tw_putLetters hf (List.Subset.trans (by decide) ho)  q504) (fun x76 q505 => ?_)
      refine Fo.bind (ft_tw_put hf (List.Subset.trans (by decide) ho)  q505) (fun x79 q506 => ?_)
      exact Fo.some q506
  · refine Fo.ite (fun _ => ?_) (fun _ => Fo.none)
    refine Fo.bind (ft_tw_putNumber hf ho  hσ) (fun x83 q507 => ?_)
    exact Fo.some q507
theorem ft_tw_putPart {fs os : List Nat} {σ0 : gMem} {N : Nat} {h : Nat} (hf : [87] ⊆ fs) (ho : [37, 42] ⊆ os)  : ∀ (n : Nat) (z0 : Int) (z1 : Int) (z2 : gMem), FT h fs os σ0 z2 → Fo (fun r => FT h fs os σ0 r) (tw_putPart N h n z0 z1 z2) := by
  intro n
  induction n with
  | zero => intros; exact Fo.none
  | succ n ih =>
    intro a0 a1 s hs
    unfold tw_putPart
    exact (ft_tw_putPart_o hf ho (fun a0 a1 a2 b2 => ih a0 a1 a2 b2) hs)
theorem ft_tw_insert_l85 {fs os : List Nat} {σ0 : gMem} {N : Nat} {h : Nat} {v1 : Int} {v2 : Int} {v3 : Int} {v4 : Int} {K : gMem → Option (Int × gMem)} (hf : [] ⊆ fs) (ho : [3, 4, 5] ⊆ os) (hK : ∀ (a0 : gMem), FT h fs os σ0 a0 → Fo (fun r => FT h fs os σ0 r.2) (K a0)) : ∀ (n : Nat) (z0 : Int) (z1 : gMem), FT h fs os σ0 z1 → Fo (fun r => FT h fs os σ0 r.2) (tw_insert_l85 N h v1 v2 v3 v4 K n z0 z1) := by
  intro n
  induction n with
  | zero => intros; exact Fo.none
  | succ n ih =>
    intro v5 s hs
    unfold tw_insert_l85
    refine Fo.ite (fun _ => ?_) (fun _ => ?_)
    · exact (hK _ hs)
    · refine Fo.bind (ft_tw_comeLine hf ho  hs) (fun x17 q508 => ?_)
      exact (ih _ _ q508)
theorem ft_tw_insert_j140 {fs os : List Nat} {σ0 : gMem} {N : Nat} {h : Nat} {v1 : Int} {v3 : Int} {t0 : Int} {t1 : Int} {t2 : Int} {t3 : Int} {s : gMem} (hf : [6, 7] ⊆ fs) (ho : [3, 4] ⊆ os) (hs : FT h fs os σ0 s) : Fo (fun r => FT h fs os σ0 r.2) (tw_insert_j140 N h v1 v3 t0 t1 t2 t3 s) := by
  unfold tw_insert_j140
  refine Fo.bind (ft_tw_setLine (List.nil_subset _) ho  hs) (fun x26 q509 => ?_)
  refine Fo.ite (fun _ => ?_) (fun _ => ?_)
  · refine FT.letIf q509 (hf (by decide)) (fun s30 q510 => ?_)
    exact Fo.some q510
  · refine FT.letIf q509 (hf (by decide)) (fun s34 q511 => ?_)
    exact Fo.some q511
theorem ft_tw_insert_j57 {fs os : List Nat} {σ0 : gMem} {N : Nat} {h : Nat} {v1 : Int} {v2 : Int} {v3 : Int} {t0 : Int} {t1 : Int} {s : gMem} (hf : [0, 6, 7, 15, 16, 17, 65] ⊆ fs) (ho : [1, 2, 3, 4, 5] ⊆ os) (hs : FT h fs os σ0 s) : Fo (fun r => FT h fs os σ0 r.2) (tw_insert_j57 N h v1 v2 v3 t0 t1 s) := by
  unfold tw_insert_j57
  refine Fo.ite (fun _ => ?_) (fun _ => ?_)
  · refine Fo.bind (ft_tw_step (List.Subset.trans (by decide) hf) ho  hs) (fun x10 q512 => ?_)
    refine Fo.bind (ft_tw_setLines (List.nil_subset _) (List.Subset.trans (by decide) ho)  q512) (fun x14 q513 => ?_)
    exact (ft_tw_insert_l85 (List.nil_subset _) (List.Subset.trans (by decide) ho) (fun s20 q514 => by
      refine Fo.bind (ft_tw_emptyLine (List.nil_subset _) (List.Subset.trans (by decide) ho)  q514) (fun x22 q516 => ?_)
      refine Fo.ite (fun _ => ?_) (fun _ => ?_)
      · exact (ft_tw_insert_j140 (List.Subset.trans (by decide) hf) (List.Subset.trans (by decide) ho)  q516)
      · exact (ft_tw_insert_j140 (List.Subset.trans (by decide) hf) (List.Subset.trans (by decide) ho)  q516))  _ _ _ q513)
  · refine Fo.bind (ft_tw_throwing (List.Subset.trans (by decide) hf) (List.nil_subset _)  hs) (fun x38 q517 => ?_)
    exact Fo.some q517
theorem ft_tw_insert {fs os : List Nat} {σ0 : gMem} {N : Nat} {h : Nat} {v1 : Int} {v2 : Int} {σ : gMem} (hf : [0, 6, 7, 15, 16, 17, 65] ⊆ fs) (ho : [1, 2, 3, 4, 5] ⊆ os) (hσ : FT h fs os σ0 σ) : Fo (fun r => FT h fs os σ0 r.2) (tw_insert N h v1 v2 σ) := by
  unfold tw_insert
  refine FT.letIf hσ (hf (by decide)) (fun s1 q518 => ?_)
  refine Fo.pure (fun x4 => ?_)
  refine Fo.ite (fun _ => ?_) (fun _ => ?_)
  · refine Fo.pure (fun x6 => ?_)
    refine Fo.pure (fun x8 => ?_)
    refine Fo.ite (fun _ => ?_) (fun _ => ?_)
    · refine Fo.ite (fun _ => ?_) (fun _ => ?_)
      · exact (ft_tw_insert_j57 hf ho  q518)
      · exact (ft_tw_insert_j57 hf ho  q518)
    · refine Fo.bind (ft_tw_throwing (List.Subset.trans (by decide) hf) (List.nil_subset _)  q518) (fun x42 q519 => ?_)
      exact Fo.some q519
  · refine Fo.bind (ft_tw_throwing (List.Subset.trans (by decide) hf) (List.nil_subset _)  q518) (fun x46 q520 => ?_)
    exact Fo.some q520
theorem ft_tw_remove {fs os : List Nat} {σ0 : gMem} {N : Nat} {h : Nat} {v1 : Int} {v2 : Int} {σ : gMem} (hf : [0, 15, 16, 17, 65] ⊆ fs) (ho : [1, 2, 3, 4, 5] ⊆ os) (hσ : FT h fs os σ0 σ) : Fo (fun r => FT h fs os σ0 r.2) (tw_remove N h v1 v2 σ) := by
  unfold tw_remove
  refine FT.letIf hσ (hf (by decide)) (fun s1 q521 => ?_)
  refine Fo.pure (fun x4 => ?_)
  refine Fo.ite (fun _ => ?_) (fun _ => ?_)
  · refine Fo.pure (fun x6 => ?_)
    refine Fo.pure (fun x8 => ?_)
    refine Fo.ite (fun _ => ?_) (fun _ => ?_)
    · refine Fo.ite (fun _ => ?_) (fun _ => ?_)
      · refine Fo.bind (ft_tw_step (List.Subset.trans (by decide) hf) ho  q521) (fun x10 q522 => ?_)
        refine Fo.bind (ft_tw_goLine (List.nil_subset _) ho  q522) (fun x14 q523 => ?_)
        exact Fo.some q523
      · refine Fo.bind (ft_tw_throwing (List.Subset.trans (by decide) hf) (List.nil_subset _)  q521) (fun x17 q524 => ?_)
        exact Fo.some q524
    · refine Fo.bind (ft_tw_throwing (List.Subset.trans (by decide) hf) (List.nil_subset _)  q521) (fun x21 q525 => ?_)
      exact Fo.some q525
  · refine Fo.bind (ft_tw_throwing (List.Subset.trans (by decide) hf) (List.nil_subset _)  q521) (fun x25 q526 => ?_)
    exact Fo.some q526
theorem ft_tw_shift_j290 {fs os : List Nat} {σ0 : gMem} {N : Nat} {h : Nat} {v1 : Int} {v6 : Int} {v10 : Int} {v11 : Int} {t0 : Int} {t1 : Int} {s : gMem} (hf : [] ⊆ fs) (ho : [22, 23] ⊆ os) (hs : FT h fs os σ0 s) : Fo (fun r => FT h fs os σ0 r) (tw_shift_j290 N h v1 v6 v10 v11 t0 t1 s) := by
  unfold tw_shift_j290
  refine Fo.ite (fun _ => ?_) (fun _ => Fo.none)
  refine FT.letI hs (ho (by decide)) (fun s23 q527 => ?_)
  refine Fo.ite (fun _ => ?_) (fun _ => ?_)
  · refine Fo.ite (fun _ => ?_) (fun _ => Fo.none)
    refine FT.letI q527 (ho (by decide)) (fun s26 q528 => ?_)
    exact Fo.some q528
  · refine Fo.ite (fun _ => ?_) (fun _ => ?_)
    · refine Fo.ite (fun _ => ?_) (fun _ => Fo.none)
      refine FT.letI q527 (ho (by decide)) (fun s29 q529 => ?_)
      exact Fo.some q529
    · refine Fo.ite (fun _ => ?_) (fun _ => Fo.none)
      refine FT.letI q527 (ho (by decide)) (fun s32 q530 => ?_)
      exact Fo.some q530
theorem ft_tw_shift_j289 {fs os : List Nat} {σ0 : gMem} {N : Nat} {h : Nat} {v1 : Int} {v6 : Int} {v10 : Int} {v11 : Int} {t0 : Int} {s : gMem} (hf : [] ⊆ fs) (ho : [22, 23] ⊆ os) (hs : FT h fs os σ0 s) : Fo (fun r => FT h fs os σ0 r) (tw_shift_j289 N h v1 v6 v10 v11 t0 s) := by
  unfold tw_shift_j289
  exact (ft_tw_shift_j290 hf ho  hs)
theorem ft_tw_shift_j268 {fs os : List Nat} {σ0 : gMem} {N : Nat} {h : Nat} {v1 : Int} {v6 : Int} {v9 : Int} {v10 : Int} {v11 : Int} {t0 : Int} {t1 : Int} {s : gMem} (hf : [] ⊆ fs) (ho : [21, 22, 23] ⊆ os) (hs : FT h fs os σ0 s) : Fo (fun r => FT h fs os σ0 r) (tw_shift_j268 N h v1 v6 v9 v10 v11 t0 t1 s) := by
  unfold tw_shift_j268
  refine Fo.ite (fun _ => ?_) (fun _ => Fo.none)
  refine FT.letI hs (ho (by decide)) (fun s20 q531 => ?_)
  refine Fo.ite (fun _ => ?_) (fun _ => ?_)
  · exact (ft_tw_shift_j289 hf (List.Subset.trans (by decide) ho)  q531)
  · refine Fo.ite (fun _ => ?_) (fun _ => ?_)
    · exact (ft_tw_shift_j289 hf (List.Subset.trans (by decide) ho)  q531)
    · exact (ft_tw_shift_j290 hf (List.Subset.trans (by decide) ho)  q531)
theorem ft_tw_shift_j251 {fs os : List Nat} {σ0 : gMem} {N : Nat} {h : Nat} {v1 : Int} {v6 : Int} {v8 : Int} {v9 : Int} {v10 : Int} {v11 : Int} {t0 : Int} {t1 : Int} {s : gMem} (hf : [] ⊆ fs) (ho : [20, 21, 22, 23] ⊆ os) (hs : FT h fs os σ0 s) : Fo (fun r => FT h fs os σ0 r) (tw_shift_j251 N h v1 v6 v8 v9 v10 v11 t0 t1 s) := by
  unfold tw_shift_j251
  refine Fo.ite (fun _ => ?_) (fun _ => Fo.none)
  refine FT.letI hs (ho (by decide)) (fun s17 q532 => ?_)
  refine Fo.ite (fun _ => ?_) (fun _ => ?_)
  · exact (ft_tw_shift_j268 hf (List.Subset.trans (by decide) ho)  q532)
  · exact (ft_tw_shift_j268 hf (List.Subset.trans (by decide) ho)  q532)
theorem ft_tw_shift_j235 {fs os : List Nat} {σ0 : gMem} {N : Nat} {h : Nat} {v1 : Int} {v6 : Int} {v7 : Int} {v8 : Int} {v9 : Int} {v10 : Int} {v11 : Int} {s : gMem} (hf : [] ⊆ fs) (ho : [20, 21, 22, 23] ⊆ os) (hs : FT h fs os σ0 s) : Fo (fun r => FT h fs os σ0 r) (tw_shift_j235 N h v1 v6 v7 v8 v9 v10 v11 s) := by
  unfold tw_shift_j235
  refine Fo.ite (fun _ => ?_) (fun _ => ?_)
  · exact (ft_tw_shift_j251 hf ho  hs)
  · exact (ft_tw_shift_j251 hf ho  hs)
theorem ft_tw_shift_j207 {fs os : List Nat} {σ0 : gMem} {N : Nat} {h : Nat} {v1 : Int} {v6 : Int} {v7 : Int} {v8 : Int} {v9 : Int} {v10 : Int} {t0 : Int} {s : gMem} (hf : [] ⊆ fs) (ho : [14, 20, 21, 22, 23, 24, 25] ⊆ os) (hs : FT h fs os σ0 s) : Fo (fun r => FT h fs os σ0 r) (tw_shift_j207 N h v1 v6 v7 v8 v9 v10 t0 s) := by
  unfold tw_shift_j207
  refine Fo.ite (fun _ => ?_) (fun _ => ?_)
  · exact (ft_tw_shift_j235 hf (List.Subset.trans (by decide) ho)  hs)
  · refine Fo.ite (fun _ => ?_) (fun _ => Fo.none)
    refine FT.letI hs (ho (by decide)) (fun s35 q533 => ?_)
    refine Fo.ite (fun _ => ?_) (fun _ => Fo.none)
    refine FT.letI q533 (ho (by decide)) (fun s38 q534 => ?_)
    refine Fo.ite (fun _ => ?_) (fun _ => Fo.none)
    refine FT.letI q534 (ho (by decide)) (fun s41 q535 => ?_)
    exact (ft_tw_shift_j235 hf (List.Subset.trans (by decide) ho)  q535)
theorem ft_tw_shift_j206 {fs os : List Nat} {σ0 : gMem} {N : Nat} {h : Nat} {v1 : Int} {v6 : Int} {v7 : Int} {v8 : Int} {v9 : Int} {v10 : Int} {s : gMem} (hf : [] ⊆ fs) (ho : [14, 20, 21, 22, 23, 24, 25] ⊆ os) (hs : FT h fs os σ0 s) : Fo (fun r => FT h fs os σ0 r) (tw_shift_j206 N h v1 v6 v7 v8 v9 v10 s) := by
  unfold tw_shift_j206
  exact (ft_tw_shift_j207 hf ho  hs)
theorem ft_tw_shift_j180 {fs os : List Nat} {σ0 : gMem} {N : Nat} {h : Nat} {v1 : Int} {v6 : Int} {v7 : Int} {v8 : Int} {v9 : Int} {t0 : Int} {s : gMem} (hf : [] ⊆ fs) (ho : [14, 20, 21, 22, 23, 24, 25] ⊆ os) (hs : FT h fs os σ0 s) : Fo (fun r => FT h fs os σ0 r) (tw_shift_j180 N h v1 v6 v7 v8 v9 t0 s) := by
  unfold tw_shift_j180
  refine Fo.ite (fun _ => ?_) (fun _ => ?_)
  · exact (ft_tw_shift_j206 hf ho  hs)
  · refine Fo.ite (fun _ => ?_) (fun _ => ?_)
    · exact (ft_tw_shift_j206 hf ho  hs)
    · refine Fo.ite (fun _ => ?_) (fun _ => ?_)
      · exact (ft_tw_shift_j206 hf ho  hs)
      · refine Fo.ite (fun _ => ?_) (fun _ => ?_)
        · exact (ft_tw_shift_j206 hf ho  hs)
        · exact (ft_tw_shift_j207 hf ho  hs)
theorem ft_tw_shift_j139 {fs os : List Nat} {σ0 : gMem} {N : Nat} {h : Nat} {v1 : Int} {v3 : Int} {v4 : Int} {v5 : Int} {v6 : Int} {v7 : Int} {v8 : Int} {t0 : Int} {s : gMem} (hf : [] ⊆ fs) (ho : [14, 20, 21, 22, 23, 24, 25] ⊆ os) (hs : FT h fs os σ0 s) : Fo (fun r => FT h fs os σ0 r) (tw_shift_j139 N h v1 v3 v4 v5 v6 v7 v8 t0 s) := by
  unfold tw_shift_j139
  refine Fo.ite (fun _ => ?_) (fun _ => ?_)
  · refine Fo.ite (fun _ => ?_) (fun _ => ?_)
    · refine Fo.ite (fun _ => ?_) (fun _ => Fo.none)
      refine Fo.pure (fun x15 => ?_)
      exact (ft_tw_shift_j180 hf ho  hs)
    · refine Fo.ite (fun _ => ?_) (fun _ => Fo.none)
      exact (ft_tw_shift_j180 hf ho  hs)
  · exact (ft_tw_shift_j180 hf ho  hs)
theorem ft_tw_shift_j97 {fs os : List Nat} {σ0 : gMem} {N : Nat} {h : Nat} {v1 : Int} {v2 : Int} {v3 : Int} {v4 : Int} {v5 : Int} {v6 : Int} {v7 : Int} {t0 : Int} {s : gMem} (hf : [] ⊆ fs) (ho : [14, 20, 21, 22, 23, 24, 25] ⊆ os) (hs : FT h fs os σ0 s) : Fo (fun r => FT h fs os σ0 r) (tw_shift_j97 N h v1 v2 v3 v4 v5 v6 v7 t0 s) := by
  unfold tw_shift_j97
  refine Fo.ite (fun _ => ?_) (fun _ => ?_)
  · refine Fo.ite (fun _ => ?_) (fun _ => ?_)
    · refine Fo.ite (fun _ => ?_) (fun _ => Fo.none)
      refine Fo.pure (fun x12 => ?_)
      exact (ft_tw_shift_j139 hf ho  hs)
    · refine Fo.ite (fun _ => ?_) (fun _ => Fo.none)
      exact (ft_tw_shift_j139 hf ho  hs)
  · exact (ft_tw_shift_j139 hf ho  hs)
theorem ft_tw_shift_j65 {fs os : List Nat} {σ0 : gMem} {N : Nat} {h : Nat} {v1 : Int} {v2 : Int} {v3 : Int} {v4 : Int} {v5 : Int} {v6 : Int} {t0 : Int} {s : gMem} (hf : [] ⊆ fs) (ho : [14, 20, 21, 22, 23, 24, 25] ⊆ os) (hs : FT h fs os σ0 s) : Fo (fun r => FT h fs os σ0 r) (tw_shift_j65 N h v1 v2 v3 v4 v5 v6 t0 s) := by
  unfold tw_shift_j65
  refine Fo.ite (fun _ => ?_) (fun _ => ?_)
  · refine Fo.ite (fun _ => ?_) (fun _ => Fo.none)
    refine Fo.pure (fun x9 => ?_)
    exact (ft_tw_shift_j97 hf ho  hs)
  · refine Fo.ite (fun _ => ?_) (fun _ => Fo.none)
    exact (ft_tw_shift_j97 hf ho  hs)
theorem ft_tw_shift_j33 {fs os : List Nat} {σ0 : gMem} {N : Nat} {h : Nat} {v1 : Int} {v2 : Int} {v3 : Int} {v4 : Int} {v5 : Int} {t0 : Int} {s : gMem} (hf : [] ⊆ fs) (ho : [14, 20, 21, 22, 23, 24, 25] ⊆ os) (hs : FT h fs os σ0 s) : Fo (fun r => FT h fs os σ0 r) (tw_shift_j33 N h v1 v2 v3 v4 v5 t0 s) := by
  unfold tw_shift_j33
  refine Fo.ite (fun _ => ?_) (fun _ => ?_)
  · refine Fo.ite (fun _ => ?_) (fun _ => Fo.none)
    refine Fo.pure (fun x6 => ?_)
    exact (ft_tw_shift_j65 hf ho  hs)
  · refine Fo.ite (fun _ => ?_) (fun _ => Fo.none)
    exact (ft_tw_shift_j65 hf ho  hs)
theorem ft_tw_shift {fs os : List Nat} {σ0 : gMem} {N : Nat} {h : Nat} {v1 : Int} {v2 : Int} {v3 : Int} {σ : gMem} (hf : [] ⊆ fs) (ho : [14, 20, 21, 22, 23, 24, 25] ⊆ os) (hσ : FT h fs os σ0 σ) : Fo (fun r => FT h fs os σ0 r) (tw_shift N h v1 v2 v3 σ) := by
  unfold tw_shift
  refine Fo.pure (fun x1 => ?_)
  refine Fo.ite (fun _ => ?_) (fun _ => Fo.none)
  refine Fo.ite (fun _ => ?_) (fun _ => Fo.none)
  refine Fo.ite (fun _ => ?_) (fun _ => ?_)
  · exact (ft_tw_shift_j33 hf ho  hσ)
  · exact (ft_tw_shift_j33 hf ho  hσ)
theorem ft_tw_newCell_j174 {fs os : List Nat} {σ0 : gMem} {N : Nat} {h : Nat} {v3 : Int} {v4 : Int} {v10 : Int} {s : gMem} (hf : [] ⊆ fs) (ho : [5] ⊆ os) (hs : FT h fs os σ0 s) : Fo (fun r => FT h fs os σ0 r) (tw_newCell_j174 N h v3 v4 v10 s) := by
  unfold tw_newCell_j174
  refine Fo.ite (fun _ => ?_) (fun _ => Fo.none)
  refine FT.letI hs (ho (by decide)) (fun s11 q536 => ?_)
  exact Fo.some q536
theorem ft_tw_newCell_j88 {fs os : List Nat} {σ0 : gMem} {N : Nat} {h : Nat} {v3 : Int} {v4 : Int} {t0 : Int} {s : gMem} (hf : [] ⊆ fs) (ho : [5] ⊆ os) (hs : FT h fs os σ0 s) : Fo (fun r => FT h fs os σ0 r) (tw_newCell_j88 N h v3 v4 t0 s) := by
  unfold tw_newCell_j88
  exact (ft_tw_newCell_j174 hf ho  hs)
theorem ft_tw_newCell_j66 {fs os : List Nat} {σ0 : gMem} {N : Nat} {h : Nat} {v3 : Int} {v4 : Int} {v5 : Int} {v6 : Int} {v7 : Int} {v8 : Int} {t0 : Int} {s : gMem} (hf : [98] ⊆ fs) (ho : [5, 46, 47, 48, 49, 50, 51, 52] ⊆ os) (hs : FT h fs os σ0 s) : Fo (fun r => FT h fs os σ0 r) (tw_newCell_j66 N h v3 v4 v5 v6 v7 v8 t0 s) := by
  unfold tw_newCell_j66
  refine Fo.ite (fun _ => ?_) (fun _ => ?_)
  · refine Fo.ite (fun _ => ?_) (fun _ => ?_)
    · exact (ft_tw_newCell_j174 (List.nil_subset _) (List.Subset.trans (by decide) ho)  hs)
    · refine Fo.pure (fun x14 => ?_)
      refine Fo.ite (fun _ => ?_) (fun _ => ?_)
      · exact (ft_tw_newCell_j174 (List.nil_subset _) (List.Subset.trans (by decide) ho)  hs)
      · refine Fo.pure (fun x16 => ?_)
        refine Fo.ite (fun _ => ?_) (fun _ => ?_)
        · exact (ft_tw_newCell_j174 (List.nil_subset _) (List.Subset.trans (by decide) ho)  hs)
        · refine Fo.pure (fun x18 => ?_)
          refine Fo.ite (fun _ => ?_) (fun _ => ?_)
          · refine Fo.bind (ft_tw_clash hf (List.Subset.trans (by decide) ho)  hs) (fun x20 q537 => ?_)
            refine Fo.ite (fun _ => ?_) (fun _ => Fo.none)
            refine FT.letI q537 (ho (by decide)) (fun s24 q538 => ?_)
            refine Fo.ite (fun _ => ?_) (fun _ => Fo.none)
            refine FT.letI q538 (ho (by decide)) (fun s28 q539 => ?_)
            exact (ft_tw_newCell_j174 (List.nil_subset _) (List.Subset.trans (by decide) ho)  q539)
          · exact (ft_tw_newCell_j174 (List.nil_subset _) (List.Subset.trans (by decide) ho)  hs)
  · refine Fo.ite (fun _ => ?_) (fun _ => ?_)
    · exact (ft_tw_newCell_j88 (List.nil_subset _) (List.Subset.trans (by decide) ho)  hs)
    · exact (ft_tw_newCell_j88 (List.nil_subset _) (List.Subset.trans (by decide) ho)  hs)
theorem ft_tw_newCell {fs os : List Nat} {σ0 : gMem} {N : Nat} {h : Nat} {v1 : Int} {v2 : Int} {v3 : Int} {v4 : Int} {σ : gMem} (hf : [98] ⊆ fs) (ho : [5, 46, 47, 48, 49, 50, 51, 52] ⊆ os) (hσ : FT h fs os σ0 σ) : Fo (fun r => FT h fs os σ0 r) (tw_newCell N h v1 v2 v3 v4 σ) := by
  unfold tw_newCell
  refine Fo.pure (fun x1 => ?_)
  refine Fo.pure (fun x3 => ?_)
  refine Fo.pure (fun x5 => ?_)
  refine Fo.pure (fun x7 => ?_)
  refine Fo.pure (fun x9 => ?_)
  refine Fo.ite (fun _ => ?_) (fun _ => ?_)
  · exact (ft_tw_newCell_j66 hf ho  hσ)
  · exact (ft_tw_newCell_j66 hf ho  hσ)
theorem ft_tw_diff_l46 {fs os : List Nat} {σ0 : gMem} {N : Nat} {h : Nat} {v3 : Int} {v4 : Int} {K : gMem → Option (Int × gMem)} (hf : [104] ⊆ fs) (ho : [54, 55, 56] ⊆ os) (hK : ∀ (a0 : gMem), FT h fs os σ0 a0 → Fo (fun r => FT h fs os σ0 r.2) (K a0)) : ∀ (n : Nat) (z0 : Int) (z1 : gMem), FT h fs os σ0 z1 → Fo (fun r => FT h fs os σ0 r.2) (tw_diff_l46 N h v3 v4 K n z0 z1) := by
  intro n
  induction n with
  | zero => intros; exact Fo.none
  | succ n ih =>
    intro v5 s hs
    unfold tw_diff_l46
    refine Fo.ite (fun _ => ?_) (fun _ => ?_)
    · exact (hK _ hs)
    · refine Fo.bind (ft_tw_linesAlone hf ho  hs) (fun x19 q540 => ?_)
      refine Fo.bind (ft_tw_linesAlone hf ho  q540) (fun x22 q541 => ?_)
      exact (ih _ _ q541)
theorem ft_tw_diff_l91_j121 {fs os : List Nat} {σ0 : gMem} {N : Nat} {h : Nat} {v3 : Int} {v4 : Int} {v5 : Int} {Kh : Int → gMem → Option (Int × gMem)} {K : gMem → Option (Int × gMem)} {s : gMem} (hf : [] ⊆ fs) (ho : [] ⊆ os) (hKh : ∀ (a0 : Int) (a1 : gMem), FT h fs os σ0 a1 → Fo (fun r => FT h fs os σ0 r.2) (Kh a0 a1)) (hK : ∀ (a0 : gMem), FT h fs os σ0 a0 → Fo (fun r => FT h fs os σ0 r.2) (K a0)) (hs : FT h fs os σ0 s) : Fo (fun r => FT h fs os σ0 r.2) (tw_diff_l91_j121 N h v3 v4 v5 Kh K s) := by
  unfold tw_diff_l91_j121
  exact (hKh _ _ hs)
theorem ft_tw_diff_l91 {fs os : List Nat} {σ0 : gMem} {N : Nat} {h : Nat} {v3 : Int} {v4 : Int} {K : gMem → Option (Int × gMem)} (hf : [104] ⊆ fs) (ho : [54, 55, 56] ⊆ os) (hK : ∀ (a0 : gMem), FT h fs os σ0 a0 → Fo (fun r => FT h fs os σ0 r.2) (K a0)) : ∀ (n : Nat) (z0 : Int) (z1 : gMem), FT h fs os σ0 z1 → Fo (fun r => FT h fs os σ0 r.2) (tw_diff_l91 N h v3 v4 K n z0 z1) := by
  intro n
  induction n with
  | zero => intros; exact Fo.none
  | succ n ih =>
    intro v5 s hs
    unfold tw_diff_l91
    refine Fo.ite (fun _ => ?_) (fun _ => ?_)
    · exact (hK _ hs)
    · refine Fo.pure (fun x27 => ?_)
      refine Fo.ite (fun _ => ?_) (fun _ => ?_)
      · exact (ft_tw_diff_l91_j121 (List.nil_subset _) (List.nil_subset _) (fun a0 a1 b1 => ih a0 a1 b1) hK hs)
      · refine Fo.bind (ft_tw_differ hf ho  hs) (fun x29 q542 => ?_)
        exact (ft_tw_diff_l91_j121 (List.nil_subset _) (List.nil_subset _) (fun a0 a1 b1 => ih a0 a1 b1) hK q542)
theorem ft_tw_diff_l130_j243 {fs os : List Nat} {σ0 : gMem} {N : Nat} {h : Nat} {v3 : Int} {v4 : Int} {v5 : Int} {Kh : Int → gMem → Option (Int × gMem)} {K : gMem → Option (Int × gMem)} {s : gMem} (hf : [] ⊆ fs) (ho : [] ⊆ os) (hKh : ∀ (a0 : Int) (a1 : gMem), FT h fs os σ0 a1 → Fo (fun r => FT h fs os σ0 r.2) (Kh a0 a1)) (hK : ∀ (a0 : gMem), FT h fs os σ0 a0 → Fo (fun r => FT h fs os σ0 r.2) (K a0)) (hs : FT h fs os σ0 s) : Fo (fun r => FT h fs os σ0 r.2) (tw_diff_l130_j243 N h v3 v4 v5 Kh K s) := by
  unfold tw_diff_l130_j243
  exact (hKh _ _ hs)
theorem ft_tw_diff_l130 {fs os : List Nat} {σ0 : gMem} {N : Nat} {h : Nat} {v3 : Int} {v4 : Int} {K : gMem → Option (Int × gMem)} (hf : [104] ⊆ fs) (ho : [54, 55, 56] ⊆ os) (hK : ∀ (a0 : gMem), FT h fs os σ0 a0 → Fo (fun r => FT h fs os σ0 r.2) (K a0)) : ∀ (n : Nat) (z0 : Int) (z1 : gMem), FT h fs os σ0 z1 → Fo (fun r => FT h fs os σ0 r.2) (tw_diff_l130 N h v3 v4 K n z0 z1) := by
  intro n
  induction n with
  | zero => intros; exact Fo.none
  | succ n ih =>
    intro v5 s hs
    unfold tw_diff_l130
    refine Fo.ite (fun _ => ?_) (fun _ => ?_)
    · exact (hK _ hs)
    · refine Fo.ite (fun _ => ?_) (fun _ => Fo.none)
      refine Fo.ite (fun _ => ?_) (fun _ => ?_)
      · exact (ft_tw_diff_l130_j243 (List.nil_subset _) (List.nil_subset _) (fun a0 a1 b1 => ih a0 a1 b1) hK hs)
      · refine Fo.ite (fun _ => ?_) (fun _ => Fo.none)
        refine Fo.ite (fun _ => ?_) (fun _ => ?_)
        · exact (ft_tw_diff_l130_j243 (List.nil_subset _) (List.nil_subset _) (fun a0 a1 b1 => ih a0 a1 b1) hK hs)
        · refine Fo.pure (fun x36 => ?_)
          refine Fo.pure (fun x38 => ?_)
          refine Fo.pure (fun x40 => ?_)
          refine Fo.ite (fun _ => ?_) (fun _ => ?_)
          · exact (ft_tw_diff_l130_j243 (List.nil_subset _) (List.nil_subset _) (fun a0 a1 b1 => ih a0 a1 b1) hK hs)
          · refine Fo.ite (fun _ => ?_) (fun _ => Fo.none)
            refine Fo.pure (fun x43 => ?_)
            refine Fo.ite (fun _ => ?_) (fun _ => ?_)
            · exact (ft_tw_diff_l130_j243 (List.nil_subset _) (List.nil_subset _) (fun a0 a1 b1 => ih a0 a1 b1) hK hs)
            · refine Fo.bind (ft_tw_differ hf ho  hs) (fun x45 q543 => ?_)
              exact (ft_tw_diff_l130_j243 (List.nil_subset _) (List.nil_subset _) (fun a0 a1 b1 => ih a0 a1 b1) hK q543)
theorem ft_tw_diff {fs os : List Nat} {σ0 : gMem} {N : Nat} {h : Nat} {v1 : Int} {v2 : Int} {σ : gMem} (hf : [0, 104] ⊆ fs) (ho : [54, 55, 56] ⊆ os) (hσ : FT h fs os σ0 σ) : Fo (fun r => FT h fs os σ0 r.2) (tw_diff N h v1 v2 σ) := by
  unfold tw_diff
  refine FT.letIf hσ (hf (by decide)) (fun s1 q544 => ?_)
  refine Fo.pure (fun x4 => ?_)
  refine Fo.ite (fun _ => ?_) (fun _ => ?_)
  · refine Fo.bind (ft_tw_throwing (List.Subset.trans (by decide) hf) (List.nil_subset _)  q544) (fun x6 q545 => ?_)
    exact Fo.some q545
  · refine Fo.pure (fun x10 => ?_)
    refine Fo.ite (fun _ => ?_) (fun _ => ?_)
    · refine Fo.pure (fun x12 => ?_)
      refine Fo.pure (fun x14 => ?_)
      refine FT.letIf q544 (hf (by decide)) (fun s16 q546 => ?_)
      exact (ft_tw_diff_l46 (List.Subset.trans (by decide) hf) ho (fun s25 q547 => by
      exact (ft_tw_diff_l91 (List.Subset.trans (by decide) hf) ho (fun s32 q549 => by
        exact (ft_tw_diff_l130 (List.Subset.trans (by decide) hf) ho (fun s48 q551 => by
          exact Fo.some q551)  _ _ _ q549))  _ _ _ q547))  _ _ _ q546)
    · refine Fo.bind (ft_tw_throwing (List.Subset.trans (by decide) hf) (List.nil_subset _)  q544) (fun x51 q553 => ?_)
      exact Fo.some q553
theorem ft_tw_readSum_l4 {fs os : List Nat} {σ0 : gMem} {N : Nat} {W : gMem → Option gMem} {h : Nat} {K : gMem → Option gMem} (hf : [46, 47, 48, 49, 50, 51, 52, 53, 54, 55, 56] ⊆ fs) (ho : [14, 15, 16, 17, 18, 19, 20, 21, 22, 23, 24, 25] ⊆ os) (hW : ∀ (a0 : gMem), FT h fs os σ0 a0 → Fo (fun r => FT h fs os σ0 r) (W a0)) (hK : ∀ (a0 : gMem), FT h fs os σ0 a0 → Fo (fun r => FT h fs os σ0 r) (K a0)) : ∀ (n : Nat) (z0 : gMem), FT h fs os σ0 z0 → Fo (fun r => FT h fs os σ0 r) (tw_readSum_l4 N W h K n z0) := by
  intro n
  induction n with
  | zero => intros; exact Fo.none
  | succ n ih =>
    intro s hs
    unfold tw_readSum_l4
    refine Fo.pure (fun x4 => ?_)
    refine Fo.ite (fun _ => ?_) (fun _ => ?_)
    · exact (hK _ hs)
    · refine Fo.bind (ft_tw_next (List.Subset.trans (by decide) hf) (List.nil_subset _)  hs) (fun x7 q554 => ?_)
      refine Fo.bind (ft_tw_readProduct hf ho hW q554) (fun x10 q555 => ?_)
      refine Fo.bind (ft_tw_part (List.Subset.trans (by decide) hf) ho  q555) (fun x13 q556 => ?_)
      exact (ih _ q556)
theorem ft_tw_readSum {fs os : List Nat} {σ0 : gMem} {N : Nat} {W : gMem → Option gMem} {h : Nat} {σ : gMem} (hf : [46, 47, 48, 49, 50, 51, 52, 53, 54, 55, 56] ⊆ fs) (ho : [14, 15, 16, 17, 18, 19, 20, 21, 22, 23, 24, 25] ⊆ os) (hW : ∀ (a0 : gMem), FT h fs os σ0 a0 → Fo (fun r => FT h fs os σ0 r) (W a0)) (hσ : FT h fs os σ0 σ) : Fo (fun r => FT h fs os σ0 r) (tw_readSum N W h σ) := by
  unfold tw_readSum
  refine Fo.bind (ft_tw_readProduct hf ho hW hσ) (fun x1 q557 => ?_)
  exact (ft_tw_readSum_l4 hf ho hW (fun s17 q558 => by
      exact Fo.some q558)  _ _ q557)
theorem ft_tw_leadsOf_l16_j149 {fs os : List Nat} {σ0 : gMem} {N : Nat} {h : Nat} {v1 : Int} {v2 : Int} {v3 : Int} {v4 : Int} {Kh : Int → gMem → Option gMem} {K : gMem → Option gMem} {s : gMem} (hf : [] ⊆ fs) (ho : [] ⊆ os) (hKh : ∀ (a0 : Int) (a1 : gMem), FT h fs os σ0 a1 → Fo (fun r => FT h fs os σ0 r) (Kh a0 a1)) (hK : ∀ (a0 : gMem), FT h fs os σ0 a0 → Fo (fun r => FT h fs os σ0 r) (K a0)) (hs : FT h fs os σ0 s) : Fo (fun r => FT h fs os σ0 r) (tw_leadsOf_l16_j149 N h v1 v2 v3 v4 Kh K s) := by
  unfold tw_leadsOf_l16_j149
  exact (hKh _ _ hs)
theorem ft_tw_leadsOf_l117 {fs os : List Nat} {σ0 : gMem} {N : Nat} {h : Nat} {v1 : Int} {v2 : Int} {v3 : Int} {v4 : Int} {K : gMem → Option gMem} (hf : [] ⊆ fs) (ho : [38] ⊆ os) (hK : ∀ (a0 : gMem), FT h fs os σ0 a0 → Fo (fun r => FT h fs os σ0 r) (K a0)) : ∀ (n : Nat) (z0 : Int) (z1 : gMem), FT h fs os σ0 z1 → Fo (fun r => FT h fs os σ0 r) (tw_leadsOf_l117 N h v1 v2 v3 v4 K n z0 z1) := by
  intro n
  induction n with
  | zero => intros; exact Fo.none
  | succ n ih =>
    intro v6 s hs
    unfold tw_leadsOf_l117
    refine Fo.pure (fun x9 => ?_)
    refine Fo.ite (fun _ => ?_) (fun _ => ?_)
    · exact (hK _ hs)
    · refine Fo.pure (fun x11 => ?_)
      refine Fo.bind (ft_tw_lead hf ho  hs) (fun x13 q560 => ?_)
      exact (ih _ _ q560)
theorem ft_tw_leadsOf_l16_j104 {fs os : List Nat} {σ0 : gMem} {N : Nat} {h : Nat} {v1 : Int} {v2 : Int} {v3 : Int} {v4 : Int} {v5 : Int} {Kh : Int → gMem → Option gMem} {K : gMem → Option gMem} {s : gMem} (hf : [71, 72, 73, 74, 75] ⊆ fs) (ho : [38] ⊆ os) (hKh : ∀ (a0 : Int) (a1 : gMem), FT h fs os σ0 a1 → Fo (fun r => FT h fs os σ0 r) (Kh a0 a1)) (hK : ∀ (a0 : gMem), FT h fs os σ0 a0 → Fo (fun r => FT h fs os σ0 r) (K a0)) (hs : FT h fs os σ0 s) : Fo (fun r => FT h fs os σ0 r) (tw_leadsOf_l16_j104 N h v1 v2 v3 v4 v5 Kh K s) := by
  unfold tw_leadsOf_l16_j104
  refine Fo.bind (ft_tw_area hf (List.nil_subset _)  hs) (fun x5 q561 => ?_)
  refine Fo.ite (fun _ => ?_) (fun _ => ?_)
  · exact (ft_tw_leadsOf_l16_j149 (List.nil_subset _) (List.nil_subset _) hKh hK q561)
  · exact (ft_tw_leadsOf_l117 (List.nil_subset _) ho (fun s16 q562 => by
      exact (ft_tw_leadsOf_l16_j149 (List.nil_subset _) (List.nil_subset _) hKh hK q562))  _ _ _ q561)
theorem ft_tw_leadsOf_l16 {fs os : List Nat} {σ0 : gMem} {N : Nat} {h : Nat} {v1 : Int} {v2 : Int} {v3 : Int} {K : gMem → Option gMem} (hf : [71, 72, 73, 74, 75] ⊆ fs) (ho : [38] ⊆ os) (hK : ∀ (a0 : gMem), FT h fs os σ0 a0 → Fo (fun r => FT h fs os σ0 r) (K a0)) : ∀ (n : Nat) (z0 : Int) (z1 : gMem), FT h fs os σ0 z1 → Fo (fun r => FT h fs os σ0 r) (tw_leadsOf_l16 N h v1 v2 v3 K n z0 z1) := by
  intro n
  induction n with
  | zero => intros; exact Fo.none
  | succ n ih =>
    intro v4 s hs
    unfold tw_leadsOf_l16
    refine Fo.ite (fun _ => ?_) (fun _ => Fo.none)
    refine Fo.ite (fun _ => ?_) (fun _ => ?_)
    · exact (hK _ hs)
    · refine Fo.ite (fun _ => ?_) (fun _ => Fo.none)
      refine Fo.ite (fun _ => ?_) (fun _ => ?_)
      · refine Fo.ite (fun _ => ?_) (fun _ => Fo.none)
        refine Fo.ite (fun _ => ?_) (fun _ => ?_)
        · exact (ft_tw_leadsOf_l16_j104 hf ho (fun a0 a1 b1 => ih a0 a1 b1) hK hs)
        · refine Fo.ite (fun _ => ?_) (fun _ => Fo.none)
          refine Fo.ite (fun _ => ?_) (fun _ => ?_)
          · exact (ft_tw_leadsOf_l16_j104 hf ho (fun a0 a1 b1 => ih a0 a1 b1) hK hs)
          · refine Fo.pure (fun x19 => ?_)
            refine Fo.ite (fun _ => ?_) (fun _ => ?_)
            · exact (ft_tw_leadsOf_l16_j149 (List.nil_subset _) (List.nil_subset _) (fun a0 a1 b1 => ih a0 a1 b1) hK hs)
            · refine Fo.bind (ft_tw_lead (List.nil_subset _) ho  hs) (fun x21 q564 => ?_)
              exact (ft_tw_leadsOf_l16_j149 (List.nil_subset _) (List.nil_subset _) (fun a0 a1 b1 => ih a0 a1 b1) hK q564)
      · exact (ft_tw_leadsOf_l16_j149 (List.nil_subset _) (List.nil_subset _) (fun a0 a1 b1 => ih a0 a1 b1) hK hs)
theorem ft_tw_leadsOf {fs os : List Nat} {σ0 : gMem} {N : Nat} {h : Nat} {v1 : Int} {v2 : Int} {σ : gMem} (hf : [71, 72, 73, 74, 75] ⊆ fs) (ho : [38] ⊆ os) (hσ : FT h fs os σ0 σ) : Fo (fun r => FT h fs os σ0 r) (tw_leadsOf N h v1 v2 σ) := by
  unfold tw_leadsOf
  refine Fo.ite (fun _ => ?_) (fun _ => Fo.none)
  exact (ft_tw_leadsOf_l16 hf ho (fun s24 q565 => by
      exact Fo.some q565)  _ _ _ hσ)
theorem ft_tw_workTwo {fs os : List Nat} {σ0 : gMem} {N : Nat} {W : Int → Int → Int → gMem → Option gMem} {h : Nat} {v1 : Int} {v2 : Int} {v3 : Int} {σ : gMem} (hf : [] ⊆ fs) (ho : [33, 34, 35, 36, 37] ⊆ os) (hW : ∀ (a0 : Int) (a1 : Int) (a2 : Int) (a3 : gMem), FT h fs os σ0 a3 → Fo (fun r => FT h fs os σ0 r) (W a0 a1 a2 a3)) (hσ : FT h fs os σ0 σ) : Fo (fun r => FT h fs os σ0 r) (tw_workTwo N W h v1 v2 v3 σ) := by
  unfold tw_workTwo
  refine Fo.pure (fun x1 => ?_)
  refine Fo.bind (hW _ _ _ _ hσ) (fun x3 q567 => ?_)
  refine Fo.ite (fun _ => ?_) (fun _ => Fo.none)
  refine Fo.ite (fun _ => ?_) (fun _ => ?_)
  · refine Fo.pure (fun x7 => ?_)
    refine Fo.bind (hW _ _ _ _ q567) (fun x9 q568 => ?_)
    refine Fo.ite (fun _ => ?_) (fun _ => Fo.none)
    refine Fo.ite (fun _ => ?_) (fun _ => Fo.none)
    refine Fo.ite (fun _ => ?_) (fun _ => ?_)
    · refine Fo.ite (fun _ => ?_) (fun _ => ?_)
      · refine Fo.ite (fun _ => ?_) (fun _ => ?_)
        · refine Fo.bind (ft_tw_wantsNumber hf (List.Subset.trans (by decide) ho)  q568) (fun x14 q569 => ?_)
          refine Fo.ite (fun _ => ?_) (fun _ => ?_)
          · exact Fo.some q569
          · refine Fo.bind (ft_tw_wantsNumber hf (List.Subset.trans (by decide) ho)  q569) (fun x18 q570 => ?_)
            refine Fo.ite (fun _ => ?_) (fun _ => ?_)
            · refine Fo.bind (ft_tw_error hf (List.Subset.trans (by decide) ho)  q570) (fun x22 q571 => ?_)
              exact Fo.some q571
            · refine Fo.bind (ft_tw_reckon hf (List.Subset.trans (by decide) ho)  q570) (fun x25 q572 => ?_)
              exact Fo.some q572
        · refine Fo.bind (ft_tw_join hf ho  q568) (fun x28 q573 => ?_)
          exact Fo.some q573
      · refine Fo.bind (ft_tw_compare hf (List.Subset.trans (by decide) ho)  q568) (fun x31 q574 => ?_)
        exact Fo.some q574
    · refine Fo.bind (ft_tw_bring hf (List.Subset.trans (by decide) ho)  q568) (fun x34 q575 => ?_)
      exact Fo.some q575
  · exact Fo.some q567
theorem ft_tw_countOne_j109 {fs os : List Nat} {σ0 : gMem} {N : Nat} {h : Nat} {v1 : Int} {v3 : Int} {t0 : Int} {s : gMem} (hf : [76, 77, 78, 79, 80] ⊆ fs) (ho : [] ⊆ os) (hs : FT h fs os σ0 s) : Fo (fun r => FT h fs os σ0 r.2) (tw_countOne_j109 N h v1 v3 t0 s) := by
  unfold tw_countOne_j109
  refine Fo.ite (fun _ => ?_) (fun _ => ?_)
  · refine Fo.ite (fun _ => ?_) (fun _ => Fo.none)
    exact Fo.some hs
  · refine Fo.bind (ft_tw_count hf ho  hs) (fun x7 q576 => ?_)
    refine Fo.ite (fun _ => ?_) (fun _ => Fo.none)
    exact Fo.some q576
theorem ft_tw_countOne_j78 {fs os : List Nat} {σ0 : gMem} {N : Nat} {h : Nat} {v4 : Int} {s : gMem} (hf : [] ⊆ fs) (ho : [] ⊆ os) (hs : FT h fs os σ0 s) : Fo (fun r => FT h fs os σ0 r.2) (tw_countOne_j78 N h v4 s) := by
  unfold tw_countOne_j78
  refine Fo.ite (fun _ => ?_) (fun _ => ?_)
  · exact Fo.some hs
  · exact Fo.some hs
theorem ft_tw_countOne_j60 {fs os : List Nat} {σ0 : gMem} {N : Nat} {h : Nat} {v1 : Int} {v3 : Int} {t0 : Int} {s : gMem} (hf : [76, 77, 78, 79, 80] ⊆ fs) (ho : [] ⊆ os) (hs : FT h fs os σ0 s) : Fo (fun r => FT h fs os σ0 r.2) (tw_countOne_j60 N h v1 v3 t0 s) := by
  unfold tw_countOne_j60
  refine Fo.ite (fun _ => ?_) (fun _ => Fo.none)
  refine Fo.ite (fun _ => ?_) (fun _ => ?_)
  · exact (ft_tw_countOne_j78 (List.nil_subset _) ho  hs)
  · refine Fo.bind (ft_tw_count hf ho  hs) (fun x16 q577 => ?_)
    exact (ft_tw_countOne_j78 (List.nil_subset _) ho  q577)
theorem ft_tw_countOne_j59 {fs os : List Nat} {σ0 : gMem} {N : Nat} {h : Nat} {v1 : Int} {v3 : Int} {s : gMem} (hf : [76, 77, 78, 79, 80] ⊆ fs) (ho : [] ⊆ os) (hs : FT h fs os σ0 s) : Fo (fun r => FT h fs os σ0 r.2) (tw_countOne_j59 N h v1 v3 s) := by
  unfold tw_countOne_j59
  exact (ft_tw_countOne_j60 hf ho  hs)
theorem ft_tw_countOne_j55 {fs os : List Nat} {σ0 : gMem} {N : Nat} {h : Nat} {v1 : Int} {v3 : Int} {s : gMem} (hf : [76, 77, 78, 79, 80] ⊆ fs) (ho : [] ⊆ os) (hs : FT h fs os σ0 s) : Fo (fun r => FT h fs os σ0 r.2) (tw_countOne_j55 N h v1 v3 s) := by
  unfold tw_countOne_j55
  exact (ft_tw_countOne_j60 hf ho  hs)
theorem ft_tw_countOne {fs os : List Nat} {σ0 : gMem} {N : Nat} {h : Nat} {v1 : Int} {v2 : Int} {v3 : Int} {σ : gMem} (hf : [76, 77, 78, 79, 80] ⊆ fs) (ho : [33, 34] ⊆ os) (hσ : FT h fs os σ0 σ) : Fo (fun r => FT h fs os σ0 r.2) (tw_countOne N h v1 v2 v3 σ) := by
  unfold tw_countOne
  refine Fo.ite (fun _ => ?_) (fun _ => ?_)
  · refine Fo.pure (fun x1 => ?_)
    refine Fo.ite (fun _ => ?_) (fun _ => ?_)
    · refine Fo.bind (ft_tw_wantsNumber (List.nil_subset _) ho  hσ) (fun x3 q578 => ?_)
      exact (ft_tw_countOne_j109 hf (List.nil_subset _)  q578)
    · refine Fo.bind (ft_tw_wantsTruth (List.nil_subset _) ho  hσ) (fun x10 q579 => ?_)
      exact (ft_tw_countOne_j109 hf (List.nil_subset _)  q579)
  · refine Fo.ite (fun _ => ?_) (fun _ => Fo.none)
    refine Fo.ite (fun _ => ?_) (fun _ => ?_)
    · exact (ft_tw_countOne_j59 hf (List.nil_subset _)  hσ)
    · refine Fo.ite (fun _ => ?_) (fun _ => Fo.none)
      refine Fo.ite (fun _ => ?_) (fun _ => ?_)
      · exact (ft_tw_countOne_j59 hf (List.nil_subset _)  hσ)
      · refine Fo.ite (fun _ => ?_) (fun _ => Fo.none)
        refine Fo.ite (fun _ => ?_) (fun _ => ?_)
        · exact (ft_tw_countOne_j55 hf (List.nil_subset _)  hσ)
        · refine Fo.ite (fun _ => ?_) (fun _ => Fo.none)
          refine Fo.ite (fun _ => ?_) (fun _ => ?_)
          · exact (ft_tw_countOne_j59 hf (List.nil_subset _)  hσ)
          · refine Fo.pure (fun x22 => ?_)
            refine Fo.ite (fun _ => ?_) (fun _ => ?_)
            · exact (ft_tw_countOne_j59 hf (List.nil_subset _)  hσ)
            · exact (ft_tw_countOne_j55 hf (List.nil_subset _)  hσ)
theorem ft_tw_write_j124 {fs os : List Nat} {σ0 : gMem} {N : Nat} {h : Nat} {v3 : Int} {s : gMem} (hf : [87] ⊆ fs) (ho : [42] ⊆ os) (hs : FT h fs os σ0 s) : Fo (fun r => FT h fs os σ0 r) (tw_write_j124 N h v3 s) := by
  unfold tw_write_j124
  refine Fo.ite (fun _ => ?_) (fun _ => Fo.none)
  refine Fo.ite (fun _ => ?_) (fun _ => Fo.none)
  refine Fo.bind (ft_tw_putLetters hf ho  hs) (fun x14 q580 => ?_)
  exact Fo.some q580
theorem ft_tw_write {fs os : List Nat} {σ0 : gMem} {N : Nat} {h : Nat} {v1 : Int} {v2 : Int} {σ : gMem} (hf : [87] ⊆ fs) (ho : [37, 42] ⊆ os) (hσ : FT h fs os σ0 σ) : Fo (fun r => FT h fs os σ0 r) (tw_write N h v1 v2 σ) := by
  unfold tw_write
  refine FT.letIf hσ (hf (by decide)) (fun s1 q581 => ?_)
  refine Fo.ite (fun _ => ?_) (fun _ => ?_)
  · refine Fo.pure (fun x4 => ?_)
    refine Fo.ite (fun _ => ?_) (fun _ => ?_)
    · refine Fo.ite (fun _ => ?_) (fun _ => Fo.none)
      refine Fo.ite (fun _ => ?_) (fun _ => ?_)
      · refine Fo.ite (fun _ => ?_) (fun _ => Fo.none)
        refine Fo.ite (fun _ => ?_) (fun _ => ?_)
        · refine Fo.ite (fun _ => ?_) (fun _ => Fo.none)
          refine Fo.ite (fun _ => ?_) (fun _ => Fo.none)
          refine Fo.pure (fun x10 => ?_)
          refine Fo.ite (fun _ => ?_) (fun _ => ?_)
          · exact (ft_tw_write_j124 hf (List.Subset.trans (by decide) ho)  q581)
          · refine Fo.bind (ft_tw_put hf (List.Subset.trans (by decide) ho)  q581) (fun x17 q582 => ?_)
            exact (ft_tw_write_j124 hf (List.Subset.trans (by decide) ho)  q582)
        · refine Fo.ite (fun _ => ?_) (fun _ => Fo.none)
          refine Fo.ite (fun _ => ?_) (fun _ => ?_)
          · refine Fo.bind (ft_tw_say hf (List.Subset.trans (by decide) ho)  q581) (fun x21 q583 => ?_)
            exact Fo.some q583
          · refine Fo.bind (ft_tw_say hf (List.Subset.trans (by decide) ho)  q581) (fun x24 q584 => ?_)
            exact Fo.some q584
      · refine Fo.ite (fun _ => ?_) (fun _ => Fo.none)
        refine Fo.bind (ft_tw_putNumber hf ho  q581) (fun x28 q585 => ?_)
        exact Fo.some q585
    · refine Fo.bind (ft_tw_put hf (List.Subset.trans (by decide) ho)  q581) (fun x31 q586 => ?_)
      refine Fo.pure (fun x34 => ?_)
      refine Fo.bind (ft_tw_putPart hf ho   _ _ _ _ q586) (fun x36 q587 => ?_)
      exact Fo.some q587
  · exact Fo.some q581
theorem ft_tw_copyFormula_l13_j236 {fs os : List Nat} {σ0 : gMem} {N : Nat} {h : Nat} {v1 : Int} {v2 : Int} {v3 : Int} {v4 : Int} {v5 : Int} {Kh : Int → gMem → Option (Int × gMem)} {K : gMem → Option (Int × gMem)} {s : gMem} (hf : [] ⊆ fs) (ho : [] ⊆ os) (hKh : ∀ (a0 : Int) (a1 : gMem), FT h fs os σ0 a1 → Fo (fun r => FT h fs os σ0 r.2) (Kh a0 a1)) (hK : ∀ (a0 : gMem), FT h fs os σ0 a0 → Fo (fun r => FT h fs os σ0 r.2) (K a0)) (hs : FT h fs os σ0 s) : Fo (fun r => FT h fs os σ0 r.2) (tw_copyFormula_l13_j236 N h v1 v2 v3 v4 v5 Kh K s) := by
  unfold tw_copyFormula_l13_j236
  exact (hKh _ _ hs)
theorem ft_tw_copyFormula_l13_j228 {fs os : List Nat} {σ0 : gMem} {N : Nat} {h : Nat} {v1 : Int} {v2 : Int} {v3 : Int} {v4 : Int} {v5 : Int} {v7 : Int} {Kh : Int → gMem → Option (Int × gMem)} {K : gMem → Option (Int × gMem)} {s : gMem} (hf : [] ⊆ fs) (ho : [14, 20, 21, 22, 23, 24, 25] ⊆ os) (hKh : ∀ (a0 : Int) (a1 : gMem), FT h fs os σ0 a1 → Fo (fun r => FT h fs os σ0 r.2) (Kh a0 a1)) (hK : ∀ (a0 : gMem), FT h fs os σ0 a0 → Fo (fun r => FT h fs os σ0 r.2) (K a0)) (hs : FT h fs os σ0 s) : Fo (fun r => FT h fs os σ0 r.2) (tw_copyFormula_l13_j228 N h v1 v2 v3 v4 v5 v7 Kh K s) := by
  unfold tw_copyFormula_l13_j228
  refine Fo.bind (ft_tw_shift hf ho  hs) (fun x52 q588 => ?_)
  exact (ft_tw_copyFormula_l13_j236 hf (List.nil_subset _) hKh hK q588)
theorem ft_tw_copyFormula_l13 {fs os : List Nat} {σ0 : gMem} {N : Nat} {h : Nat} {v1 : Int} {v2 : Int} {v3 : Int} {v4 : Int} {K : gMem → Option (Int × gMem)} (hf : [] ⊆ fs) (ho : [14, 15, 16, 17, 18, 19, 20, 21, 22, 23, 24, 25] ⊆ os) (hK : ∀ (a0 : gMem), FT h fs os σ0 a0 → Fo (fun r => FT h fs os σ0 r.2) (K a0)) : ∀ (n : Nat) (z0 : Int) (z1 : gMem), FT h fs os σ0 z1 → Fo (fun r => FT h fs os σ0 r.2) (tw_copyFormula_l13 N h v1 v2 v3 v4 K n z0 z1) := by
  intro n
  induction n with
  | zero => intros; exact Fo.none
  | succ n ih =>
    intro v5 s hs
    unfold tw_copyFormula_l13
    refine Fo.ite (fun _ => ?_) (fun _ => ?_)
    · exact (hK _ hs)
    · refine Fo.ite (fun _ => ?_) (fun _ => Fo.none)
      refine Fo.ite (fun _ => ?_) (fun _ => Fo.none)
      refine FT.letI hs (ho (by decide)) (fun s4 q589 => ?_)
      refine Fo.ite (fun _ => ?_) (fun _ => Fo.none)
      refine Fo.ite (fun _ => ?_) (fun _ => Fo.none)
      refine FT.letI q589 (ho (by decide)) (fun s8 q590 => ?_)
      refine Fo.ite (fun _ => ?_) (fun _ => Fo.none)
      refine Fo.ite (fun _ => ?_) (fun _ => Fo.none)
      refine FT.letI q590 (ho (by decide)) (fun s12 q591 => ?_)
      refine Fo.ite (fun _ => ?_) (fun _ => Fo.none)
      refine Fo.ite (fun _ => ?_) (fun _ => Fo.none)
      refine FT.letL q591 (ho (by decide)) (fun s16 q592 => ?_)
      refine Fo.ite (fun _ => ?_) (fun _ => Fo.none)
      refine Fo.ite (fun _ => ?_) (fun _ => Fo.none)
      refine FT.letI q592 (ho (by decide)) (fun s20 q593 => ?_)
      refine Fo.ite (fun _ => ?_) (fun _ => Fo.none)
      refine Fo.ite (fun _ => ?_) (fun _ => Fo.none)
      refine FT.letI q593 (ho (by decide)) (fun s24 q594 => ?_)
      refine Fo.ite (fun _ => ?_) (fun _ => Fo.none)
      refine Fo.ite (fun _ => ?_) (fun _ => Fo.none)
      refine FT.letI q594 (ho (by decide)) (fun s28 q595 => ?_)
      refine Fo.ite (fun _ => ?_) (fun _ => Fo.none)
      refine Fo.ite (fun _ => ?_) (fun _ => Fo.none)
      refine FT.letI q595 (ho (by decide)) (fun s32 q596 => ?_)
      refine Fo.ite (fun _ => ?_) (fun _ => Fo.none)
      refine Fo.ite (fun _ => ?_) (fun _ => Fo.none)
      refine FT.letI q596 (ho (by decide)) (fun s36 q597 => ?_)
      refine Fo.ite (fun _ => ?_) (fun _ => Fo.none)
      refine Fo.ite (fun _ => ?_) (fun _ => Fo.none)
      refine FT.letI q597 (ho (by decide)) (fun s40 q598 => ?_)
      refine Fo.ite (fun _ => ?_) (fun _ => Fo.none)
      refine Fo.ite (fun _ => ?_) (fun _ => Fo.none)
      refine FT.letI q598 (ho (by decide)) (fun s44 q599 => ?_)
      refine Fo.ite (fun _ => ?_) (fun _ => Fo.none)
      refine Fo.ite (fun _ => ?_) (fun _ => Fo.none)
      refine FT.letI q599 (ho (by decide)) (fun s48 q600 => ?_)
      refine Fo.ite (fun _ => ?_) (fun _ => Fo.none)
      refine Fo.ite (fun _ => ?_) (fun _ => ?_)
      · exact (ft_tw_copyFormula_l13_j228 hf (List.Subset.trans (by decide) ho) (fun a0 a1 b1 => ih a0 a1 b1) hK q600)
      · refine Fo.ite (fun _ => ?_) (fun _ => Fo.none)
        refine Fo.ite (fun _ => ?_) (fun _ => ?_)
        · exact (ft_tw_copyFormula_l13_j236 hf (List.nil_subset _) (fun a0 a1 b1 => ih a0 a1 b1) hK q600)
        · exact (ft_tw_copyFormula_l13_j228 hf (List.Subset.trans (by decide) ho) (fun a0 a1 b1 => ih a0 a1 b1) hK q600)
theorem ft_tw_copyFormula {fs os : List Nat} {σ0 : gMem} {N : Nat} {h : Nat} {v1 : Int} {v2 : Int} {v3 : Int} {σ : gMem} (hf : [25] ⊆ fs) (ho : [14, 15, 16, 17, 18, 19, 20, 21, 22, 23, 24, 25, 26] ⊆ os) (hσ : FT h fs os σ0 σ) : Fo (fun r => FT h fs os σ0 r.2) (tw_copyFormula N h v1 v2 v3 σ) := by
  unfold tw_copyFormula
  refine Fo.ite (fun _ => ?_) (fun _ => Fo.none)
  exact (ft_tw_copyFormula_l13 (List.nil_subset _) (List.Subset.trans (by decide) ho) (fun s56 q601 => by
      refine Fo.ite (fun _ => ?_) (fun _ => Fo.none)
      refine FT.letI q601 (ho (by decide)) (fun s59 q603 => ?_)
      refine FT.letIf q603 (hf (by decide)) (fun s63 q604 => ?_)
      exact Fo.some q604)  _ _ _ hσ)
theorem ft_tw_blame_l80 {fs os : List Nat} {σ0 : gMem} {N : Nat} {h : Nat} {v3 : Int} {v4 : Int} {v5 : Int} {K : Int → gMem → Option (Int × gMem)} (hf : [] ⊆ fs) (ho : [] ⊆ os) (hK : ∀ (a0 : Int) (a1 : gMem), FT h fs os σ0 a1 → Fo (fun r => FT h fs os σ0 r.2) (K a0 a1)) : ∀ (n : Nat) (z0 : Int) (z1 : Int) (z2 : gMem), FT h fs os σ0 z2 → Fo (fun r => FT h fs os σ0 r.2) (tw_blame_l80 N h v3 v4 v5 K n z0 z1 z2) := by
  intro n
  induction n with
  | zero => intros; exact Fo.none
  | succ n ih =>
    intro v6 v7 s hs
    unfold tw_blame_l80
    refine Fo.ite (fun _ => ?_) (fun _ => ?_)
    · exact (hK _ _ hs)
    · refine Fo.ite (fun _ => ?_) (fun _ => Fo.none)
      refine Fo.pure (fun x17 => ?_)
      refine Fo.ite (fun _ => ?_) (fun _ => ?_)
      · refine Fo.ite (fun _ => ?_) (fun _ => Fo.none)
        refine Fo.pure (fun x20 => ?_)
        refine Fo.ite (fun _ => ?_) (fun _ => ?_)
        · exact (ih _ _ _ hs)
        · refine Fo.ite (fun _ => ?_) (fun _ => Fo.none)
          exact (ih _ _ _ hs)
      · refine Fo.ite (fun _ => ?_) (fun _ => Fo.none)
        exact (ih _ _ _ hs)
theorem ft_tw_blame {fs os : List Nat} {σ0 : gMem} {N : Nat} {h : Nat} {v1 : Int} {v2 : Int} {σ : gMem} (hf : [0] ⊆ fs) (ho : [] ⊆ os) (hσ : FT h fs os σ0 σ) : Fo (fun r => FT h fs os σ0 r.2) (tw_blame N h v1 v2 σ) := by
  unfold tw_blame
  refine FT.letIf hσ (hf (by decide)) (fun s1 q605 => ?_)
  refine Fo.pure (fun x4 => ?_)
  refine Fo.ite (fun _ => ?_) (fun _ => ?_)
  · refine Fo.pure (fun x6 => ?_)
    refine Fo.pure (fun x8 => ?_)
    refine Fo.pure (fun x10 => ?_)
    refine Fo.pure (fun x12 => ?_)
    refine Fo.pure (fun x14 => ?_)
    refine Fo.ite (fun _ => ?_) (fun _ => ?_)
    · exact (ft_tw_blame_l80 (List.nil_subset _) ho (fun y24 s25 q606 => by
      exact Fo.some q606)  _ _ _ _ q605)
    · exact Fo.some q605
  · refine Fo.bind (ft_tw_throwing hf ho  q605) (fun x27 q608 => ?_)
    exact Fo.some q608
theorem ft_tw_total {fs os : List Nat} {σ0 : gMem} {N : Nat} {h : Nat} {v1 : Int} {σ : gMem} (hf : [0] ⊆ fs) (ho : [] ⊆ os) (hσ : FT h fs os σ0 σ) : Fo (fun r => FT h fs os σ0 r.2) (tw_total N h v1 σ) := by
  unfold tw_total
  refine FT.letIf hσ (hf (by decide)) (fun s1 q609 => ?_)
  refine Fo.ite (fun _ => ?_) (fun _ => ?_)
  · exact Fo.some q609
  · refine Fo.ite (fun _ => ?_) (fun _ => ?_)
    · exact Fo.some q609
    · refine Fo.ite (fun _ => ?_) (fun _ => ?_)
      · refine Fo.pure (fun x9 => ?_)
        exact Fo.some q609
      · refine Fo.ite (fun _ => ?_) (fun _ => ?_)
        · refine Fo.pure (fun x12 => ?_)
          exact Fo.some q609
        · refine Fo.ite (fun _ => ?_) (fun _ => ?_)
          · exact Fo.some q609
          · refine Fo.ite (fun _ => ?_) (fun _ => ?_)
            · exact Fo.some q609
            · refine Fo.ite (fun _ => ?_) (fun _ => ?_)
              · exact Fo.some q609
              · refine Fo.ite (fun _ => ?_) (fun _ => ?_)
                · exact Fo.some q609
                · refine Fo.ite (fun _ => ?_) (fun _ => ?_)
                  · exact Fo.some q609
                  · refine Fo.ite (fun _ => ?_) (fun _ => ?_)
                    · refine Fo.pure (fun x25 => ?_)
                      refine Fo.ite (fun _ => ?_) (fun _ => ?_)
                      · exact Fo.some q609
                      · exact Fo.some q609
                    · refine Fo.pure (fun x27 => ?_)
                      refine Fo.ite (fun _ => ?_) (fun _ => ?_)
                      · exact Fo.some q609
                      · refine Fo.ite (fun _ => ?_) (fun _ => Fo.none)
                        exact Fo.some q609
theorem ft_tw_readChain_l4 {fs os : List Nat} {σ0 : gMem} {N : Nat} {W : gMem → Option gMem} {h : Nat} {K : gMem → Option gMem} (hf : [46, 47, 48, 49, 50, 51, 52, 53, 54, 55, 56] ⊆ fs) (ho : [14, 15, 16, 17, 18, 19, 20, 21, 22, 23, 24, 25] ⊆ os) (hW : ∀ (a0 : gMem), FT h fs os σ0 a0 → Fo (fun r => FT h fs os σ0 r) (W a0)) (hK : ∀ (a0 : gMem), FT h fs os σ0 a0 → Fo (fun r => FT h fs os σ0 r) (K a0)) : ∀ (n : Nat) (z0 : gMem), FT h fs os σ0 z0 → Fo (fun r => FT h fs os σ0 r) (tw_readChain_l4 N W h K n z0) := by
  intro n
  induction n with
  | zero => intros; exact Fo.none
  | succ n ih =>
    intro s hs
    unfold tw_readChain_l4
    refine Fo.pure (fun x4 => ?_)
    refine Fo.ite (fun _ => ?_) (fun _ => ?_)
    · exact (hK _ hs)
    · refine Fo.bind (ft_tw_next (List.Subset.trans (by decide) hf) (List.nil_subset _)  hs) (fun x6 q610 => ?_)
      refine Fo.bind (ft_tw_readSum hf ho hW q610) (fun x9 q611 => ?_)
      refine Fo.bind (ft_tw_part (List.Subset.trans (by decide) hf) ho  q611) (fun x12 q612 => ?_)
      exact (ih _ q612)
theorem ft_tw_readChain {fs os : List Nat} {σ0 : gMem} {N : Nat} {W : gMem → Option gMem} {h : Nat} {σ : gMem} (hf : [46, 47, 48, 49, 50, 51, 52, 53, 54, 55, 56] ⊆ fs) (ho : [14, 15, 16, 17, 18, 19, 20, 21, 22, 23, 24, 25] ⊆ os) (hW : ∀ (a0 : gMem), FT h fs os σ0 a0 → Fo (fun r => FT h fs os σ0 r) (W a0)) (hσ : FT h fs os σ0 σ) : Fo (fun r => FT h fs os σ0 r) (tw_readChain N W h σ) := by
  unfold tw_readChain
  refine Fo.bind (ft_tw_readSum hf ho hW hσ) (fun x1 q613 => ?_)
  exact (ft_tw_readChain_l4 hf ho hW (fun s16 q614 => by
      exact Fo.some q614)  _ _ q613)
theorem ft_tw_workMany_l19_j88 {fs os : List Nat} {σ0 : gMem} {N : Nat} {W : Int → Int → Int → gMem → Option gMem} {h : Nat} {v1 : Int} {v2 : Int} {v3 : Int} {v4 : Int} {v5 : Int} {v6 : Int} {Kh : Int → gMem → Option gMem} {K : gMem → Option gMem} {s : gMem} (hf : [] ⊆ fs) (ho : [] ⊆ os) (hW : ∀ (a0 : Int) (a1 : Int) (a2 : Int) (a3 : gMem), FT h fs os σ0 a3 → Fo (fun r => FT h fs os σ0 r) (W a0 a1 a2 a3)) (hKh : ∀ (a0 : Int) (a1 : gMem), FT h fs os σ0 a1 → Fo (fun r => FT h fs os σ0 r) (Kh a0 a1)) (hK : ∀ (a0 : gMem), FT h fs os σ0 a0 → Fo (fun r => FT h fs os σ0 r) (K a0)) (hs : FT h fs os σ0 s) : Fo (fun r => FT h fs os σ0 r) (tw_workMany_l19_j88 N W h v1 v2 v3 v4 v5 v6 Kh K s) := by
  unfold tw_workMany_l19_j88
  exact (hKh _ _ hs)
theorem ft_tw_workMany_l19 {fs os : List Nat} {σ0 : gMem} {N : Nat} {W : Int → Int → Int → gMem → Option gMem} {h : Nat} {v1 : Int} {v2 : Int} {v3 : Int} {v4 : Int} {v5 : Int} {K : gMem → Option gMem} (hf : [] ⊆ fs) (ho : [33, 34, 35, 36] ⊆ os) (hW : ∀ (a0 : Int) (a1 : Int) (a2 : Int) (a3 : gMem), FT h fs os σ0 a3 → Fo (fun r => FT h fs os σ0 r) (W a0 a1 a2 a3)) (hK : ∀ (a0 : gMem), FT h fs os σ0 a0 → Fo (fun r => FT h fs os σ0 r) (K a0)) : ∀ (n : Nat) (z0 : Int) (z1 : gMem), FT h fs os σ0 z1 → Fo (fun r => FT h fs os σ0 r) (tw_workMany_l19 N W h v1 v2 v3 v4 v5 K n z0 z1) := by
  intro n
  induction n with
  | zero => intros; exact Fo.none
  | succ n ih =>
    intro v6 s hs
    unfold tw_workMany_l19
    refine Fo.ite (fun _ => ?_) (fun _ => ?_)
    · exact (hK _ hs)
    · refine Fo.pure (fun x3 => ?_)
      refine Fo.ite (fun _ => ?_) (fun _ => Fo.none)
      refine Fo.ite (fun _ => ?_) (fun _ => ?_)
      · exact (ft_tw_workMany_l19_j88 hf (List.nil_subset _) hW (fun a0 a1 b1 => ih a0 a1 b1) hK hs)
      · refine Fo.bind (hW _ _ _ _ hs) (fun x6 q616 => ?_)
        refine Fo.ite (fun _ => ?_) (fun _ => Fo.none)
        refine Fo.ite (fun _ => ?_) (fun _ => ?_)
        · exact (ft_tw_workMany_l19_j88 hf (List.nil_subset _) hW (fun a0 a1 b1 => ih a0 a1 b1) hK q616)
        · refine Fo.ite (fun _ => ?_) (fun _ => ?_)
          · exact (ft_tw_workMany_l19_j88 hf (List.nil_subset _) hW (fun a0 a1 b1 => ih a0 a1 b1) hK q616)
          · refine Fo.bind (ft_tw_bring hf ho  q616) (fun x10 q617 => ?_)
            exact Fo.some q617
theorem ft_tw_workMany_l127_j212 {fs os : List Nat} {σ0 : gMem} {N : Nat} {W : Int → Int → Int → gMem → Option gMem} {h : Nat} {v1 : Int} {v2 : Int} {v3 : Int} {v4 : Int} {v5 : Int} {v6 : Int} {v8 : Int} {Kh : Int → gMem → Option gMem} {K : gMem → Option gMem} {s : gMem} (hf : [] ⊆ fs) (ho : [33, 34, 35, 36] ⊆ os) (hW : ∀ (a0 : Int) (a1 : Int) (a2 : Int) (a3 : gMem), FT h fs os σ0 a3 → Fo (fun r => FT h fs os σ0 r) (W a0 a1 a2 a3)) (hKh : ∀ (a0 : Int) (a1 : gMem), FT h fs os σ0 a1 → Fo (fun r => FT h fs os σ0 r) (Kh a0 a1)) (hK : ∀ (a0 : gMem), FT h fs os σ0 a0 → Fo (fun r => FT h fs os σ0 r) (K a0)) (hs : FT h fs os σ0 s) : Fo (fun r => FT h fs os σ0 r) (tw_workMany_l127_j212 N W h v1 v2 v3 v4 v5 v6 v8 Kh K s) := by
  unfold tw_workMany_l127_j212
  refine Fo.ite (fun _ => ?_) (fun _ => ?_)
  · exact (hKh _ _ hs)
  · refine Fo.bind (ft_tw_bring hf ho  hs) (fun x43 q618 => ?_)
    exact Fo.some q618
theorem ft_tw_workMany_l127 {fs os : List Nat} {σ0 : gMem} {N : Nat} {W : Int → Int → Int → gMem → Option gMem} {h : Nat} {v1 : Int} {v2 : Int} {v3 : Int} {v4 : Int} {v5 : Int} {K : gMem → Option gMem} (hf : [71, 72, 73, 74, 75, 76, 77, 78, 79, 80] ⊆ fs) (ho : [33, 34, 35, 36] ⊆ os) (hW : ∀ (a0 : Int) (a1 : Int) (a2 : Int) (a3 : gMem), FT h fs os σ0 a3 → Fo (fun r => FT h fs os σ0 r) (W a0 a1 a2 a3)) (hK : ∀ (a0 : gMem), FT h fs os σ0 a0 → Fo (fun r => FT h fs os σ0 r) (K a0)) : ∀ (n : Nat) (z0 : Int) (z1 : gMem), FT h fs os σ0 z1 → Fo (fun r => FT h fs os σ0 r) (tw_workMany_l127 N W h v1 v2 v3 v4 v5 K n z0 z1) := by
  intro n
  induction n with
  | zero => intros; exact Fo.none
  | succ n ih =>
    intro v6 s hs
    unfold tw_workMany_l127
    refine Fo.ite (fun _ => ?_) (fun _ => ?_)
    · exact (hK _ hs)
    · refine Fo.pure (fun x33 => ?_)
      refine Fo.ite (fun _ => ?_) (fun _ => Fo.none)
      refine Fo.ite (fun _ => ?_) (fun _ => ?_)
      · refine Fo.bind (ft_tw_area (List.Subset.trans (by decide) hf) (List.nil_subset _)  hs) (fun x36 q619 => ?_)
        refine Fo.ite (fun _ => ?_) (fun _ => ?_)
        · refine Fo.bind (ft_tw_error (List.nil_subset _) (List.Subset.trans (by decide) ho)  q619) (fun x40 q620 => ?_)
          exact (ft_tw_workMany_l127_j212 (List.nil_subset _) ho hW (fun a0 a1 b1 => ih a0 a1 b1) hK q620)
        · refine Fo.bind (ft_tw_countArea (List.Subset.trans (by decide) hf) ho  q619) (fun x46 q621 => ?_)
          exact (ft_tw_workMany_l127_j212 (List.nil_subset _) ho hW (fun a0 a1 b1 => ih a0 a1 b1) hK q621)
      · refine Fo.bind (ft_tw_countOne (List.Subset.trans (by decide) hf) (List.Subset.trans (by decide) ho)  hs) (fun x50 q622 => ?_)
        exact (ft_tw_workMany_l127_j212 (List.nil_subset _) ho hW (fun a0 a1 b1 => ih a0 a1 b1) hK q622)
theorem ft_tw_workMany {fs os : List Nat} {σ0 : gMem} {N : Nat} {W : Int → Int → Int → gMem → Option gMem} {h : Nat} {v1 : Int} {v2 : Int} {v3 : Int} {σ : gMem} (hf : [71, 72, 73, 74, 75, 76, 77, 78, 79, 80, 81] ⊆ fs) (ho : [33, 34, 35, 36] ⊆ os) (hW : ∀ (a0 : Int) (a1 : Int) (a2 : Int) (a3 : gMem), FT h fs os σ0 a3 → Fo (fun r => FT h fs os σ0 r) (W a0 a1 a2 a3)) (hσ : FT h fs os σ0 σ) : Fo (fun r => FT h fs os σ0 r) (tw_workMany N W h v1 v2 v3 σ) := by
  unfold tw_workMany
  refine Fo.ite (fun _ => ?_) (fun _ => Fo.none)
  refine Fo.ite (fun _ => ?_) (fun _ => Fo.none)
  exact (ft_tw_workMany_l19 (List.nil_subset _) ho hW (fun s13 q623 => by
      refine FT.letIf q623 (hf (by decide)) (fun s15 q625 => ?_)
      refine FT.letIf q625 (hf (by decide)) (fun s18 q626 => ?_)
      refine FT.letLf q626 (hf (by decide)) (fun s21 q627 => ?_)
      refine FT.letLf q627 (hf (by decide)) (fun s24 q628 => ?_)
      refine FT.letIf q628 (hf (by decide)) (fun s27 q629 => ?_)
      refine FT.letIf q629 (hf (by decide)) (fun s30 q630 => ?_)
      exact (ft_tw_workMany_l127 (List.Subset.trans (by decide) hf) ho hW (fun s54 q631 => by
        refine Fo.bind (ft_tw_come (List.nil_subset _) (List.Subset.trans (by decide) ho)  q631) (fun x56 q633 => ?_)
        exact Fo.some q633)  _ _ _ q630))  _ _ _ hσ)
theorem ft_tw_written {fs os : List Nat} {σ0 : gMem} {N : Nat} {h : Nat} {v1 : Int} {v2 : Int} {v3 : Int} {v4 : Int} {σ : gMem} (hf : [0, 87] ⊆ fs) (ho : [37, 42] ⊆ os) (hσ : FT h fs os σ0 σ) : Fo (fun r => FT h fs os σ0 r.2) (tw_written N h v1 v2 v3 v4 σ) := by
  unfold tw_written
  refine FT.letIf hσ (hf (by decide)) (fun s1 q634 => ?_)
  refine Fo.pure (fun x4 => ?_)
  refine Fo.ite (fun _ => ?_) (fun _ => ?_)
  · refine Fo.pure (fun x6 => ?_)
    refine Fo.pure (fun x8 => ?_)
    refine Fo.pure (fun x10 => ?_)
    refine Fo.bind (ft_tw_write (List.Subset.trans (by decide) hf) ho  q634) (fun x12 q635 => ?_)
    refine Fo.pure (fun x16 => ?_)
    refine Fo.ite (fun _ => ?_) (fun _ => ?_)
    · exact Fo.some q635
    · refine Fo.ite (fun _ => ?_) (fun _ => Fo.none)
      exact Fo.some q635
  · exact Fo.some q634
theorem ft_tw_copy_l111_j166 {fs os : List Nat} {σ0 : gMem} {N : Nat} {h : Nat} {v1 : Int} {v2 : Int} {v5 : Int} {v6 : Int} {v7 : Int} {v8 : Int} {v10 : Int} {t0 : Int} {t1 : Int} {Kh : Int → Int → gMem → Option (Int × gMem)} {K : Int → gMem → Option (Int × gMem)} {s : gMem} (hf : [] ⊆ fs) (ho : [] ⊆ os) (hKh : ∀ (a0 : Int) (a1 : Int) (a2 : gMem), FT h fs os σ0 a2 → Fo (fun r => FT h fs os σ0 r.2) (Kh a0 a1 a2)) (hK : ∀ (a0 : Int) (a1 : gMem), FT h fs os σ0 a1 → Fo (fun r => FT h fs os σ0 r.2) (K a0 a1)) (hs : FT h fs os σ0 s) : Fo (fun r => FT h fs os σ0 r.2) (tw_copy_l111_j166 N h v1 v2 v5 v6 v7 v8 v10 t0 t1 Kh K s) := by
  unfold tw_copy_l111_j166
  exact (hKh _ _ _ hs)
theorem ft_tw_copy_l111 {fs os : List Nat} {σ0 : gMem} {N : Nat} {h : Nat} {v1 : Int} {v2 : Int} {v5 : Int} {v6 : Int} {v7 : Int} {v8 : Int} {K : Int → gMem → Option (Int × gMem)} (hf : [] ⊆ fs) (ho : [] ⊆ os) (hK : ∀ (a0 : Int) (a1 : gMem), FT h fs os σ0 a1 → Fo (fun r => FT h fs os σ0 r.2) (K a0 a1)) : ∀ (n : Nat) (z0 : Int) (z1 : Int) (z2 : gMem), FT h fs os σ0 z2 → Fo (fun r => FT h fs os σ0 r.2) (tw_copy_l111 N h v1 v2 v5 v6 v7 v8 K n z0 z1 z2) := by
  intro n
  induction n with
  | zero => intros; exact Fo.none
  | succ n ih =>
    intro v9 v10 s hs
    unfold tw_copy_l111
    refine Fo.ite (fun _ => ?_) (fun _ => ?_)
    · exact (hK _ _ hs)
    · refine Fo.ite (fun _ => ?_) (fun _ => Fo.none)
      refine Fo.ite (fun _ => ?_) (fun _ => Fo.none)
      refine Fo.pure (fun x28 => ?_)
      refine Fo.pure (fun x30 => ?_)
      refine Fo.ite (fun _ => ?_) (fun _ => ?_)
      · exact (ft_tw_copy_l111_j166 hf ho (fun a0 a1 a2 b2 => ih a0 a1 a2 b2) hK hs)
      · refine Fo.ite (fun _ => ?_) (fun _ => Fo.none)
        exact (ft_tw_copy_l111_j166 hf ho (fun a0 a1 a2 b2 => ih a0 a1 a2 b2) hK hs)
theorem ft_tw_copy_l203_j259 {fs os : List Nat} {σ0 : gMem} {N : Nat} {h : Nat} {v1 : Int} {v2 : Int} {v5 : Int} {v6 : Int} {v7 : Int} {v8 : Int} {v10 : Int} {v11 : Int} {v12 : Int} {Kh : Int → gMem → Option (Int × gMem)} {K : gMem → Option (Int × gMem)} {s : gMem} (hf : [] ⊆ fs) (ho : [5] ⊆ os) (hKh : ∀ (a0 : Int) (a1 : gMem), FT h fs os σ0 a1 → Fo (fun r => FT h fs os σ0 r.2) (Kh a0 a1)) (hK : ∀ (a0 : gMem), FT h fs os σ0 a0 → Fo (fun r => FT h fs os σ0 r.2) (K a0)) (hs : FT h fs os σ0 s) : Fo (fun r => FT h fs os σ0 r.2) (tw_copy_l203_j259 N h v1 v2 v5 v6 v7 v8 v10 v11 v12 Kh K s) := by
  unfold tw_copy_l203_j259
  refine Fo.ite (fun _ => ?_) (fun _ => Fo.none)
  refine Fo.ite (fun _ => ?_) (fun _ => Fo.none)
  refine Fo.bind (ft_tw_setCell hf ho  hs) (fun x45 q636 => ?_)
  exact (hKh _ _ q636)
theorem ft_tw_copy_l203 {fs os : List Nat} {σ0 : gMem} {N : Nat} {h : Nat} {v1 : Int} {v2 : Int} {v5 : Int} {v6 : Int} {v7 : Int} {v8 : Int} {v10 : Int} {K : gMem → Option (Int × gMem)} (hf : [25] ⊆ fs) (ho : [5, 14, 15, 16, 17, 18, 19, 20, 21, 22, 23, 24, 25, 26] ⊆ os) (hK : ∀ (a0 : gMem), FT h fs os σ0 a0 → Fo (fun r => FT h fs os σ0 r.2) (K a0)) : ∀ (n : Nat) (z0 : Int) (z1 : gMem), FT h fs os σ0 z1 → Fo (fun r => FT h fs os σ0 r.2) (tw_copy_l203 N h v1 v2 v5 v6 v7 v8 v10 K n z0 z1) := by
  intro n
  induction n with
  | zero => intros; exact Fo.none
  | succ n ih =>
    intro v11 s hs
    unfold tw_copy_l203
    refine Fo.ite (fun _ => ?_) (fun _ => ?_)
    · exact (hK _ hs)
    · refine Fo.ite (fun _ => ?_) (fun _ => Fo.none)
      refine Fo.ite (fun _ => ?_) (fun _ => Fo.none)
      refine Fo.pure (fun x41 => ?_)
      refine Fo.pure (fun x43 => ?_)
      refine Fo.ite (fun _ => ?_) (fun _ => ?_)
      · exact (ft_tw_copy_l203_j259 (List.nil_subset _) (List.Subset.trans (by decide) ho) (fun a0 a1 b1 => ih a0 a1 b1) hK hs)
      · refine Fo.bind (ft_tw_copyFormula hf (List.Subset.trans (by decide) ho)  hs) (fun x48 q637 => ?_)
        exact (ft_tw_copy_l203_j259 (List.nil_subset _) (List.Subset.trans (by decide) ho) (fun a0 a1 b1 => ih a0 a1 b1) hK q637)
theorem ft_tw_copy {fs os : List Nat} {σ0 : gMem} {N : Nat} {h : Nat} {v1 : Int} {v2 : Int} {v3 : Int} {v4 : Int} {v5 : Int} {v6 : Int} {σ : gMem} (hf : [0, 15, 16, 17, 25, 65] ⊆ fs) (ho : [1, 2, 3, 4, 5, 14, 15, 16, 17, 18, 19, 20, 21, 22, 23, 24, 25, 26] ⊆ os) (hσ : FT h fs os σ0 σ) : Fo (fun r => FT h fs os σ0 r.2) (tw_copy N h v1 v2 v3 v4 v5 v6 σ) := by
  unfold tw_copy
  refine FT.letIf hσ (hf (by decide)) (fun s1 q638 => ?_)
  refine Fo.pure (fun x4 => ?_)
  refine Fo.ite (fun _ => ?_) (fun _ => ?_)
  · refine Fo.bind (ft_tw_throwing (List.Subset.trans (by decide) hf) (List.nil_subset _)  q638) (fun x6 q639 => ?_)
    exact Fo.some q639
  · refine Fo.pure (fun x10 => ?_)
    refine Fo.ite (fun _ => ?_) (fun _ => ?_)
    · refine Fo.bind (ft_tw_throwing (List.Subset.trans (by decide) hf) (List.nil_subset _)  q638) (fun x12 q640 => ?_)
      exact Fo.some q640
    · refine Fo.pure (fun x16 => ?_)
      refine Fo.ite (fun _ => ?_) (fun _ => ?_)
      · refine Fo.ite (fun _ => ?_) (fun _ => ?_)
        · refine Fo.bind (ft_tw_throwing (List.Subset.trans (by decide) hf) (List.nil_subset _)  q638) (fun x18 q641 => ?_)
          exact Fo.some q641
        · refine Fo.ite (fun _ => ?_) (fun _ => ?_)
          · refine Fo.ite (fun _ => ?_) (fun _ => Fo.none)
            refine Fo.pure (fun x23 => ?_)
            refine Fo.ite (fun _ => ?_) (fun _ => Fo.none)
            refine Fo.pure (fun x26 => ?_)
            exact (ft_tw_copy_l111 (List.nil_subset _) (List.nil_subset _) (fun y33 s34 q642 => by
      refine Fo.ite (fun _ => ?_) (fun _ => ?_)
      · refine Fo.bind (ft_tw_step (List.Subset.trans (by decide) hf) (List.Subset.trans (by decide) ho)  q642) (fun x37 q644 => ?_)
        exact (ft_tw_copy_l203 (List.Subset.trans (by decide) hf) (List.Subset.trans (by decide) ho) (fun s52 q645 => by
        exact Fo.some q645)  _ _ _ q644)
      · refine Fo.bind (ft_tw_throwing (List.Subset.trans (by decide) hf) (List.nil_subset _)  q642) (fun x54 q647 => ?_)
        exact Fo.some q647)  _ _ _ _ q638)
          · refine Fo.bind (ft_tw_throwing (List.Subset.trans (by decide) hf) (List.nil_subset _)  q638) (fun x58 q648 => ?_)
            exact Fo.some q648
      · refine Fo.bind (ft_tw_throwing (List.Subset.trans (by decide) hf) (List.nil_subset _)  q638) (fun x62 q649 => ?_)
        exact Fo.some q649
theorem ft_tw_go {fs os : List Nat} {σ0 : gMem} {N : Nat} {h : Nat} {v1 : Int} {σ : gMem} (hf : [0, 12, 13, 16, 17, 65, 98] ⊆ fs) (ho : [1, 2, 3, 4, 5] ⊆ os) (hσ : FT h fs os σ0 σ) : Fo (fun r => FT h fs os σ0 r.2) (tw_go N h v1 σ) := by
  unfold tw_go
  refine FT.letIf hσ (hf (by decide)) (fun s1 q650 => ?_)
  refine Fo.pure (fun x4 => ?_)
  refine Fo.ite (fun _ => ?_) (fun _ => ?_)
  · refine Fo.ite (fun _ => ?_) (fun _ => Fo.none)
    refine Fo.ite (fun _ => ?_) (fun _ => ?_)
    · refine Fo.ite (fun _ => ?_) (fun _ => ?_)
      · refine Fo.bind (ft_tw_throwing (List.Subset.trans (by decide) hf) (List.nil_subset _)  q650) (fun x8 q651 => ?_)
        exact Fo.some q651
      · refine Fo.pure (fun x12 => ?_)
        refine Fo.ite (fun _ => ?_) (fun _ => ?_)
        · refine Fo.bind (ft_tw_throwing (List.Subset.trans (by decide) hf) (List.nil_subset _)  q650) (fun x14 q652 => ?_)
          exact Fo.some q652
        · refine Fo.pure (fun x18 => ?_)
          refine Fo.ite (fun _ => ?_) (fun _ => ?_)
          · refine FT.letIf q650 (hf (by decide)) (fun s20 q653 => ?_)
            refine Fo.pure (fun x23 => ?_)
            refine Fo.bind (ft_tw_become (List.Subset.trans (by decide) hf) ho  q653) (fun x25 q654 => ?_)
            refine Fo.pure (fun x28 => ?_)
            exact Fo.some q654
          · refine Fo.bind (ft_tw_throwing (List.Subset.trans (by decide) hf) (List.nil_subset _)  q650) (fun x30 q655 => ?_)
            exact Fo.some q655
    · refine Fo.bind (ft_tw_throwing (List.Subset.trans (by decide) hf) (List.nil_subset _)  q650) (fun x34 q656 => ?_)
      exact Fo.some q656
  · refine Fo.bind (ft_tw_throwing (List.Subset.trans (by decide) hf) (List.nil_subset _)  q650) (fun x38 q657 => ?_)
    exact Fo.some q657
theorem ft_tw_comeTogether_l45_j93 {fs os : List Nat} {σ0 : gMem} {N : Nat} {h : Nat} {v2 : Int} {v3 : Int} {v5 : Int} {v6 : Int} {v7 : Int} {Kh : Int → gMem → Option gMem} {K : gMem → Option gMem} {s : gMem} (hf : [] ⊆ fs) (ho : [] ⊆ os) (hKh : ∀ (a0 : Int) (a1 : gMem), FT h fs os σ0 a1 → Fo (fun r => FT h fs os σ0 r) (Kh a0 a1)) (hK : ∀ (a0 : gMem), FT h fs os σ0 a0 → Fo (fun r => FT h fs os σ0 r) (K a0)) (hs : FT h fs os σ0 s) : Fo (fun r => FT h fs os σ0 r) (tw_comeTogether_l45_j93 N h v2 v3 v5 v6 v7 Kh K s) := by
  unfold tw_comeTogether_l45_j93
  exact (hKh _ _ hs)
theorem ft_tw_comeTogether_l45 {fs os : List Nat} {σ0 : gMem} {N : Nat} {h : Nat} {v2 : Int} {v3 : Int} {v5 : Int} {v6 : Int} {K : gMem → Option gMem} (hf : [100] ⊆ fs) (ho : [53] ⊆ os) (hK : ∀ (a0 : gMem), FT h fs os σ0 a0 → Fo (fun r => FT h fs os σ0 r) (K a0)) : ∀ (n : Nat) (z0 : Int) (z1 : gMem), FT h fs os σ0 z1 → Fo (fun r => FT h fs os σ0 r) (tw_comeTogether_l45 N h v2 v3 v5 v6 K n z0 z1) := by
  intro n
  induction n with
  | zero => intros; exact Fo.none
  | succ n ih =>
    intro v7 s hs
    unfold tw_comeTogether_l45
    refine Fo.pure (fun x6 => ?_)
    refine Fo.ite (fun _ => ?_) (fun _ => ?_)
    · exact (hK _ hs)
    · refine Fo.pure (fun x8 => ?_)
      refine Fo.pure (fun x10 => ?_)
      refine Fo.ite (fun _ => ?_) (fun _ => ?_)
      · exact (ft_tw_comeTogether_l45_j93 (List.nil_subset _) (List.nil_subset _) (fun a0 a1 b1 => ih a0 a1 b1) hK hs)
      · refine Fo.bind (ft_tw_putLine hf ho  hs) (fun x13 q658 => ?_)
        exact (ft_tw_comeTogether_l45_j93 (List.nil_subset _) (List.nil_subset _) (fun a0 a1 b1 => ih a0 a1 b1) hK q658)
theorem ft_tw_comeTogether_l102_j215 {fs os : List Nat} {σ0 : gMem} {N : Nat} {h : Nat} {v2 : Int} {v3 : Int} {v5 : Int} {v6 : Int} {v7 : Int} {Kh : Int → gMem → Option gMem} {K : gMem → Option gMem} {s : gMem} (hf : [] ⊆ fs) (ho : [] ⊆ os) (hKh : ∀ (a0 : Int) (a1 : gMem), FT h fs os σ0 a1 → Fo (fun r => FT h fs os σ0 r) (Kh a0 a1)) (hK : ∀ (a0 : gMem), FT h fs os σ0 a0 → Fo (fun r => FT h fs os σ0 r) (K a0)) (hs : FT h fs os σ0 s) : Fo (fun r => FT h fs os σ0 r) (tw_comeTogether_l102_j215 N h v2 v3 v5 v6 v7 Kh K s) := by
  unfold tw_comeTogether_l102_j215
  exact (hKh _ _ hs)
theorem ft_tw_comeTogether_l158 {fs os : List Nat} {σ0 : gMem} {N : Nat} {h : Nat} {v2 : Int} {v3 : Int} {v5 : Int} {v6 : Int} {v7 : Int} {v8 : Int} {K : Int → gMem → Option gMem} (hf : [] ⊆ fs) (ho : [] ⊆ os) (hK : ∀ (a0 : Int) (a1 : gMem), FT h fs os σ0 a1 → Fo (fun r => FT h fs os σ0 r) (K a0 a1)) : ∀ (n : Nat) (z0 : Int) (z1 : gMem), FT h fs os σ0 z1 → Fo (fun r => FT h fs os σ0 r) (tw_comeTogether_l158 N h v2 v3 v5 v6 v7 v8 K n z0 z1) := by
  intro n
  induction n with
  | zero => intros; exact Fo.none
  | succ n ih =>
    intro v9 s hs
    unfold tw_comeTogether_l158
    refine Fo.ite (fun _ => ?_) (fun _ => ?_)
    · exact (hK _ _ hs)
    · refine Fo.pure (fun x26 => ?_)
      refine Fo.pure (fun x28 => ?_)
      refine Fo.ite (fun _ => ?_) (fun _ => ?_)
      · exact (hK _ _ hs)
      · exact (ih _ _ hs)
theorem ft_tw_comeTogether_l102_j210 {fs os : List Nat} {σ0 : gMem} {N : Nat} {h : Nat} {v2 : Int} {v3 : Int} {v5 : Int} {v6 : Int} {v7 : Int} {v8 : Int} {t0 : Int} {Kh : Int → gMem → Option gMem} {K : gMem → Option gMem} {s : gMem} (hf : [100] ⊆ fs) (ho : [53] ⊆ os) (hKh : ∀ (a0 : Int) (a1 : gMem), FT h fs os σ0 a1 → Fo (fun r => FT h fs os σ0 r) (Kh a0 a1)) (hK : ∀ (a0 : gMem), FT h fs os σ0 a0 → Fo (fun r => FT h fs os σ0 r) (K a0)) (hs : FT h fs os σ0 s) : Fo (fun r => FT h fs os σ0 r) (tw_comeTogether_l102_j210 N h v2 v3 v5 v6 v7 v8 t0 Kh K s) := by
  unfold tw_comeTogether_l102_j210
  refine Fo.bind (ft_tw_putLine hf ho  hs) (fun x37 q659 => ?_)
  exact (ft_tw_comeTogether_l102_j215 (List.nil_subset _) (List.nil_subset _) hKh hK q659)
theorem ft_tw_comeTogether_l102_j185 {fs os : List Nat} {σ0 : gMem} {N : Nat} {h : Nat} {v2 : Int} {v3 : Int} {v5 : Int} {v6 : Int} {v7 : Int} {v8 : Int} {v9 : Int} {Kh : Int → gMem → Option gMem} {K : gMem → Option gMem} {s : gMem} (hf : [100] ⊆ fs) (ho : [53] ⊆ os) (hKh : ∀ (a0 : Int) (a1 : gMem), FT h fs os σ0 a1 → Fo (fun r => FT h fs os σ0 r) (Kh a0 a1)) (hK : ∀ (a0 : gMem), FT h fs os σ0 a0 → Fo (fun r => FT h fs os σ0 r) (K a0)) (hs : FT h fs os σ0 s) : Fo (fun r => FT h fs os σ0 r) (tw_comeTogether_l102_j185 N h v2 v3 v5 v6 v7 v8 v9 Kh K s) := by
  unfold tw_comeTogether_l102_j185
  refine Fo.ite (fun _ => ?_) (fun _ => ?_)
  · refine Fo.pure (fun x33 => ?_)
    refine Fo.pure (fun x35 => ?_)
    exact (ft_tw_comeTogether_l102_j210 hf ho hKh hK hs)
  · exact (ft_tw_comeTogether_l102_j210 hf ho hKh hK hs)
theorem ft_tw_comeTogether_l102 {fs os : List Nat} {σ0 : gMem} {N : Nat} {h : Nat} {v2 : Int} {v3 : Int} {v5 : Int} {v6 : Int} {K : gMem → Option gMem} (hf : [100] ⊆ fs) (ho : [53] ⊆ os) (hK : ∀ (a0 : gMem), FT h fs os σ0 a0 → Fo (fun r => FT h fs os σ0 r) (K a0)) : ∀ (n : Nat) (z0 : Int) (z1 : gMem), FT h fs os σ0 z1 → Fo (fun r => FT h fs os σ0 r) (tw_comeTogether_l102 N h v2 v3 v5 v6 K n z0 z1) := by
  intro n
  induction n with
  | zero => intros; exact Fo.none
  | succ n ih =>
    intro v7 s hs
    unfold tw_comeTogether_l102
    refine Fo.pure (fun x18 => ?_)
    refine Fo.ite (fun _ => ?_) (fun _ => ?_)
    · exact (hK _ hs)
    · refine Fo.pure (fun x20 => ?_)
      refine Fo.pure (fun x22 => ?_)
      refine Fo.ite (fun _ => ?_) (fun _ => ?_)
      · exact (ft_tw_comeTogether_l102_j215 (List.nil_subset _) (List.nil_subset _) (fun a0 a1 b1 => ih a0 a1 b1) hK hs)
      · refine Fo.pure (fun x24 => ?_)
        refine Fo.ite (fun _ => ?_) (fun _ => ?_)
        · exact (ft_tw_comeTogether_l102_j215 (List.nil_subset _) (List.nil_subset _) (fun a0 a1 b1 => ih a0 a1 b1) hK hs)
        · exact (ft_tw_comeTogether_l158 (List.nil_subset _) (List.nil_subset _) (fun y30 s31 q660 => by
      exact (ft_tw_comeTogether_l102_j185 hf ho (fun a0 a1 b1 => ih a0 a1 b1) hK q660))  _ _ _ hs)
theorem ft_tw_comeTogether_j35 {fs os : List Nat} {σ0 : gMem} {N : Nat} {h : Nat} {v2 : Int} {v3 : Int} {v5 : Int} {t0 : Int} {s : gMem} (hf : [100] ⊆ fs) (ho : [53] ⊆ os) (hs : FT h fs os σ0 s) : Fo (fun r => FT h fs os σ0 r) (tw_comeTogether_j35 N h v2 v3 v5 t0 s) := by
  unfold tw_comeTogether_j35
  refine FT.letIf hs (hf (by decide)) (fun s3 q662 => ?_)
  exact (ft_tw_comeTogether_l45 hf ho (fun s16 q663 => by
      exact (ft_tw_comeTogether_l102 hf ho (fun s40 q665 => by
        exact Fo.some q665)  _ _ _ q663))  _ _ _ q662)
theorem ft_tw_comeTogether_j22 {fs os : List Nat} {σ0 : gMem} {N : Nat} {h : Nat} {v1 : Int} {v2 : Int} {v3 : Int} {v4 : Int} {t0 : Int} {s : gMem} (hf : [100] ⊆ fs) (ho : [53] ⊆ os) (hs : FT h fs os σ0 s) : Fo (fun r => FT h fs os σ0 r) (tw_comeTogether_j22 N h v1 v2 v3 v4 t0 s) := by
  unfold tw_comeTogether_j22
  refine Fo.ite (fun _ => ?_) (fun _ => ?_)
  · exact (ft_tw_comeTogether_j35 hf ho  hs)
  · exact (ft_tw_comeTogether_j35 hf ho  hs)
theorem ft_tw_comeTogether {fs os : List Nat} {σ0 : gMem} {N : Nat} {h : Nat} {v1 : Int} {v2 : Int} {v3 : Int} {σ : gMem} (hf : [100] ⊆ fs) (ho : [53] ⊆ os) (hσ : FT h fs os σ0 σ) : Fo (fun r => FT h fs os σ0 r) (tw_comeTogether N h v1 v2 v3 σ) := by
  unfold tw_comeTogether
  refine Fo.pure (fun x1 => ?_)
  refine Fo.ite (fun _ => ?_) (fun _ => ?_)
  · exact (ft_tw_comeTogether_j22 hf ho  hσ)
  · exact (ft_tw_comeTogether_j22 hf ho  hσ)
theorem ft_tw_readTest {fs os : List Nat} {σ0 : gMem} {N : Nat} {W : gMem → Option gMem} {h : Nat} {σ : gMem} (hf : [46, 47, 48, 49, 50, 51, 52, 53, 54, 55, 56] ⊆ fs) (ho : [14, 15, 16, 17, 18, 19, 20, 21, 22, 23, 24, 25] ⊆ os) (hW : ∀ (a0 : gMem), FT h fs os σ0 a0 → Fo (fun r => FT h fs os σ0 r) (W a0)) (hσ : FT h fs os σ0 σ) : Fo (fun r => FT h fs os σ0 r) (tw_readTest N W h σ) := by
  unfold tw_readTest
  refine Fo.bind (ft_tw_readChain hf ho hW hσ) (fun x1 q667 => ?_)
  refine Fo.pure (fun x4 => ?_)
  refine Fo.ite (fun _ => ?_) (fun _ => ?_)
  · exact Fo.some q667
  · refine Fo.bind (ft_tw_next (List.Subset.trans (by decide) hf) (List.nil_subset _)  q667) (fun x7 q668 => ?_)
    refine Fo.bind (ft_tw_readChain hf ho hW q668) (fun x10 q669 => ?_)
    refine Fo.bind (ft_tw_part (List.Subset.trans (by decide) hf) ho  q669) (fun x13 q670 => ?_)
    exact Fo.some q670
theorem ft_tw_readCall_l44_j148 {fs os : List Nat} {σ0 : gMem} {N : Nat} {W : gMem → Option gMem} {h : Nat} {v1 : Int} {v2 : Int} {v3 : Int} {v4 : Int} {t0 : Int} {Kh : Int → Int → Int → gMem → Option gMem} {K : Int → Int → gMem → Option gMem} {s : gMem} (hf : [] ⊆ fs) (ho : [] ⊆ os) (hW : ∀ (a0 : gMem), FT h fs os σ0 a0 → Fo (fun r => FT h fs os σ0 r) (W a0)) (hKh : ∀ (a0 : Int) (a1 : Int) (a2 : Int) (a3 : gMem), FT h fs os σ0 a3 → Fo (fun r => FT h fs os σ0 r) (Kh a0 a1 a2 a3)) (hK : ∀ (a0 : Int) (a1 : Int) (a2 : gMem), FT h fs os σ0 a2 → Fo (fun r => FT h fs os σ0 r) (K a0 a1 a2)) (hs : FT h fs os σ0 s) : Fo (fun r => FT h fs os σ0 r) (tw_readCall_l44_j148 N W h v1 v2 v3 v4 t0 Kh K s) := by
  unfold tw_readCall_l44_j148
  exact (hKh _ _ _ _ hs)
theorem ft_tw_readCall_l44_j129 {fs os : List Nat} {σ0 : gMem} {N : Nat} {W : gMem → Option gMem} {h : Nat} {v1 : Int} {v2 : Int} {v3 : Int} {t0 : Int} {Kh : Int → Int → Int → gMem → Option gMem} {K : Int → Int → gMem → Option gMem} {s : gMem} (hf : [] ⊆ fs) (ho : [] ⊆ os) (hW : ∀ (a0 : gMem), FT h fs os σ0 a0 → Fo (fun r => FT h fs os σ0 r) (W a0)) (hKh : ∀ (a0 : Int) (a1 : Int) (a2 : Int) (a3 : gMem), FT h fs os σ0 a3 → Fo (fun r => FT h fs os σ0 r) (Kh a0 a1 a2 a3)) (hK : ∀ (a0 : Int) (a1 : Int) (a2 : gMem), FT h fs os σ0 a2 → Fo (fun r => FT h fs os σ0 r) (K a0 a1 a2)) (hs : FT h fs os σ0 s) : Fo (fun r => FT h fs os σ0 r) (tw_readCall_l44_j129 N W h v1 v2 v3 t0 Kh K s) := by
  unfold tw_readCall_l44_j129
  refine Fo.ite (fun _ => ?_) (fun _ => ?_)
  · exact (ft_tw_readCall_l44_j148 hf ho hW hKh hK hs)
  · exact (ft_tw_readCall_l44_j148 hf ho hW hKh hK hs)
theorem ft_tw_readCall_l44_j128 {fs os : List Nat} {σ0 : gMem} {N : Nat} {W : gMem → Option gMem} {h : Nat} {v1 : Int} {v2 : Int} {v3 : Int} {Kh : Int → Int → Int → gMem → Option gMem} {K : Int → Int → gMem → Option gMem} {s : gMem} (hf : [] ⊆ fs) (ho : [] ⊆ os) (hW : ∀ (a0 : gMem), FT h fs os σ0 a0 → Fo (fun r => FT h fs os σ0 r) (W a0)) (hKh : ∀ (a0 : Int) (a1 : Int) (a2 : Int) (a3 : gMem), FT h fs os σ0 a3 → Fo (fun r => FT h fs os σ0 r) (Kh a0 a1 a2 a3)) (hK : ∀ (a0 : Int) (a1 : Int) (a2 : gMem), FT h fs os σ0 a2 → Fo (fun r => FT h fs os σ0 r) (K a0 a1 a2)) (hs : FT h fs os σ0 s) : Fo (fun r => FT h fs os σ0 r) (tw_readCall_l44_j128 N W h v1 v2 v3 Kh K s) := by
  unfold tw_readCall_l44_j128
  exact (ft_tw_readCall_l44_j129 hf ho hW hKh hK hs)
theorem ft_tw_readCall_l44_j92 {fs os : List Nat} {σ0 : gMem} {N : Nat} {W : gMem → Option gMem} {h : Nat} {v1 : Int} {v2 : Int} {v3 : Int} {v4 : Int} {v5 : Int} {Kh : Int → Int → Int → gMem → Option gMem} {K : Int → Int → gMem → Option gMem} {s : gMem} (hf : [] ⊆ fs) (ho : [24] ⊆ os) (hW : ∀ (a0 : gMem), FT h fs os σ0 a0 → Fo (fun r => FT h fs os σ0 r) (W a0)) (hKh : ∀ (a0 : Int) (a1 : Int) (a2 : Int) (a3 : gMem), FT h fs os σ0 a3 → Fo (fun r => FT h fs os σ0 r) (Kh a0 a1 a2 a3)) (hK : ∀ (a0 : Int) (a1 : Int) (a2 : gMem), FT h fs os σ0 a2 → Fo (fun r => FT h fs os σ0 r) (K a0 a1 a2)) (hs : FT h fs os σ0 s) : Fo (fun r => FT h fs os σ0 r) (tw_readCall_l44_j92 N W h v1 v2 v3 v4 v5 Kh K s) := by
  unfold tw_readCall_l44_j92
  refine Fo.ite (fun _ => ?_) (fun _ => ?_)
  · exact (hKh _ _ _ _ hs)
  · refine Fo.ite (fun _ => ?_) (fun _ => ?_)
    · exact (ft_tw_readCall_l44_j128 hf (List.nil_subset _) hW hKh hK hs)
    · refine Fo.bind (ft_tw_isArg hf ho  hs) (fun x22 q671 => ?_)
      refine Fo.ite (fun _ => ?_) (fun _ => ?_)
      · exact (ft_tw_readCall_l44_j128 hf (List.nil_subset _) hW hKh hK q671)
      · exact (ft_tw_readCall_l44_j129 hf (List.nil_subset _) hW hKh hK q671)
theorem ft_tw_readCall_l44_j88 {fs os : List Nat} {σ0 : gMem} {N : Nat} {W : gMem → Option gMem} {h : Nat} {v1 : Int} {v2 : Int} {v3 : Int} {v4 : Int} {v5 : Int} {Kh : Int → Int → Int → gMem → Option gMem} {K : Int → Int → gMem → Option gMem} {s : gMem} (hf : [46, 47, 48, 49, 50, 51, 52, 53, 54, 55, 56] ⊆ fs) (ho : [14, 15, 16, 17, 18, 19, 20, 21, 22, 23, 24, 25] ⊆ os) (hW : ∀ (a0 : gMem), FT h fs os σ0 a0 → Fo (fun r => FT h fs os σ0 r) (W a0)) (hKh : ∀ (a0 : Int) (a1 : Int) (a2 : Int) (a3 : gMem), FT h fs os σ0 a3 → Fo (fun r => FT h fs os σ0 r) (Kh a0 a1 a2 a3)) (hK : ∀ (a0 : Int) (a1 : Int) (a2 : gMem), FT h fs os σ0 a2 → Fo (fun r => FT h fs os σ0 r) (K a0 a1 a2)) (hs : FT h fs os σ0 s) : Fo (fun r => FT h fs os σ0 r) (tw_readCall_l44_j88 N W h v1 v2 v3 v4 v5 Kh K s) := by
  unfold tw_readCall_l44_j88
  refine Fo.bind (ft_tw_readTest hf ho hW hs) (fun x15 q672 => ?_)
  exact (ft_tw_readCall_l44_j92 (List.nil_subset _) (List.Subset.trans (by decide) ho) hW hKh hK q672)
theorem ft_tw_readCall_l44 {fs os : List Nat} {σ0 : gMem} {N : Nat} {W : gMem → Option gMem} {h : Nat} {v1 : Int} {v2 : Int} {K : Int → Int → gMem → Option gMem} (hf : [41, 42, 46, 47, 48, 49, 50, 51, 52, 53, 54, 55, 56, 58, 59] ⊆ fs) (ho : [14, 15, 16, 17, 18, 19, 20, 21, 22, 23, 24, 25] ⊆ os) (hW : ∀ (a0 : gMem), FT h fs os σ0 a0 → Fo (fun r => FT h fs os σ0 r) (W a0)) (hK : ∀ (a0 : Int) (a1 : Int) (a2 : gMem), FT h fs os σ0 a2 → Fo (fun r => FT h fs os σ0 r) (K a0 a1 a2)) : ∀ (n : Nat) (z0 : Int) (z1 : Int) (z2 : Int) (z3 : gMem), FT h fs os σ0 z3 → Fo (fun r => FT h fs os σ0 r) (tw_readCall_l44 N W h v1 v2 K n z0 z1 z2 z3) := by
  intro n
  induction n with
  | zero => intros; exact Fo.none
  | succ n ih =>
    intro v3 v4 v5 s hs
    unfold tw_readCall_l44
    refine Fo.ite (fun _ => ?_) (fun _ => ?_)
    · exact (hK _ _ _ hs)
    · refine Fo.ite (fun _ => ?_) (fun _ => ?_)
      · exact (hK _ _ _ hs)
      · refine Fo.bind (ft_tw_next (List.Subset.trans (by decide) hf) (List.nil_subset _)  hs) (fun x11 q673 => ?_)
        refine Fo.ite (fun _ => ?_) (fun _ => ?_)
        · exact (ft_tw_readCall_l44_j88 (List.Subset.trans (by decide) hf) ho hW (fun a0 a1 a2 a3 b3 => ih a0 a1 a2 a3 b3) hK q673)
        · refine Fo.pure (fun x27 => ?_)
          refine Fo.ite (fun _ => ?_) (fun _ => ?_)
          · exact (ft_tw_readCall_l44_j88 (List.Subset.trans (by decide) hf) ho hW (fun a0 a1 a2 a3 b3 => ih a0 a1 a2 a3 b3) hK q673)
          · refine Fo.bind (ft_tw_readArea hf ho  q673) (fun x29 q674 => ?_)
            exact (ft_tw_readCall_l44_j92 (List.nil_subset _) (List.Subset.trans (by decide) ho) hW (fun a0 a1 a2 a3 b3 => ih a0 a1 a2 a3 b3) hK q674)
theorem ft_tw_readCall_j153 {fs os : List Nat} {σ0 : gMem} {N : Nat} {W : gMem → Option gMem} {h : Nat} {v1 : Int} {v2 : Int} {v3 : Int} {v4 : Int} {s : gMem} (hf : [41, 42, 46, 47, 48, 49, 50, 51, 52, 53, 54, 55, 56, 57, 58, 59] ⊆ fs) (ho : [14, 15, 16, 17, 18, 19, 20, 21, 22, 23, 24, 25] ⊆ os) (hW : ∀ (a0 : gMem), FT h fs os σ0 a0 → Fo (fun r => FT h fs os σ0 r) (W a0)) (hs : FT h fs os σ0 s) : Fo (fun r => FT h fs os σ0 r) (tw_readCall_j153 N W h v1 v2 v3 v4 s) := by
  unfold tw_readCall_j153
  refine Fo.bind (ft_tw_readShut (List.Subset.trans (by decide) hf) (List.nil_subset _)  hs) (fun x36 q675 => ?_)
  refine Fo.ite (fun _ => ?_) (fun _ => ?_)
  · refine Fo.bind (ft_tw_part (List.Subset.trans (by decide) hf) ho  q675) (fun x40 q676 => ?_)
    refine Fo.ite (fun _ => ?_) (fun _ => ?_)
    · refine Fo.bind (ft_tw_later (List.Subset.trans (by decide) hf) (List.nil_subset _)  q676) (fun x44 q677 => ?_)
      exact Fo.some q677
    · refine Fo.pure (fun x47 => ?_)
      refine Fo.pure (fun x49 => ?_)
      refine Fo.pure (fun x51 => ?_)
      refine Fo.ite (fun _ => ?_) (fun _ => ?_)
      · exact Fo.some q676
      · refine Fo.bind (ft_tw_later (List.Subset.trans (by decide) hf) (List.nil_subset _)  q676) (fun x53 q678 => ?_)
        exact Fo.some q678
  · exact Fo.some q675
theorem ft_tw_readCall {fs os : List Nat} {σ0 : gMem} {N : Nat} {W : gMem → Option gMem} {h : Nat} {v1 : Int} {σ : gMem} (hf : [41, 42, 46, 47, 48, 49, 50, 51, 52, 53, 54, 55, 56, 57, 58, 59] ⊆ fs) (ho : [14, 15, 16, 17, 18, 19, 20, 21, 22, 23, 24, 25] ⊆ os) (hW : ∀ (a0 : gMem), FT h fs os σ0 a0 → Fo (fun r => FT h fs os σ0 r) (W a0)) (hσ : FT h fs os σ0 σ) : Fo (fun r => FT h fs os σ0 r) (tw_readCall N W h v1 σ) := by
  unfold tw_readCall
  refine Fo.bind (ft_tw_next (List.Subset.trans (by decide) hf) (List.nil_subset _)  hσ) (fun x2 q679 => ?_)
  refine Fo.ite (fun _ => ?_) (fun _ => ?_)
  · refine Fo.bind (ft_tw_opens (List.Subset.trans (by decide) hf) (List.nil_subset _)  q679) (fun x6 q680 => ?_)
    refine Fo.ite (fun _ => ?_) (fun _ => ?_)
    · exact (ft_tw_readCall_l44 (List.Subset.trans (by decide) hf) ho hW (fun y32 y33 s34 q681 => by
      exact (ft_tw_readCall_j153 hf ho hW q681))  _ _ _ _ _ q680)
    · exact Fo.some q680
  · refine Fo.bind (ft_tw_fail (List.Subset.trans (by decide) hf) (List.nil_subset _)  q679) (fun x57 q683 => ?_)
    exact Fo.some q683
theorem ft_tw_workCall_j84 {fs os : List Nat} {σ0 : gMem} {N : Nat} {W : Int → Int → Int → gMem → Option gMem} {h : Nat} {v3 : Int} {v4 : Int} {t0 : Int} {s : gMem} (hf : [] ⊆ fs) (ho : [33, 34] ⊆ os) (hW : ∀ (a0 : Int) (a1 : Int) (a2 : Int) (a3 : gMem), FT h fs os σ0 a3 → Fo (fun r => FT h fs os σ0 r) (W a0 a1 a2 a3)) (hs : FT h fs os σ0 s) : Fo (fun r => FT h fs os σ0 r) (tw_workCall_j84 N W h v3 v4 t0 s) := by
  unfold tw_workCall_j84
  refine Fo.ite (fun _ => ?_) (fun _ => ?_)
  · refine Fo.ite (fun _ => ?_) (fun _ => ?_)
    · refine Fo.bind (ft_tw_number hf ho  hs) (fun x5 q684 => ?_)
      exact Fo.some q684
    · refine Fo.bind (ft_tw_number hf ho  hs) (fun x8 q685 => ?_)
      exact Fo.some q685
  · refine Fo.bind (ft_tw_error hf ho  hs) (fun x11 q686 => ?_)
    exact Fo.some q686
theorem ft_tw_workCall_j57 {fs os : List Nat} {σ0 : gMem} {N : Nat} {W : Int → Int → Int → gMem → Option gMem} {h : Nat} {v1 : Int} {v2 : Int} {v3 : Int} {v4 : Int} {s : gMem} (hf : [] ⊆ fs) (ho : [33, 34] ⊆ os) (hW : ∀ (a0 : Int) (a1 : Int) (a2 : Int) (a3 : gMem), FT h fs os σ0 a3 → Fo (fun r => FT h fs os σ0 r) (W a0 a1 a2 a3)) (hs : FT h fs os σ0 s) : Fo (fun r => FT h fs os σ0 r) (tw_workCall_j57 N W h v1 v2 v3 v4 s) := by
  unfold tw_workCall_j57
  refine Fo.ite (fun _ => ?_) (fun _ => Fo.none)
  refine Fo.ite (fun _ => ?_) (fun _ => ?_)
  · exact (ft_tw_workCall_j84 hf ho hW hs)
  · refine Fo.pure (fun x14 => ?_)
    exact (ft_tw_workCall_j84 hf ho hW hs)
theorem ft_tw_workCall_j178 {fs os : List Nat} {σ0 : gMem} {N : Nat} {W : Int → Int → Int → gMem → Option gMem} {h : Nat} {v1 : Int} {v2 : Int} {v3 : Int} {s : gMem} (hf : [] ⊆ fs) (ho : [33, 34, 35, 36, 37] ⊆ os) (hW : ∀ (a0 : Int) (a1 : Int) (a2 : Int) (a3 : gMem), FT h fs os σ0 a3 → Fo (fun r => FT h fs os σ0 r) (W a0 a1 a2 a3)) (hs : FT h fs os σ0 s) : Fo (fun r => FT h fs os σ0 r) (tw_workCall_j178 N W h v1 v2 v3 s) := by
  unfold tw_workCall_j178
  refine Fo.bind (ft_tw_workEnd hf ho hW hs) (fun x18 q687 => ?_)
  exact Fo.some q687
theorem ft_tw_workCall {fs os : List Nat} {σ0 : gMem} {N : Nat} {W : Int → Int → Int → gMem → Option gMem} {h : Nat} {v1 : Int} {v2 : Int} {v3 : Int} {σ : gMem} (hf : [71, 72, 73, 74, 75, 76, 77, 78, 79, 80, 81] ⊆ fs) (ho : [33, 34, 35, 36, 37] ⊆ os) (hW : ∀ (a0 : Int) (a1 : Int) (a2 : Int) (a3 : gMem), FT h fs os σ0 a3 → Fo (fun r => FT h fs os σ0 r) (W a0 a1 a2 a3)) (hσ : FT h fs os σ0 σ) : Fo (fun r => FT h fs os σ0 r) (tw_workCall N W h v1 v2 v3 σ) := by
  unfold tw_workCall
  refine Fo.ite (fun _ => ?_) (fun _ => Fo.none)
  refine Fo.ite (fun _ => ?_) (fun _ => ?_)
  · refine Fo.pure (fun x2 => ?_)
    refine Fo.ite (fun _ => ?_) (fun _ => ?_)
    · refine Fo.ite (fun _ => ?_) (fun _ => ?_)
      · exact (ft_tw_workCall_j57 (List.nil_subset _) (List.Subset.trans (by decide) ho) hW hσ)
      · refine Fo.ite (fun _ => ?_) (fun _ => ?_)
        · refine Fo.pure (fun x16 => ?_)
          refine Fo.ite (fun _ => ?_) (fun _ => ?_)
          · refine Fo.ite (fun _ => ?_) (fun _ => ?_)
            · exact (ft_tw_workCall_j178 (List.nil_subset _) ho hW hσ)
            · refine Fo.ite (fun _ => ?_) (fun _ => ?_)
              · refine Fo.bind (ft_tw_workLook (List.Subset.trans (by decide) hf) (List.Subset.trans (by decide) ho) hW hσ) (fun x21 q688 => ?_)
                exact Fo.some q688
              · exact (ft_tw_workCall_j178 (List.nil_subset _) ho hW hσ)
          · refine Fo.bind (ft_tw_workOne (List.nil_subset _) ho hW hσ) (fun x24 q689 => ?_)
            exact Fo.some q689
        · exact (ft_tw_workCall_j57 (List.nil_subset _) (List.Subset.trans (by decide) ho) hW hσ)
    · refine Fo.bind (ft_tw_workMany hf (List.Subset.trans (by decide) ho) hW hσ) (fun x27 q690 => ?_)
      exact Fo.some q690
  · refine Fo.bind (ft_tw_workIf (List.nil_subset _) (List.Subset.trans (by decide) ho) hW hσ) (fun x30 q691 => ?_)
    exact Fo.some q691
theorem ft_tw_newLines_l45 {fs os : List Nat} {σ0 : gMem} {N : Nat} {h : Nat} {v3 : Int} {K : gMem → Option (Int × gMem)} (hf : [] ⊆ fs) (ho : [3, 4] ⊆ os) (hK : ∀ (a0 : gMem), FT h fs os σ0 a0 → Fo (fun r => FT h fs os σ0 r.2) (K a0)) : ∀ (n : Nat) (z0 : Int) (z1 : gMem), FT h fs os σ0 z1 → Fo (fun r => FT h fs os σ0 r.2) (tw_newLines_l45 N h v3 K n z0 z1) := by
  intro n
  induction n with
  | zero => intros; exact Fo.none
  | succ n ih =>
    intro v4 s hs
    unfold tw_newLines_l45
    refine Fo.ite (fun _ => ?_) (fun _ => ?_)
    · exact (hK _ hs)
    · refine Fo.ite (fun _ => ?_) (fun _ => Fo.none)
      refine Fo.bind (ft_tw_setLine hf ho  hs) (fun x13 q692 => ?_)
      exact (ih _ _ q692)
theorem ft_tw_newLines_j23 {fs os : List Nat} {σ0 : gMem} {N : Nat} {h : Nat} {v3 : Int} {t0 : Int} {t1 : Int} {t2 : Int} {s : gMem} (hf : [] ⊆ fs) (ho : [1, 2, 3, 4] ⊆ os) (hs : FT h fs os σ0 s) : Fo (fun r => FT h fs os σ0 r.2) (tw_newLines_j23 N h v3 t0 t1 t2 s) := by
  unfold tw_newLines_j23
  refine Fo.pure (fun x5 => ?_)
  refine Fo.ite (fun _ => ?_) (fun _ => ?_)
  · refine Fo.bind (ft_tw_setLines hf (List.Subset.trans (by decide) ho)  hs) (fun x8 q693 => ?_)
    exact (ft_tw_newLines_l45 hf (List.Subset.trans (by decide) ho) (fun s16 q694 => by
      exact Fo.some q694)  _ _ _ q693)
  · exact Fo.some hs
theorem ft_tw_newLines {fs os : List Nat} {σ0 : gMem} {N : Nat} {h : Nat} {v1 : Int} {v2 : Int} {v3 : Int} {σ : gMem} (hf : [100] ⊆ fs) (ho : [1, 2, 3, 4, 53] ⊆ os) (hσ : FT h fs os σ0 σ) : Fo (fun r => FT h fs os σ0 r.2) (tw_newLines N h v1 v2 v3 σ) := by
  unfold tw_newLines
  refine Fo.bind (ft_tw_comeTogether hf (List.Subset.trans (by decide) ho)  hσ) (fun x1 q696 => ?_)
  refine Fo.ite (fun _ => ?_) (fun _ => ?_)
  · exact (ft_tw_newLines_j23 (List.nil_subset _) (List.Subset.trans (by decide) ho)  q696)
  · exact (ft_tw_newLines_j23 (List.nil_subset _) (List.Subset.trans (by decide) ho)  q696)
theorem ft_tw_readWord_j42 {fs os : List Nat} {σ0 : gMem} {N : Nat} {W : gMem → Option gMem} {h : Nat} {v2 : Int} {s : gMem} (hf : [46, 47, 48, 49, 50, 51, 52, 53, 54, 55, 56] ⊆ fs) (ho : [14, 15, 16, 17, 18, 19, 20, 21, 22, 23, 24, 25] ⊆ os) (hW : ∀ (a0 : gMem), FT h fs os σ0 a0 → Fo (fun r => FT h fs os σ0 r) (W a0)) (hs : FT h fs os σ0 s) : Fo (fun r => FT h fs os σ0 r) (tw_readWord_j42 N W h v2 s) := by
  unfold tw_readWord_j42
  refine Fo.bind (ft_tw_part (List.Subset.trans (by decide) hf) ho  hs) (fun x6 q697 => ?_)
  refine Fo.ite (fun _ => ?_) (fun _ => ?_)
  · refine Fo.ite (fun _ => ?_) (fun _ => Fo.none)
    refine FT.letL q697 (ho (by decide)) (fun s10 q698 => ?_)
    refine Fo.bind (ft_tw_next (List.Subset.trans (by decide) hf) (List.nil_subset _)  q698) (fun x13 q699 => ?_)
    exact Fo.some q699
  · refine Fo.ite (fun _ => ?_) (fun _ => Fo.none)
    refine FT.letL q697 (ho (by decide)) (fun s16 q700 => ?_)
    refine Fo.bind (ft_tw_next (List.Subset.trans (by decide) hf) (List.nil_subset _)  q700) (fun x19 q701 => ?_)
    exact Fo.some q701
theorem ft_tw_readWord_l72 {fs os : List Nat} {σ0 : gMem} {N : Nat} {W : gMem → Option gMem} {h : Nat} {v1 : Int} {K : gMem → Option gMem} (hf : [41, 42, 46, 47, 48, 49, 50, 51, 52, 53, 54, 55, 56, 57, 58, 59] ⊆ fs) (ho : [14, 15, 16, 17, 18, 19, 20, 21, 22, 23, 24, 25] ⊆ os) (hW : ∀ (a0 : gMem), FT h fs os σ0 a0 → Fo (fun r => FT h fs os σ0 r) (W a0)) (hK : ∀ (a0 : gMem), FT h fs os σ0 a0 → Fo (fun r => FT h fs os σ0 r) (K a0)) : ∀ (n : Nat) (z0 : Int) (z1 : gMem), FT h fs os σ0 z1 → Fo (fun r => FT h fs os σ0 r) (tw_readWord_l72 N W h v1 K n z0 z1) := by
  intro n
  induction n with
  | zero => intros; exact Fo.none
  | succ n ih =>
    intro v3 s hs
    unfold tw_readWord_l72
    refine Fo.ite (fun _ => ?_) (fun _ => ?_)
    · exact (hK _ hs)
    · refine Fo.pure (fun x26 => ?_)
      refine Fo.pure (fun x27 => ?_)
      refine Fo.ite (fun _ => ?_) (fun _ => ?_)
      · exact (ih _ _ hs)
      · refine Fo.bind (ft_tw_readCall hf ho hW hs) (fun x29 q702 => ?_)
        exact Fo.some q702
theorem ft_tw_readWord {fs os : List Nat} {σ0 : gMem} {N : Nat} {W : gMem → Option gMem} {h : Nat} {σ : gMem} (hf : [41, 42, 46, 47, 48, 49, 50, 51, 52, 53, 54, 55, 56, 57, 58, 59] ⊆ fs) (ho : [14, 15, 16, 17, 18, 19, 20, 21, 22, 23, 24, 25] ⊆ os) (hW : ∀ (a0 : gMem), FT h fs os σ0 a0 → Fo (fun r => FT h fs os σ0 r) (W a0)) (hσ : FT h fs os σ0 σ) : Fo (fun r => FT h fs os σ0 r) (tw_readWord N W h σ) := by
  unfold tw_readWord
  refine Fo.pure (fun x4 => ?_)
  refine Fo.ite (fun _ => ?_) (fun _ => ?_)
  · exact (ft_tw_readWord_j42 (List.Subset.trans (by decide) hf) ho hW hσ)
  · refine Fo.pure (fun x23 => ?_)
    refine Fo.ite (fun _ => ?_) (fun _ => ?_)
    · exact (ft_tw_readWord_l72 hf ho hW (fun s32 q703 => by
      refine Fo.bind (ft_tw_fail (List.Subset.trans (by decide) hf) (List.nil_subset _)  q703) (fun x35 q705 => ?_)
      exact Fo.some q705)  _ _ _ hσ)
    · exact (ft_tw_readWord_j42 (List.Subset.trans (by decide) hf) ho hW hσ)
theorem ft_tw_work_o {fs os : List Nat} {σ0 : gMem} {N : Nat} {W : Int → Int → Int → gMem → Option gMem} {h : Nat} {v1 : Int} {v2 : Int} {v3 : Int} {σ : gMem} (hf : [71, 72, 73, 74, 75, 76, 77, 78, 79, 80, 81] ⊆ fs) (ho : [33, 34, 35, 36, 37] ⊆ os) (hW : ∀ (a0 : Int) (a1 : Int) (a2 : Int) (a3 : gMem), FT h fs os σ0 a3 → Fo (fun r => FT h fs os σ0 r) (W a0 a1 a2 a3)) (hσ : FT h fs os σ0 σ) : Fo (fun r => FT h fs os σ0 r) (tw_work_o N W h v1 v2 v3 σ) := by
  unfold tw_work_o
  refine Fo.ite (fun _ => ?_) (fun _ => Fo.none)
  refine Fo.ite (fun _ => ?_) (fun _ => ?_)
  · refine Fo.ite (fun _ => ?_) (fun _ => ?_)
    · refine Fo.ite (fun _ => ?_) (fun _ => ?_)
      · refine Fo.ite (fun _ => ?_) (fun _ => ?_)
        · refine Fo.ite (fun _ => ?_) (fun _ => ?_)
          · refine Fo.pure (fun x2 => ?_)
            refine Fo.ite (fun _ => ?_) (fun _ => ?_)
            · refine Fo.ite (fun _ => ?_) (fun _ => ?_)
              · refine Fo.bind (ft_tw_error (List.nil_subset _) (List.Subset.trans (by decide) ho)  hσ) (fun x4 q706 => ?_)
                exact Fo.some q706
              · refine Fo.bind (ft_tw_workCall hf ho hW hσ) (fun x7 q707 => ?_)
                exact Fo.some q707
            · refine Fo.bind (ft_tw_workTwo (List.nil_subset _) ho hW hσ) (fun x10 q708 => ?_)
              exact Fo.some q708
          · refine Fo.bind (hW _ _ _ _ hσ) (fun x13 q709 => ?_)
            refine Fo.ite (fun _ => ?_) (fun _ => Fo.none)
            refine Fo.ite (fun _ => ?_) (fun _ => ?_)
            · exact Fo.some q709
            · refine Fo.bind (ft_tw_wantsNumber (List.nil_subset _) (List.Subset.trans (by decide) ho)  q709) (fun x17 q710 => ?_)
              refine Fo.ite (fun _ => ?_) (fun _ => ?_)
              · exact Fo.some q710
              · refine Fo.ite (fun _ => ?_) (fun _ => Fo.none)
                refine Fo.bind (ft_tw_number (List.nil_subset _) (List.Subset.trans (by decide) ho)  q710) (fun x22 q711 => ?_)
                exact Fo.some q711
        · refine Fo.pure (fun x25 => ?_)
          refine Fo.ite (fun _ => ?_) (fun _ => ?_)
          · refine Fo.bind (ft_tw_load (List.nil_subset _) (List.Subset.trans (by decide) ho)  hσ) (fun x27 q712 => ?_)
            exact Fo.some q712
          · refine Fo.bind (ft_tw_error (List.nil_subset _) (List.Subset.trans (by decide) ho)  hσ) (fun x30 q713 => ?_)
            exact Fo.some q713
      · refine Fo.ite (fun _ => ?_) (fun _ => Fo.none)
        refine Fo.ite (fun _ => ?_) (fun _ => ?_)
        · refine Fo.bind (ft_tw_truth (List.nil_subset _) (List.Subset.trans (by decide) ho)  hσ) (fun x34 q714 => ?_)
          exact Fo.some q714
        · refine Fo.bind (ft_tw_truth (List.nil_subset _) (List.Subset.trans (by decide) ho)  hσ) (fun x37 q715 => ?_)
          exact Fo.some q715
    · refine Fo.ite (fun _ => ?_) (fun _ => Fo.none)
      refine Fo.ite (fun _ => ?_) (fun _ => Fo.none)
      refine Fo.bind (ft_tw_text (List.nil_subset _) (List.Subset.trans (by decide) ho)  hσ) (fun x42 q716 => ?_)
      exact Fo.some q716
  · refine Fo.ite (fun _ => ?_) (fun _ => Fo.none)
    refine Fo.bind (ft_tw_number (List.nil_subset _) (List.Subset.trans (by decide) ho)  hσ) (fun x46 q717 => ?_)
    exact Fo.some q717
theorem ft_tw_work {fs os : List Nat} {σ0 : gMem} {N : Nat} {h : Nat} (hf : [71, 72, 73, 74, 75, 76, 77, 78, 79, 80, 81] ⊆ fs) (ho : [33, 34, 35, 36, 37] ⊆ os)  : ∀ (n : Nat) (z0 : Int) (z1 : Int) (z2 : Int) (z3 : gMem), FT h fs os σ0 z3 → Fo (fun r => FT h fs os σ0 r) (tw_work N h n z0 z1 z2 z3) := by
  intro n
  induction n with
  | zero => intros; exact Fo.none
  | succ n ih =>
    intro a0 a1 a2 s hs
    unfold tw_work
    exact (ft_tw_work_o hf ho (fun a0 a1 a2 a3 b3 => ih a0 a1 a2 a3 b3) hs)
theorem ft_tw_together_l43_j103 {fs os : List Nat} {σ0 : gMem} {N : Nat} {h : Nat} {v1 : Int} {v2 : Int} {v3 : Int} {Kh : Int → gMem → Option (Int × gMem)} {K : gMem → Option (Int × gMem)} {s : gMem} (hf : [] ⊆ fs) (ho : [] ⊆ os) (hKh : ∀ (a0 : Int) (a1 : gMem), FT h fs os σ0 a1 → Fo (fun r => FT h fs os σ0 r.2) (Kh a0 a1)) (hK : ∀ (a0 : gMem), FT h fs os σ0 a0 → Fo (fun r => FT h fs os σ0 r.2) (K a0)) (hs : FT h fs os σ0 s) : Fo (fun r => FT h fs os σ0 r.2) (tw_together_l43_j103 N h v1 v2 v3 Kh K s) := by
  unfold tw_together_l43_j103
  exact (hKh _ _ hs)
theorem ft_tw_together_l43 {fs os : List Nat} {σ0 : gMem} {N : Nat} {h : Nat} {v1 : Int} {v2 : Int} {K : gMem → Option (Int × gMem)} (hf : [98] ⊆ fs) (ho : [5, 46, 47, 48, 49, 50, 51, 52] ⊆ os) (hK : ∀ (a0 : gMem), FT h fs os σ0 a0 → Fo (fun r => FT h fs os σ0 r.2) (K a0)) : ∀ (n : Nat) (z0 : Int) (z1 : gMem), FT h fs os σ0 z1 → Fo (fun r => FT h fs os σ0 r.2) (tw_together_l43 N h v1 v2 K n z0 z1) := by
  intro n
  induction n with
  | zero => intros; exact Fo.none
  | succ n ih =>
    intro v3 s hs
    unfold tw_together_l43
    refine Fo.ite (fun _ => ?_) (fun _ => ?_)
    · exact (hK _ hs)
    · refine Fo.ite (fun _ => ?_) (fun _ => Fo.none)
      refine FT.letI hs (ho (by decide)) (fun s18 q718 => ?_)
      refine Fo.ite (fun _ => ?_) (fun _ => Fo.none)
      refine Fo.ite (fun _ => ?_) (fun _ => ?_)
      · exact (ft_tw_together_l43_j103 (List.nil_subset _) (List.nil_subset _) (fun a0 a1 b1 => ih a0 a1 b1) hK q718)
      · refine Fo.ite (fun _ => ?_) (fun _ => Fo.none)
        refine Fo.ite (fun _ => ?_) (fun _ => ?_)
        · exact (ft_tw_together_l43_j103 (List.nil_subset _) (List.nil_subset _) (fun a0 a1 b1 => ih a0 a1 b1) hK q718)
        · refine Fo.bind (ft_tw_newCell hf ho  q718) (fun x23 q719 => ?_)
          exact (ft_tw_together_l43_j103 (List.nil_subset _) (List.nil_subset _) (fun a0 a1 b1 => ih a0 a1 b1) hK q719)
theorem ft_tw_together {fs os : List Nat} {σ0 : gMem} {N : Nat} {h : Nat} {v1 : Int} {v2 : Int} {σ : gMem} (hf : [14, 16, 17, 65, 98, 100] ⊆ fs) (ho : [1, 2, 3, 4, 5, 46, 47, 48, 49, 50, 51, 52, 53] ⊆ os) (hσ : FT h fs os σ0 σ) : Fo (fun r => FT h fs os σ0 r.2) (tw_together N h v1 v2 σ) := by
  unfold tw_together
  refine Fo.bind (ft_tw_newLines (List.Subset.trans (by decide) hf) (List.Subset.trans (by decide) ho)  hσ) (fun x1 q720 => ?_)
  refine Fo.ite (fun _ => ?_) (fun _ => ?_)
  · exact Fo.some q720
  · refine Fo.bind (ft_tw_newLines (List.Subset.trans (by decide) hf) (List.Subset.trans (by decide) ho)  q720) (fun x5 q721 => ?_)
    refine Fo.ite (fun _ => ?_) (fun _ => ?_)
    · refine FT.letIf q721 (hf (by decide)) (fun s9 q722 => ?_)
      refine Fo.bind (ft_tw_lineConflicts (List.Subset.trans (by decide) hf) (List.Subset.trans (by decide) ho)  q722) (fun x12 q723 => ?_)
      refine Fo.bind (ft_tw_lineConflicts (List.Subset.trans (by decide) hf) (List.Subset.trans (by decide) ho)  q723) (fun x15 q724 => ?_)
      exact (ft_tw_together_l43 (List.Subset.trans (by decide) hf) (List.Subset.trans (by decide) ho) (fun s26 q725 => by
      refine Fo.bind (ft_tw_copySheet (List.Subset.trans (by decide) hf) (List.Subset.trans (by decide) ho)  q725) (fun x28 q727 => ?_)
      refine Fo.bind (ft_tw_forgetSteps (List.Subset.trans (by decide) hf) (List.nil_subset _)  q727) (fun x31 q728 => ?_)
      refine FT.letIf q728 (hf (by decide)) (fun s35 q729 => ?_)
      exact Fo.some q729)  _ _ _ q724)
    · exact Fo.some q721
theorem ft_tw_pick {fs os : List Nat} {σ0 : gMem} {N : Nat} {h : Nat} {v1 : Int} {σ : gMem} (hf : [0, 14, 16, 17, 65, 98, 100] ⊆ fs) (ho : [1, 2, 3, 4, 5, 46, 47, 48, 49, 50, 51, 52, 53] ⊆ os) (hσ : FT h fs os σ0 σ) : Fo (fun r => FT h fs os σ0 r.2) (tw_pick N h v1 σ) := by
  unfold tw_pick
  refine FT.letIf hσ (hf (by decide)) (fun s1 q730 => ?_)
  refine Fo.pure (fun x5 => ?_)
  refine Fo.ite (fun _ => ?_) (fun _ => ?_)
  · refine Fo.pure (fun x7 => ?_)
    refine Fo.ite (fun _ => ?_) (fun _ => ?_)
    · refine Fo.ite (fun _ => ?_) (fun _ => Fo.none)
      refine Fo.bind (ft_tw_together (List.Subset.trans (by decide) hf) ho  q730) (fun x10 q731 => ?_)
      refine Fo.ite (fun _ => ?_) (fun _ => ?_)
      · exact Fo.some q731
      · refine Fo.bind (ft_tw_throwing (List.Subset.trans (by decide) hf) (List.nil_subset _)  q731) (fun x14 q732 => ?_)
        exact Fo.some q732
    · refine Fo.pure (fun x18 => ?_)
      refine Fo.bind (ft_tw_throwing (List.Subset.trans (by decide) hf) (List.nil_subset _)  q730) (fun x20 q733 => ?_)
      exact Fo.some q733
  · refine Fo.bind (ft_tw_throwing (List.Subset.trans (by decide) hf) (List.nil_subset _)  q730) (fun x24 q734 => ?_)
    exact Fo.some q734
theorem ft_tw_readAtom {fs os : List Nat} {σ0 : gMem} {N : Nat} {W : gMem → Option gMem} {h : Nat} {σ : gMem} (hf : [19, 41, 42, 46, 47, 48, 49, 50, 51, 52, 53, 54, 55, 56, 57, 58, 59] ⊆ fs) (ho : [9, 14, 15, 16, 17, 18, 19, 20, 21, 22, 23, 24, 25] ⊆ os) (hW : ∀ (a0 : gMem), FT h fs os σ0 a0 → Fo (fun r => FT h fs os σ0 r) (W a0)) (hσ : FT h fs os σ0 σ) : Fo (fun r => FT h fs os σ0 r) (tw_readAtom N W h σ) := by
  unfold tw_readAtom
  refine Fo.ite (fun _ => ?_) (fun _ => ?_)
  · refine Fo.ite (fun _ => ?_) (fun _ => ?_)
    · refine Fo.bind (ft_tw_readPlain (List.Subset.trans (by decide) hf) ho  hσ) (fun x3 q735 => ?_)
      exact Fo.some q735
    · refine Fo.ite (fun _ => ?_) (fun _ => ?_)
      · refine Fo.ite (fun _ => ?_) (fun _ => ?_)
        · refine Fo.ite (fun _ => ?_) (fun _ => ?_)
          · refine Fo.ite (fun _ => ?_) (fun _ => ?_)
            · refine Fo.ite (fun _ => ?_) (fun _ => ?_)
              · refine Fo.bind (ft_tw_fail (List.Subset.trans (by decide) hf) (List.nil_subset _)  hσ) (fun x12 q736 => ?_)
                exact Fo.some q736
              · refine Fo.bind (ft_tw_opens (List.Subset.trans (by decide) hf) (List.nil_subset _)  hσ) (fun x15 q737 => ?_)
                refine Fo.ite (fun _ => ?_) (fun _ => ?_)
                · exact Fo.some q737
                · refine Fo.bind (ft_tw_next (List.Subset.trans (by decide) hf) (List.nil_subset _)  q737) (fun x19 q738 => ?_)
                  refine Fo.bind (ft_tw_readTest (List.Subset.trans (by decide) hf) (List.Subset.trans (by decide) ho) hW q738) (fun x22 q739 => ?_)
                  refine Fo.bind (ft_tw_readShut (List.Subset.trans (by decide) hf) (List.nil_subset _)  q739) (fun x25 q740 => ?_)
                  exact Fo.some q740
            · refine Fo.bind (ft_tw_readSpot (List.Subset.trans (by decide) hf) (List.Subset.trans (by decide) ho)  hσ) (fun x28 q741 => ?_)
              exact Fo.some q741
          · refine Fo.bind (ft_tw_part (List.Subset.trans (by decide) hf) (List.Subset.trans (by decide) ho)  hσ) (fun x31 q742 => ?_)
            refine Fo.bind (ft_tw_next (List.Subset.trans (by decide) hf) (List.nil_subset _)  q742) (fun x35 q743 => ?_)
            exact Fo.some q743
        · refine Fo.bind (ft_tw_readWord (List.Subset.trans (by decide) hf) (List.Subset.trans (by decide) ho) hW hσ) (fun x38 q744 => ?_)
          exact Fo.some q744
      · refine Fo.bind (ft_tw_readPlain (List.Subset.trans (by decide) hf) ho  hσ) (fun x41 q745 => ?_)
        exact Fo.some q745
  · exact Fo.some hσ
theorem ft_tw_formulaValue {fs os : List Nat} {σ0 : gMem} {N : Nat} {h : Nat} {v1 : Int} {v2 : Int} {v3 : Int} {σ : gMem} (hf : [71, 72, 73, 74, 75, 76, 77, 78, 79, 80, 81] ⊆ fs) (ho : [28, 29, 30, 31, 33, 34, 35, 36, 37] ⊆ os) (hσ : FT h fs os σ0 σ) : Fo (fun r => FT h fs os σ0 r) (tw_formulaValue N h v1 v2 v3 σ) := by
  unfold tw_formulaValue
  refine Fo.pure (fun x1 => ?_)
  refine Fo.bind (ft_tw_work hf (List.Subset.trans (by decide) ho)   _ _ _ _ _ hσ) (fun x3 q746 => ?_)
  refine Fo.ite (fun _ => ?_) (fun _ => Fo.none)
  refine Fo.ite (fun _ => ?_) (fun _ => ?_)
  · refine Fo.bind (ft_tw_store (List.nil_subset _) (List.Subset.trans (by decide) ho)  q746) (fun x7 q747 => ?_)
    exact Fo.some q747
  · refine Fo.bind (ft_tw_number (List.nil_subset _) (List.Subset.trans (by decide) ho)  q746) (fun x10 q748 => ?_)
    refine Fo.bind (ft_tw_store (List.nil_subset _) (List.Subset.trans (by decide) ho)  q748) (fun x13 q749 => ?_)
    exact Fo.some q749
theorem ft_tw_merge {fs os : List Nat} {σ0 : gMem} {N : Nat} {h : Nat} {v1 : Int} {σ : gMem} (hf : [0, 13, 14, 16, 17, 65, 98, 100] ⊆ fs) (ho : [1, 2, 3, 4, 5, 44, 45, 46, 47, 48, 49, 50, 51, 52, 53] ⊆ os) (hσ : FT h fs os σ0 σ) : Fo (fun r => FT h fs os σ0 r.2) (tw_merge N h v1 σ) := by
  unfold tw_merge
  refine FT.letIf hσ (hf (by decide)) (fun s1 q750 => ?_)
  refine Fo.pure (fun x4 => ?_)
  refine Fo.ite (fun _ => ?_) (fun _ => ?_)
  · refine Fo.ite (fun _ => ?_) (fun _ => Fo.none)
    refine Fo.ite (fun _ => ?_) (fun _ => ?_)
    · refine Fo.pure (fun x7 => ?_)
      refine Fo.ite (fun _ => ?_) (fun _ => ?_)
      · refine Fo.ite (fun _ => ?_) (fun _ => Fo.none)
        refine Fo.pure (fun x10 => ?_)
        refine Fo.bind (ft_tw_base (List.Subset.trans (by decide) hf) (List.Subset.trans (by decide) ho)  q750) (fun x12 q751 => ?_)
        refine Fo.ite (fun _ => ?_) (fun _ => ?_)
        · refine Fo.bind (ft_tw_together (List.Subset.trans (by decide) hf) (List.Subset.trans (by decide) ho)  q751) (fun x16 q752 => ?_)
          refine Fo.ite (fun _ => ?_) (fun _ => ?_)
          · refine FT.letIf q752 (hf (by decide)) (fun s20 q753 => ?_)
            exact Fo.some q753
          · refine Fo.bind (ft_tw_throwing (List.Subset.trans (by decide) hf) (List.nil_subset _)  q752) (fun x23 q754 => ?_)
            exact Fo.some q754
        · exact Fo.some q751
      · refine Fo.pure (fun x27 => ?_)
        refine Fo.bind (ft_tw_throwing (List.Subset.trans (by decide) hf) (List.nil_subset _)  q750) (fun x29 q755 => ?_)
        exact Fo.some q755
    · refine Fo.bind (ft_tw_throwing (List.Subset.trans (by decide) hf) (List.nil_subset _)  q750) (fun x33 q756 => ?_)
      exact Fo.some q756
  · refine Fo.bind (ft_tw_throwing (List.Subset.trans (by decide) hf) (List.nil_subset _)  q750) (fun x37 q757 => ?_)
    exact Fo.some q757
theorem ft_tw_readSign_o {fs os : List Nat} {σ0 : gMem} {N : Nat} {W : gMem → Option gMem} {h : Nat} {σ : gMem} (hf : [19, 41, 42, 46, 47, 48, 49, 50, 51, 52, 53, 54, 55, 56, 57, 58, 59] ⊆ fs) (ho : [9, 14, 15, 16, 17, 18, 19, 20, 21, 22, 23, 24, 25] ⊆ os) (hW : ∀ (a0 : gMem), FT h fs os σ0 a0 → Fo (fun r => FT h fs os σ0 r) (W a0)) (hσ : FT h fs os σ0 σ) : Fo (fun r => FT h fs os σ0 r) (tw_readSign_o N W h σ) := by
  unfold tw_readSign_o
  refine Fo.pure (fun x1 => ?_)
  refine Fo.ite (fun _ => ?_) (fun _ => ?_)
  · refine Fo.bind (ft_tw_opens (List.Subset.trans (by decide) hf) (List.nil_subset _)  hσ) (fun x3 q758 => ?_)
    refine Fo.ite (fun _ => ?_) (fun _ => ?_)
    · exact Fo.some q758
    · refine Fo.bind (ft_tw_next (List.Subset.trans (by decide) hf) (List.nil_subset _)  q758) (fun x7 q759 => ?_)
      refine Fo.bind (hW _ q759) (fun x10 q760 => ?_)
      refine FT.letIf q760 (hf (by decide)) (fun s14 q761 => ?_)
      refine Fo.bind (ft_tw_part (List.Subset.trans (by decide) hf) (List.Subset.trans (by decide) ho)  q761) (fun x17 q762 => ?_)
      exact Fo.some q762
  · refine Fo.bind (ft_tw_readAtom hf ho hW hσ) (fun x21 q763 => ?_)
    exact Fo.some q763
theorem ft_tw_readSign {fs os : List Nat} {σ0 : gMem} {N : Nat} {h : Nat} (hf : [19, 41, 42, 46, 47, 48, 49, 50, 51, 52, 53, 54, 55, 56, 57, 58, 59] ⊆ fs) (ho : [9, 14, 15, 16, 17, 18, 19, 20, 21, 22, 23, 24, 25] ⊆ os)  : ∀ (n : Nat) (z0 : gMem), FT h fs os σ0 z0 → Fo (fun r => FT h fs os σ0 r) (tw_readSign N h n z0) := by
  intro n
  induction n with
  | zero => intros; exact Fo.none
  | succ n ih =>
    intro s hs
    unfold tw_readSign
    exact (ft_tw_readSign_o hf ho (fun a0 b0 => ih a0 b0) hs)
theorem ft_tw_valuesOf_l2 {fs os : List Nat} {σ0 : gMem} {N : Nat} {h : Nat} {v1 : Int} {K : gMem → Option gMem} (hf : [] ⊆ fs) (ho : [38] ⊆ os) (hK : ∀ (a0 : gMem), FT h fs os σ0 a0 → Fo (fun r => FT h fs os σ0 r) (K a0)) : ∀ (n : Nat) (z0 : Int) (z1 : gMem), FT h fs os σ0 z1 → Fo (fun r => FT h fs os σ0 r) (tw_valuesOf_l2 N h v1 K n z0 z1) := by
  intro n
  induction n with
  | zero => intros; exact Fo.none
  | succ n ih =>
    intro v2 s hs
    unfold tw_valuesOf_l2
    refine Fo.ite (fun _ => ?_) (fun _ => ?_)
    · exact (hK _ hs)
    · refine Fo.ite (fun _ => ?_) (fun _ => Fo.none)
      refine FT.letL hs (ho (by decide)) (fun s1 q764 => ?_)
      exact (ih _ _ q764)
theorem ft_tw_valuesOf_l24 {fs os : List Nat} {σ0 : gMem} {N : Nat} {h : Nat} {v1 : Int} {K : gMem → Option gMem} (hf : [] ⊆ fs) (ho : [41] ⊆ os) (hK : ∀ (a0 : gMem), FT h fs os σ0 a0 → Fo (fun r => FT h fs os σ0 r) (K a0)) : ∀ (n : Nat) (z0 : Int) (z1 : gMem), FT h fs os σ0 z1 → Fo (fun r => FT h fs os σ0 r) (tw_valuesOf_l24 N h v1 K n z0 z1) := by
  intro n
  induction n with
  | zero => intros; exact Fo.none
  | succ n ih =>
    intro v2 s hs
    unfold tw_valuesOf_l24
    refine Fo.ite (fun _ => ?_) (fun _ => ?_)
    · exact (hK _ hs)
    · refine Fo.ite (fun _ => ?_) (fun _ => Fo.none)
      refine FT.letL hs (ho (by decide)) (fun s6 q765 => ?_)
      exact (ih _ _ q765)
theorem ft_tw_valuesOf_l44_j153 {fs os : List Nat} {σ0 : gMem} {N : Nat} {h : Nat} {v1 : Int} {v2 : Int} {Kh : Int → gMem → Option gMem} {K : gMem → Option gMem} {s : gMem} (hf : [] ⊆ fs) (ho : [] ⊆ os) (hKh : ∀ (a0 : Int) (a1 : gMem), FT h fs os σ0 a1 → Fo (fun r => FT h fs os σ0 r) (Kh a0 a1)) (hK : ∀ (a0 : gMem), FT h fs os σ0 a0 → Fo (fun r => FT h fs os σ0 r) (K a0)) (hs : FT h fs os σ0 s) : Fo (fun r => FT h fs os σ0 r) (tw_valuesOf_l44_j153 N h v1 v2 Kh K s) := by
  unfold tw_valuesOf_l44_j153
  exact (hKh _ _ hs)
theorem ft_tw_valuesOf_l44_j121 {fs os : List Nat} {σ0 : gMem} {N : Nat} {h : Nat} {v1 : Int} {v2 : Int} {v3 : Int} {Kh : Int → gMem → Option gMem} {K : gMem → Option gMem} {s : gMem} (hf : [] ⊆ fs) (ho : [28, 29, 30, 31, 33, 34, 35, 36, 40, 41] ⊆ os) (hKh : ∀ (a0 : Int) (a1 : gMem), FT h fs os σ0 a1 → Fo (fun r => FT h fs os σ0 r) (Kh a0 a1)) (hK : ∀ (a0 : gMem), FT h fs os σ0 a0 → Fo (fun r => FT h fs os σ0 r) (K a0)) (hs : FT h fs os σ0 s) : Fo (fun r => FT h fs os σ0 r) (tw_valuesOf_l44_j121 N h v1 v2 v3 Kh K s) := by
  unfold tw_valuesOf_l44_j121
  refine Fo.bind (ft_tw_goesThrough hf (List.Subset.trans (by decide) ho)  hs) (fun x12 q766 => ?_)
  refine Fo.ite (fun _ => ?_) (fun _ => ?_)
  · exact (ft_tw_valuesOf_l44_j153 hf (List.nil_subset _) hKh hK q766)
  · refine Fo.ite (fun _ => ?_) (fun _ => Fo.none)
    refine Fo.bind (ft_tw_plainValue hf (List.Subset.trans (by decide) ho)  q766) (fun x16 q767 => ?_)
    exact (ft_tw_valuesOf_l44_j153 hf (List.nil_subset _) hKh hK q767)
theorem ft_tw_valuesOf_l44_j82 {fs os : List Nat} {σ0 : gMem} {N : Nat} {h : Nat} {v1 : Int} {v2 : Int} {t0 : Int} {Kh : Int → gMem → Option gMem} {K : gMem → Option gMem} {s : gMem} (hf : [71, 72, 73, 74, 75] ⊆ fs) (ho : [28, 29, 30, 31, 33, 34, 35, 36, 38, 40, 41] ⊆ os) (hKh : ∀ (a0 : Int) (a1 : gMem), FT h fs os σ0 a1 → Fo (fun r => FT h fs os σ0 r) (Kh a0 a1)) (hK : ∀ (a0 : gMem), FT h fs os σ0 a0 → Fo (fun r => FT h fs os σ0 r) (K a0)) (hs : FT h fs os σ0 s) : Fo (fun r => FT h fs os σ0 r) (tw_valuesOf_l44_j82 N h v1 v2 t0 Kh K s) := by
  unfold tw_valuesOf_l44_j82
  refine Fo.ite (fun _ => ?_) (fun _ => ?_)
  · exact (ft_tw_valuesOf_l44_j121 (List.nil_subset _) (List.Subset.trans (by decide) ho) hKh hK hs)
  · refine Fo.ite (fun _ => ?_) (fun _ => Fo.none)
    refine Fo.pure (fun x20 => ?_)
    refine Fo.ite (fun _ => ?_) (fun _ => ?_)
    · exact (ft_tw_valuesOf_l44_j121 (List.nil_subset _) (List.Subset.trans (by decide) ho) hKh hK hs)
    · refine Fo.ite (fun _ => ?_) (fun _ => Fo.none)
      refine FT.letI hs (ho (by decide)) (fun s22 q768 => ?_)
      refine Fo.bind (ft_tw_leadsOf hf (List.Subset.trans (by decide) ho)  q768) (fun x25 q769 => ?_)
      exact (ft_tw_valuesOf_l44_j153 (List.nil_subset _) (List.nil_subset _) hKh hK q769)
theorem ft_tw_valuesOf_l44_j81 {fs os : List Nat} {σ0 : gMem} {N : Nat} {h : Nat} {v1 : Int} {v2 : Int} {Kh : Int → gMem → Option gMem} {K : gMem → Option gMem} {s : gMem} (hf : [71, 72, 73, 74, 75] ⊆ fs) (ho : [28, 29, 30, 31, 33, 34, 35, 36, 38, 40, 41] ⊆ os) (hKh : ∀ (a0 : Int) (a1 : gMem), FT h fs os σ0 a1 → Fo (fun r => FT h fs os σ0 r) (Kh a0 a1)) (hK : ∀ (a0 : gMem), FT h fs os σ0 a0 → Fo (fun r => FT h fs os σ0 r) (K a0)) (hs : FT h fs os σ0 s) : Fo (fun r => FT h fs os σ0 r) (tw_valuesOf_l44_j81 N h v1 v2 Kh K s) := by
  unfold tw_valuesOf_l44_j81
  exact (ft_tw_valuesOf_l44_j82 hf ho hKh hK hs)
theorem ft_tw_valuesOf_l44 {fs os : List Nat} {σ0 : gMem} {N : Nat} {h : Nat} {v1 : Int} {K : gMem → Option gMem} (hf : [71, 72, 73, 74, 75] ⊆ fs) (ho : [28, 29, 30, 31, 33, 34, 35, 36, 38, 40, 41] ⊆ os) (hK : ∀ (a0 : gMem), FT h fs os σ0 a0 → Fo (fun r => FT h fs os σ0 r) (K a0)) : ∀ (n : Nat) (z0 : Int) (z1 : gMem), FT h fs os σ0 z1 → Fo (fun r => FT h fs os σ0 r) (tw_valuesOf_l44 N h v1 K n z0 z1) := by
  intro n
  induction n with
  | zero => intros; exact Fo.none
  | succ n ih =>
    intro v2 s hs
    unfold tw_valuesOf_l44
    refine Fo.ite (fun _ => ?_) (fun _ => ?_)
    · exact (hK _ hs)
    · refine Fo.ite (fun _ => ?_) (fun _ => Fo.none)
      refine Fo.ite (fun _ => ?_) (fun _ => ?_)
      · exact (ft_tw_valuesOf_l44_j81 hf ho (fun a0 a1 b1 => ih a0 a1 b1) hK hs)
      · refine Fo.ite (fun _ => ?_) (fun _ => Fo.none)
        refine Fo.ite (fun _ => ?_) (fun _ => ?_)
        · exact (ft_tw_valuesOf_l44_j81 hf ho (fun a0 a1 b1 => ih a0 a1 b1) hK hs)
        · exact (ft_tw_valuesOf_l44_j82 hf ho (fun a0 a1 b1 => ih a0 a1 b1) hK hs)
theorem ft_tw_valuesOf_l165_j217 {fs os : List Nat} {σ0 : gMem} {N : Nat} {h : Nat} {v1 : Int} {v2 : Int} {Kh : Int → gMem → Option gMem} {K : gMem → Option gMem} {s : gMem} (hf : [] ⊆ fs) (ho : [] ⊆ os) (hKh : ∀ (a0 : Int) (a1 : gMem), FT h fs os σ0 a1 → Fo (fun r => FT h fs os σ0 r) (Kh a0 a1)) (hK : ∀ (a0 : gMem), FT h fs os σ0 a0 → Fo (fun r => FT h fs os σ0 r) (K a0)) (hs : FT h fs os σ0 s) : Fo (fun r => FT h fs os σ0 r) (tw_valuesOf_l165_j217 N h v1 v2 Kh K s) := by
  unfold tw_valuesOf_l165_j217
  exact (hKh _ _ hs)
theorem ft_tw_valuesOf_l165 {fs os : List Nat} {σ0 : gMem} {N : Nat} {h : Nat} {v1 : Int} {K : gMem → Option gMem} (hf : [] ⊆ fs) (ho : [28, 29, 30, 31, 33, 34, 40, 41] ⊆ os) (hK : ∀ (a0 : gMem), FT h fs os σ0 a0 → Fo (fun r => FT h fs os σ0 r) (K a0)) : ∀ (n : Nat) (z0 : Int) (z1 : gMem), FT h fs os σ0 z1 → Fo (fun r => FT h fs os σ0 r) (tw_valuesOf_l165 N h v1 K n z0 z1) := by
  intro n
  induction n with
  | zero => intros; exact Fo.none
  | succ n ih =>
    intro v2 s hs
    unfold tw_valuesOf_l165
    refine Fo.ite (fun _ => ?_) (fun _ => ?_)
    · exact (hK _ hs)
    · refine Fo.ite (fun _ => ?_) (fun _ => Fo.none)
      refine Fo.ite (fun _ => ?_) (fun _ => ?_)
      · exact (ft_tw_valuesOf_l165_j217 hf (List.nil_subset _) (fun a0 a1 b1 => ih a0 a1 b1) hK hs)
      · refine Fo.pure (fun x35 => ?_)
        refine Fo.ite (fun _ => ?_) (fun _ => ?_)
        · exact (ft_tw_valuesOf_l165_j217 hf (List.nil_subset _) (fun a0 a1 b1 => ih a0 a1 b1) hK hs)
        · refine Fo.bind (ft_tw_goesThrough hf (List.Subset.trans (by decide) ho)  hs) (fun x37 q770 => ?_)
          refine Fo.bind (ft_tw_error hf (List.Subset.trans (by decide) ho)  q770) (fun x40 q771 => ?_)
          refine Fo.bind (ft_tw_store hf (List.Subset.trans (by decide) ho)  q771) (fun x43 q772 => ?_)
          exact (ft_tw_valuesOf_l165_j217 hf (List.nil_subset _) (fun a0 a1 b1 => ih a0 a1 b1) hK q772)
theorem ft_tw_valuesOf_l233_j288 {fs os : List Nat} {σ0 : gMem} {N : Nat} {h : Nat} {v1 : Int} {v2 : Int} {v3 : Int} {Kh : Int → Int → gMem → Option gMem} {K : Int → gMem → Option gMem} {s : gMem} (hf : [] ⊆ fs) (ho : [] ⊆ os) (hKh : ∀ (a0 : Int) (a1 : Int) (a2 : gMem), FT h fs os σ0 a2 → Fo (fun r => FT h fs os σ0 r) (Kh a0 a1 a2)) (hK : ∀ (a0 : Int) (a1 : gMem), FT h fs os σ0 a1 → Fo (fun r => FT h fs os σ0 r) (K a0 a1)) (hs : FT h fs os σ0 s) : Fo (fun r => FT h fs os σ0 r) (tw_valuesOf_l233_j288 N h v1 v2 v3 Kh K s) := by
  unfold tw_valuesOf_l233_j288
  exact (hKh _ _ _ hs)
theorem ft_tw_valuesOf_l233 {fs os : List Nat} {σ0 : gMem} {N : Nat} {h : Nat} {v1 : Int} {K : Int → gMem → Option gMem} (hf : [71, 72, 73, 74, 75, 76, 77, 78, 79, 80, 81] ⊆ fs) (ho : [28, 29, 30, 31, 33, 34, 35, 36, 37, 40, 41] ⊆ os) (hK : ∀ (a0 : Int) (a1 : gMem), FT h fs os σ0 a1 → Fo (fun r => FT h fs os σ0 r) (K a0 a1)) : ∀ (n : Nat) (z0 : Int) (z1 : Int) (z2 : gMem), FT h fs os σ0 z2 → Fo (fun r => FT h fs os σ0 r) (tw_valuesOf_l233 N h v1 K n z0 z1 z2) := by
  intro n
  induction n with
  | zero => intros; exact Fo.none
  | succ n ih =>
    intro v2 v3 s hs
    unfold tw_valuesOf_l233
    refine Fo.ite (fun _ => ?_) (fun _ => ?_)
    · exact (hK _ _ hs)
    · refine Fo.ite (fun _ => ?_) (fun _ => Fo.none)
      refine Fo.ite (fun _ => ?_) (fun _ => ?_)
      · exact (ft_tw_valuesOf_l233_j288 (List.nil_subset _) (List.nil_subset _) (fun a0 a1 a2 b2 => ih a0 a1 a2 b2) hK hs)
      · refine Fo.pure (fun x49 => ?_)
        refine Fo.ite (fun _ => ?_) (fun _ => ?_)
        · exact (ft_tw_valuesOf_l233_j288 (List.nil_subset _) (List.nil_subset _) (fun a0 a1 a2 b2 => ih a0 a1 a2 b2) hK hs)
        · refine Fo.ite (fun _ => ?_) (fun _ => Fo.none)
          refine Fo.bind (ft_tw_formulaValue hf (List.Subset.trans (by decide) ho)  hs) (fun x52 q773 => ?_)
          refine Fo.bind (ft_tw_goesThrough (List.nil_subset _) (List.Subset.trans (by decide) ho)  q773) (fun x55 q774 => ?_)
          exact (ft_tw_valuesOf_l233_j288 (List.nil_subset _) (List.nil_subset _) (fun a0 a1 a2 b2 => ih a0 a1 a2 b2) hK q774)
theorem ft_tw_valuesOf_l225 {fs os : List Nat} {σ0 : gMem} {N : Nat} {h : Nat} {v1 : Int} {K : gMem → Option gMem} (hf : [71, 72, 73, 74, 75, 76, 77, 78, 79, 80, 81] ⊆ fs) (ho : [28, 29, 30, 31, 33, 34, 35, 36, 37, 40, 41] ⊆ os) (hK : ∀ (a0 : gMem), FT h fs os σ0 a0 → Fo (fun r => FT h fs os σ0 r) (K a0)) : ∀ (n : Nat) (z0 : Int) (z1 : gMem), FT h fs os σ0 z1 → Fo (fun r => FT h fs os σ0 r) (tw_valuesOf_l225 N h v1 K n z0 z1) := by
  intro n
  induction n with
  | zero => intros; exact Fo.none
  | succ n ih =>
    intro v2 s hs
    unfold tw_valuesOf_l225
    refine Fo.ite (fun _ => ?_) (fun _ => ?_)
    · exact (hK _ hs)
    · exact (ft_tw_valuesOf_l233 hf ho (fun y58 s59 q775 => by
      exact (ih _ _ q775))  _ _ _ _ hs)
theorem ft_tw_valuesOf {fs os : List Nat} {σ0 : gMem} {N : Nat} {h : Nat} {v1 : Int} {σ : gMem} (hf : [71, 72, 73, 74, 75, 76, 77, 78, 79, 80, 81] ⊆ fs) (ho : [28, 29, 30, 31, 33, 34, 35, 36, 37, 38, 39, 40, 41] ⊆ os) (hσ : FT h fs os σ0 σ) : Fo (fun r => FT h fs os σ0 r) (tw_valuesOf N h v1 σ) := by
  unfold tw_valuesOf
  exact (ft_tw_valuesOf_l2 (List.nil_subset _) (List.Subset.trans (by decide) ho) (fun s4 q777 => by
      exact (ft_tw_valuesOf_l24 (List.nil_subset _) (List.Subset.trans (by decide) ho) (fun s9 q779 => by
        exact (ft_tw_valuesOf_l44 (List.Subset.trans (by decide) hf) (List.Subset.trans (by decide) ho) (fun s29 q781 => by
          refine Fo.bind (ft_tw_close (List.nil_subset _) (List.Subset.trans (by decide) ho)  q781) (fun x31 q783 => ?_)
          exact (ft_tw_valuesOf_l165 (List.nil_subset _) (List.Subset.trans (by decide) ho) (fun s46 q784 => by
            exact (ft_tw_valuesOf_l225 hf (List.Subset.trans (by decide) ho) (fun s61 q786 => by
              exact Fo.some q786)  _ _ _ q784))  _ _ _ q783))  _ _ _ q779))  _ _ _ q777))  _ _ _ hσ)
theorem ft_tw_readFormula_j70 {fs os : List Nat} {σ0 : gMem} {N : Nat} {h : Nat} {s : gMem} (hf : [41, 42] ⊆ fs) (ho : [] ⊆ os) (hs : FT h fs os σ0 s) : Fo (fun r => FT h fs os σ0 r) (tw_readFormula_j70 N h s) := by
  unfold tw_readFormula_j70
  refine Fo.ite (fun _ => ?_) (fun _ => ?_)
  · exact Fo.some hs
  · refine Fo.bind (ft_tw_fail hf ho  hs) (fun x21 q788 => ?_)
    exact Fo.some q788
theorem ft_tw_readFormula_j51 {fs os : List Nat} {σ0 : gMem} {N : Nat} {h : Nat} {s : gMem} (hf : [41, 42] ⊆ fs) (ho : [] ⊆ os) (hs : FT h fs os σ0 s) : Fo (fun r => FT h fs os σ0 r) (tw_readFormula_j51 N h s) := by
  unfold tw_readFormula_j51
  refine Fo.ite (fun _ => ?_) (fun _ => ?_)
  · exact (ft_tw_readFormula_j70 hf ho  hs)
  · refine Fo.bind (ft_tw_fail hf ho  hs) (fun x26 q789 => ?_)
    exact (ft_tw_readFormula_j70 hf ho  q789)
theorem ft_tw_readFormula {fs os : List Nat} {σ0 : gMem} {N : Nat} {h : Nat} {σ : gMem} (hf : [19, 41, 42, 46, 47, 48, 49, 50, 51, 52, 53, 54, 55, 56, 57, 58, 59] ⊆ fs) (ho : [9, 14, 15, 16, 17, 18, 19, 20, 21, 22, 23, 24, 25] ⊆ os) (hσ : FT h fs os σ0 σ) : Fo (fun r => FT h fs os σ0 r) (tw_readFormula N h σ) := by
  unfold tw_readFormula
  refine FT.letIf hσ (hf (by decide)) (fun s1 q790 => ?_)
  refine FT.letIf q790 (hf (by decide)) (fun s4 q791 => ?_)
  refine FT.letIf q791 (hf (by decide)) (fun s8 q792 => ?_)
  refine Fo.bind (ft_tw_next (List.Subset.trans (by decide) hf) (List.nil_subset _)  q792) (fun x11 q793 => ?_)
  refine Fo.bind (ft_tw_readTest (List.Subset.trans (by decide) hf) (List.Subset.trans (by decide) ho) (fun a0 b0 => ft_tw_readSign hf ho _ a0 b0) q793) (fun x14 q794 => ?_)
  refine Fo.ite (fun _ => ?_) (fun _ => ?_)
  · exact (ft_tw_readFormula_j51 (List.Subset.trans (by decide) hf) (List.nil_subset _)  q794)
  · refine Fo.ite (fun _ => ?_) (fun _ => ?_)
    · exact (ft_tw_readFormula_j51 (List.Subset.trans (by decide) hf) (List.nil_subset _)  q794)
    · refine Fo.bind (ft_tw_fail (List.Subset.trans (by decide) hf) (List.nil_subset _)  q794) (fun x31 q795 => ?_)
      exact (ft_tw_readFormula_j51 (List.Subset.trans (by decide) hf) (List.nil_subset _)  q795)
theorem ft_tw_needValues_l19_j45 {fs os : List Nat} {σ0 : gMem} {N : Nat} {h : Nat} {v1 : Int} {v2 : Int} {v3 : Int} {Kh : Int → gMem → Option gMem} {K : gMem → Option gMem} {s : gMem} (hf : [] ⊆ fs) (ho : [] ⊆ os) (hKh : ∀ (a0 : Int) (a1 : gMem), FT h fs os σ0 a1 → Fo (fun r => FT h fs os σ0 r) (Kh a0 a1)) (hK : ∀ (a0 : gMem), FT h fs os σ0 a0 → Fo (fun r => FT h fs os σ0 r) (K a0)) (hs : FT h fs os σ0 s) : Fo (fun r => FT h fs os σ0 r) (tw_needValues_l19_j45 N h v1 v2 v3 Kh K s) := by
  unfold tw_needValues_l19_j45
  exact (hKh _ _ hs)
theorem ft_tw_needValues_l19 {fs os : List Nat} {σ0 : gMem} {N : Nat} {h : Nat} {v1 : Int} {v2 : Int} {K : gMem → Option gMem} (hf : [71, 72, 73, 74, 75, 76, 77, 78, 79, 80, 81] ⊆ fs) (ho : [28, 29, 30, 31, 32, 33, 34, 35, 36, 37, 38, 39, 40, 41] ⊆ os) (hK : ∀ (a0 : gMem), FT h fs os σ0 a0 → Fo (fun r => FT h fs os σ0 r) (K a0)) : ∀ (n : Nat) (z0 : Int) (z1 : gMem), FT h fs os σ0 z1 → Fo (fun r => FT h fs os σ0 r) (tw_needValues_l19 N h v1 v2 K n z0 z1) := by
  intro n
  induction n with
  | zero => intros; exact Fo.none
  | succ n ih =>
    intro v3 s hs
    unfold tw_needValues_l19
    refine Fo.ite (fun _ => ?_) (fun _ => ?_)
    · exact (hK _ hs)
    · refine Fo.ite (fun _ => ?_) (fun _ => Fo.none)
      refine Fo.ite (fun _ => ?_) (fun _ => ?_)
      · exact (ft_tw_needValues_l19_j45 (List.nil_subset _) (List.nil_subset _) (fun a0 a1 b1 => ih a0 a1 b1) hK hs)
      · refine Fo.bind (ft_tw_valuesOf hf (List.Subset.trans (by decide) ho)  hs) (fun x2 q796 => ?_)
        refine Fo.ite (fun _ => ?_) (fun _ => Fo.none)
        refine FT.letI q796 (ho (by decide)) (fun s5 q797 => ?_)
        exact (ft_tw_needValues_l19_j45 (List.nil_subset _) (List.nil_subset _) (fun a0 a1 b1 => ih a0 a1 b1) hK q797)
theorem ft_tw_needValues_j16 {fs os : List Nat} {σ0 : gMem} {N : Nat} {h : Nat} {v1 : Int} {t0 : Int} {s : gMem} (hf : [65, 71, 72, 73, 74, 75, 76, 77, 78, 79, 80, 81] ⊆ fs) (ho : [28, 29, 30, 31, 32, 33, 34, 35, 36, 37, 38, 39, 40, 41] ⊆ os) (hs : FT h fs os σ0 s) : Fo (fun r => FT h fs os σ0 r) (tw_needValues_j16 N h v1 t0 s) := by
  unfold tw_needValues_j16
  exact (ft_tw_needValues_l19 (List.Subset.trans (by decide) hf) ho (fun s8 q798 => by
      refine Fo.ite (fun _ => ?_) (fun _ => ?_)
      · exact Fo.some q798
      · refine Fo.ite (fun _ => ?_) (fun _ => ?_)
        · exact Fo.some q798
        · refine Fo.bind (ft_tw_valuesOf (List.Subset.trans (by decide) hf) (List.Subset.trans (by decide) ho)  q798) (fun x11 q800 => ?_)
          refine FT.letIf q800 (hf (by decide)) (fun s14 q801 => ?_)
          exact Fo.some q801)  _ _ _ hs)
theorem ft_tw_needValues {fs os : List Nat} {σ0 : gMem} {N : Nat} {h : Nat} {v1 : Int} {σ : gMem} (hf : [65, 71, 72, 73, 74, 75, 76, 77, 78, 79, 80, 81] ⊆ fs) (ho : [28, 29, 30, 31, 32, 33, 34, 35, 36, 37, 38, 39, 40, 41] ⊆ os) (hσ : FT h fs os σ0 σ) : Fo (fun r => FT h fs os σ0 r) (tw_needValues N h v1 σ) := by
  unfold tw_needValues
  refine Fo.ite (fun _ => ?_) (fun _ => ?_)
  · exact (ft_tw_needValues_j16 hf ho  hσ)
  · exact (ft_tw_needValues_j16 hf ho  hσ)
theorem ft_tw_value {fs os : List Nat} {σ0 : gMem} {N : Nat} {h : Nat} {v1 : Int} {v2 : Int} {v3 : Int} {σ : gMem} (hf : [0, 65, 71, 72, 73, 74, 75, 76, 77, 78, 79, 80, 81] ⊆ fs) (ho : [28, 29, 30, 31, 32, 33, 34, 35, 36, 37, 38, 39, 40, 41] ⊆ os) (hσ : FT h fs os σ0 σ) : Fo (fun r => FT h fs os σ0 r.2) (tw_value N h v1 v2 v3 σ) := by
  unfold tw_value
  refine FT.letIf hσ (hf (by decide)) (fun s1 q802 => ?_)
  refine Fo.pure (fun x4 => ?_)
  refine Fo.ite (fun _ => ?_) (fun _ => ?_)
  · refine Fo.pure (fun x6 => ?_)
    refine Fo.bind (ft_tw_needValues (List.Subset.trans (by decide) hf) ho  q802) (fun x8 q803 => ?_)
    refine Fo.ite (fun _ => ?_) (fun _ => Fo.none)
    refine Fo.ite (fun _ => ?_) (fun _ => ?_)
    · refine Fo.ite (fun _ => ?_) (fun _ => Fo.none)
      refine Fo.ite (fun _ => ?_) (fun _ => ?_)
      · refine Fo.ite (fun _ => ?_) (fun _ => Fo.none)
        exact Fo.some q803
      · refine Fo.ite (fun _ => ?_) (fun _ => Fo.none)
        exact Fo.some q803
    · exact Fo.some q803
  · exact Fo.some q802
theorem ft_tw_letter {fs os : List Nat} {σ0 : gMem} {N : Nat} {h : Nat} {v1 : Int} {v2 : Int} {v3 : Int} {v4 : Int} {σ : gMem} (hf : [0, 65, 71, 72, 73, 74, 75, 76, 77, 78, 79, 80, 81] ⊆ fs) (ho : [28, 29, 30, 31, 32, 33, 34, 35, 36, 37, 38, 39, 40, 41] ⊆ os) (hσ : FT h fs os σ0 σ) : Fo (fun r => FT h fs os σ0 r.2) (tw_letter N h v1 v2 v3 v4 σ) := by
  unfold tw_letter
  refine FT.letIf hσ (hf (by decide)) (fun s1 q804 => ?_)
  refine Fo.pure (fun x4 => ?_)
  refine Fo.ite (fun _ => ?_) (fun _ => ?_)
  · refine Fo.pure (fun x6 => ?_)
    refine Fo.bind (ft_tw_needValues (List.Subset.trans (by decide) hf) ho  q804) (fun x8 q805 => ?_)
    refine Fo.ite (fun _ => ?_) (fun _ => Fo.none)
    refine Fo.ite (fun _ => ?_) (fun _ => ?_)
    · exact Fo.some q805
    · refine Fo.ite (fun _ => ?_) (fun _ => Fo.none)
      refine Fo.pure (fun x13 => ?_)
      refine Fo.ite (fun _ => ?_) (fun _ => ?_)
      · exact Fo.some q805
      · refine Fo.ite (fun _ => ?_) (fun _ => Fo.none)
        exact Fo.some q805
  · exact Fo.some q804
theorem ft_tw_sort_l110 {fs os : List Nat} {σ0 : gMem} {N : Nat} {h : Nat} {v2 : Int} {v4 : Int} {v5 : Int} {v6 : Int} {v7 : Int} {K : Int → gMem → Option (Int × gMem)} (hf : [] ⊆ fs) (ho : [33, 34, 35, 36, 43] ⊆ os) (hK : ∀ (a0 : Int) (a1 : gMem), FT h fs os σ0 a1 → Fo (fun r => FT h fs os σ0 r.2) (K a0 a1)) : ∀ (n : Nat) (z0 : Int) (z1 : gMem), FT h fs os σ0 z1 → Fo (fun r => FT h fs os σ0 r.2) (tw_sort_l110 N h v2 v4 v5 v6 v7 K n z0 z1) := by
  intro n
  induction n with
  | zero => intros; exact Fo.none
  | succ n ih =>
    intro v8 s hs
    unfold tw_sort_l110
    refine Fo.ite (fun _ => ?_) (fun _ => ?_)
    · exact (hK _ _ hs)
    · refine Fo.ite (fun _ => ?_) (fun _ => Fo.none)
      refine Fo.bind (ft_tw_isAhead hf (List.Subset.trans (by decide) ho)  hs) (fun x25 q806 => ?_)
      refine Fo.ite (fun _ => ?_) (fun _ => ?_)
      · exact (hK _ _ q806)
      · refine Fo.ite (fun _ => ?_) (fun _ => Fo.none)
        refine Fo.ite (fun _ => ?_) (fun _ => Fo.none)
        refine FT.letI q806 (ho (by decide)) (fun s30 q807 => ?_)
        exact (ih _ _ q807)
theorem ft_tw_sort_l99_j169 {fs os : List Nat} {σ0 : gMem} {N : Nat} {h : Nat} {v2 : Int} {v4 : Int} {v5 : Int} {v6 : Int} {v7 : Int} {v8 : Int} {Kh : Int → gMem → Option (Int × gMem)} {K : gMem → Option (Int × gMem)} {s : gMem} (hf : [] ⊆ fs) (ho : [43] ⊆ os) (hKh : ∀ (a0 : Int) (a1 : gMem), FT h fs os σ0 a1 → Fo (fun r => FT h fs os σ0 r.2) (Kh a0 a1)) (hK : ∀ (a0 : gMem), FT h fs os σ0 a0 → Fo (fun r => FT h fs os σ0 r.2) (K a0)) (hs : FT h fs os σ0 s) : Fo (fun r => FT h fs os σ0 r.2) (tw_sort_l99_j169 N h v2 v4 v5 v6 v7 v8 Kh K s) := by
  unfold tw_sort_l99_j169
  refine Fo.ite (fun _ => ?_) (fun _ => Fo.none)
  refine FT.letI hs (ho (by decide)) (fun s36 q808 => ?_)
  exact (hKh _ _ q808)
theorem ft_tw_sort_l99 {fs os : List Nat} {σ0 : gMem} {N : Nat} {h : Nat} {v2 : Int} {v4 : Int} {v5 : Int} {v6 : Int} {K : gMem → Option (Int × gMem)} (hf : [] ⊆ fs) (ho : [33, 34, 35, 36, 43] ⊆ os) (hK : ∀ (a0 : gMem), FT h fs os σ0 a0 → Fo (fun r => FT h fs os σ0 r.2) (K a0)) : ∀ (n : Nat) (z0 : Int) (z1 : gMem), FT h fs os σ0 z1 → Fo (fun r => FT h fs os σ0 r.2) (tw_sort_l99 N h v2 v4 v5 v6 K n z0 z1) := by
  intro n
  induction n with
  | zero => intros; exact Fo.none
  | succ n ih =>
    intro v7 s hs
    unfold tw_sort_l99
    refine Fo.ite (fun _ => ?_) (fun _ => ?_)
    · exact (hK _ hs)
    · exact (ft_tw_sort_l110 hf ho (fun y33 s34 q809 => by
      exact (ft_tw_sort_l99_j169 hf (List.Subset.trans (by decide) ho) (fun a0 a1 b1 => ih a0 a1 b1) hK q809))  _ _ _ hs)
theorem ft_tw_sort_l196_j222 {fs os : List Nat} {σ0 : gMem} {N : Nat} {h : Nat} {v2 : Int} {v5 : Int} {v7 : Int} {v9 : Int} {t0 : Int} {t1 : Int} {Kh : Int → Int → gMem → Option (Int × gMem)} {K : Int → gMem → Option (Int × gMem)} {s : gMem} (hf : [] ⊆ fs) (ho : [3, 4, 5] ⊆ os) (hKh : ∀ (a0 : Int) (a1 : Int) (a2 : gMem), FT h fs os σ0 a2 → Fo (fun r => FT h fs os σ0 r.2) (Kh a0 a1 a2)) (hK : ∀ (a0 : Int) (a1 : gMem), FT h fs os σ0 a1 → Fo (fun r => FT h fs os σ0 r.2) (K a0 a1)) (hs : FT h fs os σ0 s) : Fo (fun r => FT h fs os σ0 r.2) (tw_sort_l196_j222 N h v2 v5 v7 v9 t0 t1 Kh K s) := by
  unfold tw_sort_l196_j222
  refine Fo.ite (fun _ => ?_) (fun _ => Fo.none)
  refine Fo.bind (ft_tw_comeLine hf ho  hs) (fun x47 q811 => ?_)
  exact (hKh _ _ _ q811)
theorem ft_tw_sort_l196 {fs os : List Nat} {σ0 : gMem} {N : Nat} {h : Nat} {v2 : Int} {v5 : Int} {v7 : Int} {K : Int → gMem → Option (Int × gMem)} (hf : [] ⊆ fs) (ho : [3, 4, 5] ⊆ os) (hK : ∀ (a0 : Int) (a1 : gMem), FT h fs os σ0 a1 → Fo (fun r => FT h fs os σ0 r.2) (K a0 a1)) : ∀ (n : Nat) (z0 : Int) (z1 : Int) (z2 : gMem), FT h fs os σ0 z2 → Fo (fun r => FT h fs os σ0 r.2) (tw_sort_l196 N h v2 v5 v7 K n z0 z1 z2) := by
  intro n
  induction n with
  | zero => intros; exact Fo.none
  | succ n ih =>
    intro v8 v9 s hs
    unfold tw_sort_l196
    refine Fo.ite (fun _ => ?_) (fun _ => ?_)
    · exact (hK _ _ hs)
    · refine Fo.ite (fun _ => ?_) (fun _ => Fo.none)
      refine Fo.ite (fun _ => ?_) (fun _ => ?_)
      · exact (ft_tw_sort_l196_j222 hf ho (fun a0 a1 a2 b2 => ih a0 a1 a2 b2) hK hs)
      · exact (ft_tw_sort_l196_j222 hf ho (fun a0 a1 a2 b2 => ih a0 a1 a2 b2) hK hs)
theorem ft_tw_sort {fs os : List Nat} {σ0 : gMem} {N : Nat} {h : Nat} {v1 : Int} {v2 : Int} {v3 : Int} {v4 : Int} {σ : gMem} (hf : [0, 15, 16, 17, 65, 71, 72, 73, 74, 75, 76, 77, 78, 79, 80, 81] ⊆ fs) (ho : [1, 2, 3, 4, 5, 28, 29, 30, 31, 32, 33, 34, 35, 36, 37, 38, 39, 40, 41, 43] ⊆ os) (hσ : FT h fs os σ0 σ) : Fo (fun r => FT h fs os σ0 r.2) (tw_sort N h v1 v2 v3 v4 σ) := by
  unfold tw_sort
  refine FT.letIf hσ (hf (by decide)) (fun s1 q812 => ?_)
  refine Fo.ite (fun _ => ?_) (fun _ => Fo.none)
  refine Fo.pure (fun x5 => ?_)
  refine Fo.ite (fun _ => ?_) (fun _ => ?_)
  · refine Fo.bind (ft_tw_throwing (List.Subset.trans (by decide) hf) (List.nil_subset _)  q812) (fun x7 q813 => ?_)
    exact Fo.some q813
  · refine Fo.ite (fun _ => ?_) (fun _ => Fo.none)
    refine Fo.pure (fun x12 => ?_)
    refine Fo.ite (fun _ => ?_) (fun _ => ?_)
    · refine Fo.bind (ft_tw_throwing (List.Subset.trans (by decide) hf) (List.nil_subset _)  q812) (fun x14 q814 => ?_)
      exact Fo.some q814
    · refine Fo.ite (fun _ => ?_) (fun _ => Fo.none)
      refine Fo.pure (fun x19 => ?_)
      refine Fo.ite (fun _ => ?_) (fun _ => ?_)
      · refine Fo.ite (fun _ => ?_) (fun _ => ?_)
        · refine Fo.bind (ft_tw_needValues (List.Subset.trans (by decide) hf) (List.Subset.trans (by decide) ho)  q812) (fun x21 q815 => ?_)
          exact (ft_tw_sort_l99 (List.nil_subset _) (List.Subset.trans (by decide) ho) (fun s39 q816 => by
      refine Fo.bind (ft_tw_step (List.Subset.trans (by decide) hf) (List.Subset.trans (by decide) ho)  q816) (fun x41 q818 => ?_)
      exact (ft_tw_sort_l196 (List.nil_subset _) (List.Subset.trans (by decide) ho) (fun y50 s51 q819 => by
        exact Fo.some q819)  _ _ _ _ q818))  _ _ _ q815)
        · refine Fo.bind (ft_tw_throwing (List.Subset.trans (by decide) hf) (List.nil_subset _)  q812) (fun x53 q821 => ?_)
          exact Fo.some q821
      · refine Fo.bind (ft_tw_throwing (List.Subset.trans (by decide) hf) (List.nil_subset _)  q812) (fun x57 q822 => ?_)
        exact Fo.some q822
theorem ft_tw_enter_l57 {fs os : List Nat} {σ0 : gMem} {N : Nat} {h : Nat} {v1 : Int} {v2 : Int} {K : gMem → Option (Int × gMem)} (hf : [43] ⊆ fs) (ho : [] ⊆ os) (hK : ∀ (a0 : gMem), FT h fs os σ0 a0 → Fo (fun r => FT h fs os σ0 r.2) (K a0)) : ∀ (n : Nat) (z0 : gMem), FT h fs os σ0 z0 → Fo (fun r => FT h fs os σ0 r.2) (tw_enter_l57 N h v1 v2 K n z0) := by
  intro n
  induction n with
  | zero => intros; exact Fo.none
  | succ n ih =>
    intro s hs
    unfold tw_enter_l57
    refine Fo.ite (fun _ => ?_) (fun _ => ?_)
    · exact (hK _ hs)
    · refine Fo.ite (fun _ => ?_) (fun _ => Fo.none)
      refine Fo.ite (fun _ => ?_) (fun _ => ?_)
      · exact (hK _ hs)
      · refine FT.letIf hs (hf (by decide)) (fun s30 q823 => ?_)
        exact (ih _ q823)
theorem ft_tw_enter_l95 {fs os : List Nat} {σ0 : gMem} {N : Nat} {h : Nat} {v1 : Int} {v2 : Int} {K : gMem → Option (Int × gMem)} (hf : [44] ⊆ fs) (ho : [] ⊆ os) (hK : ∀ (a0 : gMem), FT h fs os σ0 a0 → Fo (fun r => FT h fs os σ0 r.2) (K a0)) : ∀ (n : Nat) (z0 : gMem), FT h fs os σ0 z0 → Fo (fun r => FT h fs os σ0 r.2) (tw_enter_l95 N h v1 v2 K n z0) := by
  intro n
  induction n with
  | zero => intros; exact Fo.none
  | succ n ih =>
    intro s hs
    unfold tw_enter_l95
    refine Fo.ite (fun _ => ?_) (fun _ => ?_)
    · exact (hK _ hs)
    · refine Fo.ite (fun _ => ?_) (fun _ => Fo.none)
      refine Fo.ite (fun _ => ?_) (fun _ => ?_)
      · exact (hK _ hs)
      · refine FT.letIf hs (hf (by decide)) (fun s40 q824 => ?_)
        exact (ih _ q824)
theorem ft_tw_enter_j266 {fs os : List Nat} {σ0 : gMem} {N : Nat} {h : Nat} {v1 : Int} {v2 : Int} {v5 : Int} {s : gMem} (hf : [15, 16, 17, 65] ⊆ fs) (ho : [1, 2, 3, 4, 5] ⊆ os) (hs : FT h fs os σ0 s) : Fo (fun r => FT h fs os σ0 r.2) (tw_enter_j266 N h v1 v2 v5 s) := by
  unfold tw_enter_j266
  refine Fo.bind (ft_tw_step hf ho  hs) (fun x57 q825 => ?_)
  refine Fo.bind (ft_tw_setCell (List.nil_subset _) (List.Subset.trans (by decide) ho)  q825) (fun x61 q826 => ?_)
  exact Fo.some q826
theorem ft_tw_enter_j193 {fs os : List Nat} {σ0 : gMem} {N : Nat} {h : Nat} {v1 : Int} {v2 : Int} {v4 : Int} {v5 : Int} {s : gMem} (hf : [0, 15, 16, 17, 25, 65] ⊆ fs) (ho : [1, 2, 3, 4, 5, 26] ⊆ os) (hs : FT h fs os σ0 s) : Fo (fun r => FT h fs os σ0 r.2) (tw_enter_j193 N h v1 v2 v4 v5 s) := by
  unfold tw_enter_j193
  refine Fo.ite (fun _ => ?_) (fun _ => ?_)
  · refine Fo.ite (fun _ => ?_) (fun _ => ?_)
    · refine Fo.ite (fun _ => ?_) (fun _ => ?_)
      · exact (ft_tw_enter_j266 (List.Subset.trans (by decide) hf) (List.Subset.trans (by decide) ho)  hs)
      · refine Fo.ite (fun _ => ?_) (fun _ => Fo.none)
        refine FT.letI hs (ho (by decide)) (fun s68 q827 => ?_)
        refine FT.letIf q827 (hf (by decide)) (fun s73 q828 => ?_)
        exact (ft_tw_enter_j266 (List.Subset.trans (by decide) hf) (List.Subset.trans (by decide) ho)  q828)
    · refine Fo.bind (ft_tw_throwing (List.Subset.trans (by decide) hf) (List.nil_subset _)  hs) (fun x76 q829 => ?_)
      exact Fo.some q829
  · refine Fo.bind (ft_tw_throwing (List.Subset.trans (by decide) hf) (List.nil_subset _)  hs) (fun x80 q830 => ?_)
    exact Fo.some q830
theorem ft_tw_enter_j165 {fs os : List Nat} {σ0 : gMem} {N : Nat} {h : Nat} {v1 : Int} {v2 : Int} {t0 : Int} {s : gMem} (hf : [0, 15, 16, 17, 19, 24, 25, 41, 42, 46, 47, 48, 49, 50, 51, 52, 53, 54, 55, 56, 57, 58, 59, 65] ⊆ fs) (ho : [1, 2, 3, 4, 5, 9, 10, 11, 12, 13, 14, 15, 16, 17, 18, 19, 20, 21, 22, 23, 24, 25, 26] ⊆ os) (hs : FT h fs os σ0 s) : Fo (fun r => FT h fs os σ0 r.2) (tw_enter_j165 N h v1 v2 t0 s) := by
  unfold tw_enter_j165
  refine FT.letIf hs (hf (by decide)) (fun s47 q831 => ?_)
  refine Fo.ite (fun _ => ?_) (fun _ => ?_)
  · refine Fo.bind (ft_tw_plainEntered (List.Subset.trans (by decide) hf) (List.Subset.trans (by decide) ho)  q831) (fun x50 q832 => ?_)
    exact (ft_tw_enter_j193 (List.Subset.trans (by decide) hf) (List.Subset.trans (by decide) ho)  q832)
  · refine Fo.bind (ft_tw_readFormula (List.Subset.trans (by decide) hf) (List.Subset.trans (by decide) ho)  q831) (fun x84 q833 => ?_)
    exact (ft_tw_enter_j193 (List.Subset.trans (by decide) hf) (List.Subset.trans (by decide) ho)  q833)
theorem ft_tw_enter_j164 {fs os : List Nat} {σ0 : gMem} {N : Nat} {h : Nat} {v1 : Int} {v2 : Int} {s : gMem} (hf : [0, 15, 16, 17, 19, 24, 25, 41, 42, 46, 47, 48, 49, 50, 51, 52, 53, 54, 55, 56, 57, 58, 59, 65] ⊆ fs) (ho : [1, 2, 3, 4, 5, 9, 10, 11, 12, 13, 14, 15, 16, 17, 18, 19, 20, 21, 22, 23, 24, 25, 26] ⊆ os) (hs : FT h fs os σ0 s) : Fo (fun r => FT h fs os σ0 r.2) (tw_enter_j164 N h v1 v2 s) := by
  unfold tw_enter_j164
  exact (ft_tw_enter_j165 hf ho  hs)
theorem ft_tw_enter_j135 {fs os : List Nat} {σ0 : gMem} {N : Nat} {h : Nat} {v1 : Int} {v2 : Int} {s : gMem} (hf : [0, 15, 16, 17, 19, 24, 25, 41, 42, 46, 47, 48, 49, 50, 51, 52, 53, 54, 55, 56, 57, 58, 59, 65] ⊆ fs) (ho : [1, 2, 3, 4, 5, 9, 10, 11, 12, 13, 14, 15, 16, 17, 18, 19, 20, 21, 22, 23, 24, 25, 26] ⊆ os) (hs : FT h fs os σ0 s) : Fo (fun r => FT h fs os σ0 r.2) (tw_enter_j135 N h v1 v2 s) := by
  unfold tw_enter_j135
  refine Fo.ite (fun _ => ?_) (fun _ => ?_)
  · exact (ft_tw_enter_j164 hf ho  hs)
  · refine Fo.ite (fun _ => ?_) (fun _ => Fo.none)
    refine Fo.ite (fun _ => ?_) (fun _ => ?_)
    · exact (ft_tw_enter_j164 hf ho  hs)
    · exact (ft_tw_enter_j165 hf ho  hs)
theorem ft_tw_enter {fs os : List Nat} {σ0 : gMem} {N : Nat} {h : Nat} {v1 : Int} {v2 : Int} {σ : gMem} (hf : [0, 15, 16, 17, 19, 24, 25, 40, 41, 42, 43, 44, 45, 46, 47, 48, 49, 50, 51, 52, 53, 54, 55, 56, 57, 58, 59, 65] ⊆ fs) (ho : [1, 2, 3, 4, 5, 9, 10, 11, 12, 13, 14, 15, 16, 17, 18, 19, 20, 21, 22, 23, 24, 25, 26] ⊆ os) (hσ : FT h fs os σ0 σ) : Fo (fun r => FT h fs os σ0 r.2) (tw_enter N h v1 v2 σ) := by
  unfold tw_enter
  refine FT.letIf hσ (hf (by decide)) (fun s1 q834 => ?_)
  refine Fo.pure (fun x4 => ?_)
  refine Fo.ite (fun _ => ?_) (fun _ => ?_)
  · refine FT.letIf q834 (hf (by decide)) (fun s7 q835 => ?_)
    refine FT.letIf q835 (hf (by decide)) (fun s10 q836 => ?_)
    refine FT.letIf q836 (hf (by decide)) (fun s13 q837 => ?_)
    refine FT.letIf q837 (hf (by decide)) (fun s16 q838 => ?_)
    refine FT.letIf q838 (hf (by decide)) (fun s19 q839 => ?_)
    refine FT.letIf q839 (hf (by decide)) (fun s22 q840 => ?_)
    exact (ft_tw_enter_l57 (List.Subset.trans (by decide) hf) (List.nil_subset _) (fun s33 q841 => by
      exact (ft_tw_enter_l95 (List.Subset.trans (by decide) hf) (List.nil_subset _) (fun s43 q843 => by
        exact (ft_tw_enter_j135 (List.Subset.trans (by decide) hf) ho  q843))  _ _ q841))  _ _ q840)
  · refine Fo.bind (ft_tw_throwing (List.Subset.trans (by decide) hf) (List.nil_subset _)  q834) (fun x89 q845 => ?_)
    exact Fo.some q845
theorem ft_tw_kind {fs os : List Nat} {σ0 : gMem} {N : Nat} {h : Nat} {v1 : Int} {v2 : Int} {v3 : Int} {σ : gMem} (hf : [0, 65, 71, 72, 73, 74, 75, 76, 77, 78, 79, 80, 81] ⊆ fs) (ho : [28, 29, 30, 31, 32, 33, 34, 35, 36, 37, 38, 39, 40, 41] ⊆ os) (hσ : FT h fs os σ0 σ) : Fo (fun r => FT h fs os σ0 r.2) (tw_kind N h v1 v2 v3 σ) := by
  unfold tw_kind
  refine FT.letIf hσ (hf (by decide)) (fun s1 q846 => ?_)
  refine Fo.pure (fun x4 => ?_)
  refine Fo.ite (fun _ => ?_) (fun _ => ?_)
  · refine Fo.pure (fun x6 => ?_)
    refine Fo.bind (ft_tw_needValues (List.Subset.trans (by decide) hf) ho  q846) (fun x8 q847 => ?_)
    refine Fo.ite (fun _ => ?_) (fun _ => Fo.none)
    exact Fo.some q847
  · exact Fo.some q846
