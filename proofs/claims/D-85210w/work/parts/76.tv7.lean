/-! ===== PHASE 2: the twin's formulas: counting ===== -/
section TwEv3
variable {N h d : Nat} {σ σ' s : gMem} {v w a b : Vl}
def AccOk (n : Nat) (acc : List Int) : Prop := acc.length ≤ n ∧ ∀ x ∈ acc, -1000000000000000 ≤ x ∧ x ≤ 1000000000000000
theorem AccOk.snoc {n : Nat} {acc : List Int} {x : Int} (g : AccOk n acc) (h1 : -1000000000000000 ≤ x) (h2 : x ≤ 1000000000000000) : AccOk (n + 1) (acc ++ [x]) := by
  refine ⟨by rw [List.length_append, List.length_singleton]; have := g.1; omega, fun y hy => ?_⟩
  rcases List.mem_append.mp hy with q | q
  · exact g.2 y q
  · rw [List.mem_singleton.mp q]; exact ⟨h1, h2⟩
theorem AccOk.mono {n m : Nat} {acc : List Int} (g : AccOk n acc) (h : n ≤ m) : AccOk m acc := ⟨Nat.le_trans g.1 h, g.2⟩
theorem sum_snoc (acc : List Int) (x : Int) : (acc ++ [x]).sum = acc.sum + x := by rw [List.sum_append]; simp
theorem AccOk.sum : ∀ {n : Nat} {acc : List Int}, AccOk n acc → -1000000000000000 * (n : Int) ≤ acc.sum ∧ acc.sum ≤ 1000000000000000 * (n : Int) := by
  intro n acc
  induction acc generalizing n with
  | nil => intro g; exact ⟨by show _ ≤ (0 : Int); omega, by show (0 : Int) ≤ _; omega⟩
  | cons x acc ih =>
    intro g
    have hl := g.1
    rw [List.length_cons] at hl
    obtain ⟨n, rfl⟩ : ∃ j, n = j + 1 := ⟨n - 1, by omega⟩
    have i := ih (n := n) ⟨by omega, fun y hy => g.2 y (List.mem_cons_of_mem _ hy)⟩
    have b := g.2 x List.mem_cons_self
    rw [List.sum_cons]
    omega
theorem lMin_snoc (x : Int) : ∀ (acc : List Int), acc ≠ [] → lMin (acc ++ [x]) = min (lMin acc) x := by
  intro acc
  induction acc with
  | nil => intro q; exact absurd rfl q
  | cons y acc ih =>
    intro _
    cases acc with
    | nil => rfl
    | cons z acc =>
      have e := ih (by simp)
      show min y (lMin ((z :: acc) ++ [x])) = min (min y (lMin (z :: acc))) x
      rw [e]; omega
theorem lMax_snoc (x : Int) : ∀ (acc : List Int), acc ≠ [] → lMax (acc ++ [x]) = max (lMax acc) x := by
  intro acc
  induction acc with
  | nil => intro q; exact absurd rfl q
  | cons y acc ih =>
    intro _
    cases acc with
    | nil => rfl
    | cons z acc =>
      have e := ih (by simp)
      show max y (lMax ((z :: acc) ++ [x])) = max (max y (lMax (z :: acc))) x
      rw [e]; omega
/-- a count is at hand -/
def CoT (σ : gMem) (h k : Nat) (acc : List Int) : Prop :=
  mI σ h 76 = acc.length ∧ mL σ h 77 = acc.sum ∧ (acc ≠ [] → mL σ h 78 = if k = 34 then lMin acc else lMax acc) ∧
  mI σ h 79 = (if acc.all (fun x => decide (x = 1)) then 1 else 0) ∧ mI σ h 80 = (if acc.any (fun x => decide (x = 1)) then 1 else 0)
theorem CoT.ex {P : Nat → Nat → Prop} {k : Nat} {acc : List Int} (x : Ex P σ σ') (hP : ∀ i, 76 ≤ i → i ≤ 80 → ¬ P h i) (g : CoT σ h k acc) : CoT σ' h k acc := by
  obtain ⟨g1, g2, g3, g4, g5⟩ := g
  refine ⟨?_, ?_, fun q => ?_, ?_, ?_⟩
  · rw [x.rI (hP 76 (by omega) (by omega))]; exact g1
  · rw [x.rL (hP 77 (by omega) (by omega))]; exact g2
  · rw [x.rL (hP 78 (by omega) (by omega))]; exact g3 q
  · rw [x.rI (hP 79 (by omega) (by omega))]; exact g4
  · rw [x.rI (hP 80 (by omega) (by omega))]; exact g5
/-- fields of a count -/
def Gp (h q k : Nat) : Prop := q = h ∧ 76 ≤ k ∧ k ≤ 80
theorem Gp.f {q k : Nat} (x : Gp h q k) : Fp h q k := ⟨x.1, by have := x.2; omega, by have := x.2; omega⟩
theorem t_count {k : Nat} {acc : List Int} {x : Int} (hd : d < 200) (g : CoT σ h k acc) (ha : AccOk 2560 acc) (hx : mL σ (h + 34) d = x) (h1 : -1000000000000000 ≤ x) (h2 : x ≤ 1000000000000000) : Ev (tw_count h k d σ) (fun r => Ex (Gp h) σ r ∧ CoT r h k (acc ++ [x])) := by
  obtain ⟨g1, g2, g3, g4, g5⟩ := g
  have sb := ha.sum
  have lb := ha.1
  unfold tw_count
  refine Ev.g (dG hd) (Ev.l ?_)
  rw [tn, hx, g2, w64_i (by omega) (by omega)]
  generalize e0 : wL σ h 77 (acc.sum + x) = s0
  have X0 : Ex (Gp h) σ s0 := by rw [← e0]; exact Ex.rf.L ⟨rfl, by decide, by decide⟩
  have f77 : mL s0 h 77 = acc.sum + x := by rw [← e0, mL_wL, if_pos ⟨rfl, rfl⟩, w64_i (by omega) (by omega)]
  have f76 : mI s0 h 76 = acc.length := by rw [← e0, mI_wL]; exact g1
  have f78 : mL s0 h 78 = mL σ h 78 := by rw [← e0, mL_wL, if_neg (by omega)]
  have f79 : mI s0 h 79 = mI σ h 79 := by rw [← e0, mI_wL]
  have f80 : mI s0 h 80 = mI σ h 80 := by rw [← e0, mI_wL]
  -- behind the best one
  have J56 : ∀ s1, Ex (Gp h) s0 s1 → mL s1 h 77 = acc.sum + x → mI s1 h 76 = acc.length → mL s1 h 78 = (if k = 34 then lMin (acc ++ [x]) else lMax (acc ++ [x])) → mI s1 h 79 = mI σ h 79 → mI s1 h 80 = mI σ h 80 → Ev (tw_count_j56 h x s1) (fun r => Ex (Gp h) σ r ∧ CoT r h k (acc ++ [x])) := by
    intro s1 X1 p77 p76 p78 p79 p80
    have J97 : ∀ (s2 : gMem) (t : Int), Ex (Gp h) s0 s2 → mL s2 h 77 = acc.sum + x → mI s2 h 76 = acc.length → mL s2 h 78 = (if k = 34 then lMin (acc ++ [x]) else lMax (acc ++ [x])) → mI s2 h 79 = (if (acc ++ [x]).all (fun x => decide (x = 1)) then 1 else 0) → t = (if (acc ++ [x]).any (fun x => decide (x = 1)) then 1 else 0) → Ev (tw_count_j97 h t s2) (fun r => Ex (Gp h) σ r ∧ CoT r h k (acc ++ [x])) := by
      intro s2 t X2 r77 r76 r78 r79 ht
      unfold tw_count_j97
      refine Ev.g (by rw [ht]; split <;> omega) (Ev.l (Ev.l (Ev.r ?_)))
      have e76 : w32 (mI (wI s2 h 80 t) h 76 + 1) = ((acc.length + 1 : Nat) : Int) := by rw [mI_wI, if_neg (by omega), r76]; exact inc32 (by omega)
      rw [e76]
      refine ⟨X0.tr ((X2.I ⟨rfl, by decide, by decide⟩).I ⟨rfl, by decide, by decide⟩), ?_, ?_, fun _ => ?_, ?_, ?_⟩
      · rw [mI_wI, if_pos ⟨rfl, rfl⟩, w32_i (by omega) (by omega), List.length_append, List.length_singleton]
      · rw [mL_wI, mL_wI, r77, sum_snoc]
      · rw [mL_wI, mL_wI, r78]
      · rw [mI_wI, if_neg (by omega), mI_wI, if_neg (by omega), r79]
      · rw [mI_wI, if_neg (by omega), mI_wI, if_pos ⟨rfl, rfl⟩, ht]
        exact w32_id (by split <;> decide)
    have J75 : ∀ t : Int, t = (if (acc ++ [x]).all (fun x => decide (x = 1)) then 1 else 0) → Ev (tw_count_j75 h x t s1) (fun r => Ex (Gp h) σ r ∧ CoT r h k (acc ++ [x])) := by
      intro t ht
      unfold tw_count_j75
      refine Ev.g (by rw [ht]; split <;> omega) (Ev.l ?_)
      have X2 : Ex (Gp h) s0 (wI s1 h 79 t) := X1.I ⟨rfl, by decide, by decide⟩
      have q77 : mL (wI s1 h 79 t) h 77 = acc.sum + x := by rw [mL_wI, p77]
      have q76 : mI (wI s1 h 79 t) h 76 = acc.length := by rw [mI_wI, if_neg (by omega), p76]
      have q78 : mL (wI s1 h 79 t) h 78 = (if k = 34 then lMin (acc ++ [x]) else lMax (acc ++ [x])) := by rw [mL_wI, p78]
      have q79 : mI (wI s1 h 79 t) h 79 = (if (acc ++ [x]).all (fun x => decide (x = 1)) then 1 else 0) := by
        rw [mI_wI, if_pos ⟨rfl, rfl⟩, ht]; exact w32_id (by split <;> decide)
      have q80 : mI (wI s1 h 79 t) h 80 = (if acc.any (fun x => decide (x = 1)) then 1 else 0) := by rw [mI_wI, if_neg (by omega), p80, g5]
      rw [q80]
      have ea : (acc ++ [x]).any (fun x => decide (x = 1)) = (acc.any (fun x => decide (x = 1)) || decide (x = 1)) := by rw [List.any_append]; simp
      unfold tw_count_j92
      by_cases c1 : acc.any (fun x => decide (x = 1)) = true
      · rw [if_pos c1]
        refine Ev.g (by decide) (J97 _ 1 X2 q77 q76 q78 q79 ?_)
        rw [ea, c1]; rfl
      · rw [if_neg c1]
        refine Ev.f (fun q => q rfl) ?_
        by_cases c2 : x = 1
        · refine Ev.f (fun q => q (gcmp_eq.mpr c2)) (J97 _ 1 X2 q77 q76 q78 q79 ?_)
          rw [ea, decide_eq_true c2, Bool.or_true]; rfl
        · refine Ev.g (fun q => c2 (gcmp_eq.mp q)) (J97 _ 0 X2 q77 q76 q78 q79 ?_)
          rw [ea, decide_eq_false c2, Bool.or_false, if_neg c1]
    unfold tw_count_j56 tw_count_j74
    rw [p79, g4]
    have ea : (acc ++ [x]).all (fun x => decide (x = 1)) = (acc.all (fun x => decide (x = 1)) && decide (x = 1)) := by rw [List.all_append]; simp
    by_cases c1 : acc.all (fun x => decide (x = 1)) = true
    · rw [if_pos c1]
      refine Ev.f (by decide) ?_
      by_cases c2 : x = 1
      · refine Ev.f (fun q => q (gcmp_eq.mpr c2)) (J75 1 ?_)
        rw [ea, c1, decide_eq_true c2]; rfl
      · refine Ev.g (fun q => c2 (gcmp_eq.mp q)) (J75 0 ?_)
        rw [ea, decide_eq_false c2, Bool.and_false]; rfl
    · rw [if_neg c1]
      refine Ev.g rfl (J75 0 ?_)
      rw [ea, show acc.all (fun x => decide (x = 1)) = false from Bool.eq_false_iff.mpr c1]; rfl
  have J51 : (x = if k = 34 then lMin (acc ++ [x]) else lMax (acc ++ [x])) → Ev (tw_count_j51 h x s0) (fun r => Ex (Gp h) σ r ∧ CoT r h k (acc ++ [x])) := by
    intro hb
    unfold tw_count_j51
    refine Ev.l (J56 _ (Ex.rf.L ⟨rfl, by decide, by decide⟩) ?_ ?_ ?_ ?_ ?_)
    · rw [mL_wL, if_neg (by omega), f77]
    · rw [mI_wL, f76]
    · rw [mL_wL, if_pos ⟨rfl, rfl⟩, w64_i (by omega) (by omega)]; exact hb
    · rw [mI_wL, f79]
    · rw [mI_wL, f80]
  rw [f76, f78]
  by_cases he : acc = []
  · subst he
    refine Ev.g rfl (J51 ?_)
    show x = if k = 34 then x else x
    split <;> rfl
  · have hl : acc.length ≠ 0 := fun q => he (List.eq_nil_of_length_eq_zero q)
    refine Ev.f (by omega) ?_
    rw [g3 he]
    have e1 := lMin_snoc x acc he
    have e2 := lMax_snoc x acc he
    by_cases hk : k = 34
    · refine Ev.f (fun q => q (by omega)) ?_
      simp only [if_pos hk] at *
      by_cases c : lMin acc ≤ x
      · refine Ev.g (gcmp_nn.mpr c) (J56 s0 Ex.rf f77 f76 ?_ f79 f80)
        rw [f78, g3 he]; omega
      · exact Ev.f (fun q => c (gcmp_nn.mp q)) (J51 (by omega))
    · refine Ev.g (by omega) ?_
      simp only [if_neg hk] at *
      by_cases c : x ≤ lMax acc
      · refine Ev.g (gcmp_np.mpr c) (J56 s0 Ex.rf f77 f76 ?_ f79 f80)
        rw [f78, g3 he]; omega
      · exact Ev.f (fun q => c (gcmp_np.mp q)) (J51 (by omega))
end TwEv3
