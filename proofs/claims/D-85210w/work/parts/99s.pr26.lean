/-! ===== PHASE 2: reading: what the twin takes ===== -/
section Read26
variable {N x h hi all nv sh M lu0 b b' p q op pa pi : Nat} {bA : Nat → Int} {f : Int → List Int × List Int} {σ σ' σ'' τ τ' τ'' s r σ0 τ0 σ1 τ2 : gMem} {p0 pa0 nd k lu : Nat}
theorem t_isMany {K : Int} : tw_isMany K τ = some (if 31 ≤ K ∧ K ≤ 36 then 1 else 0) := by
  unfold tw_isMany
  rw [t_in, Option.bind_some]
  by_cases e : 31 ≤ K ∧ K ≤ 36
  · rw [if_pos e, if_pos (Or.inr rfl)]
  · rw [if_neg e, if_pos (Or.inl rfl)]
theorem t_leastK {K : Nat} (hK : 30 ≤ K ∧ K ≤ 47) : tw_leastArgs (K : Int) τ = some ((leastA K : Nat) : Int) := by
  unfold tw_leastArgs leastA
  by_cases e : K = 30
  · rw [if_neg (by omega), if_pos e]; rfl
  · rw [if_pos (by omega), if_neg e, t_isMany, Option.bind_some, t_in]
    by_cases e2 : 31 ≤ K ∧ K ≤ 36
    · rw [if_pos (show 31 ≤ (K : Int) ∧ (K : Int) ≤ 36 by omega), if_pos (by decide : (1 : Int) ≠ 0), if_pos (show 31 ≤ K ∧ K ≤ 42 by omega)]; rfl
    · rw [if_neg (show ¬ (31 ≤ (K : Int) ∧ (K : Int) ≤ 36) by omega), if_neg (fun z => z rfl), Option.bind_some]
      by_cases e3 : 37 ≤ K ∧ K ≤ 42
      · rw [if_pos (show 37 ≤ (K : Int) ∧ (K : Int) ≤ 42 by omega), if_neg (by decide : ¬ (1 : Int) = 0), if_pos (show 31 ≤ K ∧ K ≤ 42 by omega)]; rfl
      · rw [if_neg (show ¬ (37 ≤ (K : Int) ∧ (K : Int) ≤ 42) by omega), if_pos rfl, if_neg (show ¬ (31 ≤ K ∧ K ≤ 42) by omega)]; rfl
theorem t_mostK {K : Nat} (hK : 30 ≤ K ∧ K ≤ 47) : tw_mostArgs (K : Int) τ = some ((mostA K : Nat) : Int) := by
  unfold tw_mostArgs mostA
  rw [t_isMany, Option.bind_some]
  by_cases e2 : 31 ≤ K ∧ K ≤ 36
  · rw [if_pos (show 31 ≤ (K : Int) ∧ (K : Int) ≤ 36 by omega), if_neg (by decide), if_pos e2]; rfl
  · rw [if_neg (show ¬ (31 ≤ (K : Int) ∧ (K : Int) ≤ 36) by omega), if_pos rfl, t_leastK hK, if_neg e2]; rfl
/-- what a name takes, by the twin's kinds -/
def tkT (K i : Nat) (t : Int) : Bool := if ((K = 45 ∨ K = 47) ∧ i = 0) ∨ (K = 46 ∧ i = 1) then decide (t = 6 ∨ t = 4) else if K = 41 ∨ K = 42 then decide (t = 5 ∨ t = 4) else decide (t ≠ 6) || decide (31 ≤ K ∧ K ≤ 36)
theorem tw_99 {t : Int} : tw_isArg_j99 h t τ = some (if decide (t ≠ 6) then 1 else 0, τ) := by
  unfold tw_isArg_j99 tw_isArg_j100
  rw [if_pos rfl]
  by_cases e : t = 6
  · rw [if_pos e, if_neg (fun z => (of_decide_eq_true z) e)]
  · rw [if_neg e, if_pos (decide_eq_true e)]
theorem tw_95 {t : Int} : tw_isArg_j95 h t τ = some (if decide (t = 6 ∨ t = 4) then 1 else 0, τ) := by
  unfold tw_isArg_j95 tw_isArg_j100
  rw [if_neg (by decide)]
  by_cases e : t = 6
  · rw [if_pos e, if_pos (decide_eq_true (Or.inl e))]
  · rw [if_neg e]
    by_cases e' : t = 4
    · rw [if_neg (fun z => z e'), if_pos (decide_eq_true (Or.inr e'))]
    · rw [if_pos e', if_neg (fun z => (of_decide_eq_true z).elim e e')]
theorem tw_50 {t : Int} : tw_isArg_j50 h t τ = some (if decide (t = 5 ∨ t = 4) then 1 else 0, τ) := by
  unfold tw_isArg_j50
  by_cases e : t = 5
  · rw [if_pos e, if_pos (decide_eq_true (Or.inl e))]
  · rw [if_neg e]
    by_cases e' : t = 4
    · rw [if_neg (fun z => z e'), if_pos (decide_eq_true (Or.inr e'))]
    · rw [if_pos e', if_neg (fun z => (of_decide_eq_true z).elim e e')]
theorem t_isArg {K i P : Nat} (hK : 30 ≤ K ∧ K ≤ 47) (hP : P < 60420) : tw_isArg h K i P τ = some (if tkT K i (mI τ (h + 14) P) then 1 else 0, if (K = 41 ∨ K = 42) ∧ mI τ (h + 14) P = 5 then wI τ (h + 24) P (bOr (mI τ (h + 24) P) 16) else τ) := by
  unfold tw_isArg tkT
  rw [if_pos (by omega), t_isMany, Option.bind_some, tn]
  generalize hv : mI τ (h + 14) P = v
  have J29 : (K = 41 ∨ K = 42) → tw_isArg_j29 h P v τ = some (if decide (v = 5 ∨ v = 4) then 1 else 0, if (K = 41 ∨ K = 42) ∧ v = 5 then wI τ (h + 24) P (bOr (mI τ (h + 24) P) 16) else τ) := by
    intro hk
    unfold tw_isArg_j29
    by_cases e : v = 5
    · rw [if_neg (fun z => z e), if_pos (by omega), if_pos (by omega), if_pos (show (K = 41 ∨ K = 42) ∧ v = 5 from ⟨hk, e⟩), tn]
      exact tw_50 (h := h)
    · rw [if_pos e, tw_50, if_neg (show ¬ ((K = 41 ∨ K = 42) ∧ v = 5) from fun z => e z.2)]
  by_cases m : 31 ≤ K ∧ K ≤ 36
  · rw [if_pos (show 31 ≤ (K : Int) ∧ (K : Int) ≤ 36 by omega), if_neg (by decide), if_neg (show ¬ (((K = 45 ∨ K = 47) ∧ i = 0) ∨ (K = 46 ∧ i = 1)) by omega), if_neg (show ¬ (K = 41 ∨ K = 42) by omega), if_neg (show ¬ ((K = 41 ∨ K = 42) ∧ v = 5) by omega), decide_eq_true m, Bool.or_true]
    rfl
  · rw [if_neg (show ¬ (31 ≤ (K : Int) ∧ (K : Int) ≤ 36) by omega), if_pos rfl]
    by_cases e41 : K = 41
    · rw [if_pos (by omega), J29 (Or.inl e41), if_neg (show ¬ (((K = 45 ∨ K = 47) ∧ i = 0) ∨ (K = 46 ∧ i = 1)) by omega), if_pos (show K = 41 ∨ K = 42 from Or.inl e41)]
    rw [if_neg (by omega)]
    by_cases e42 : K = 42
    · rw [if_neg (by omega), J29 (Or.inr e42), if_neg (show ¬ (((K = 45 ∨ K = 47) ∧ i = 0) ∨ (K = 46 ∧ i = 1)) by omega), if_pos (show K = 41 ∨ K = 42 from Or.inr e42)]
    rw [if_pos (by omega), if_neg (show ¬ ((K = 41 ∨ K = 42) ∧ v = 5) by omega)]
    have mf : decide (31 ≤ K ∧ K ≤ 36) = false := decide_eq_false m
    by_cases e45 : K = 45
    · rw [if_pos (by omega)]
      unfold tw_isArg_j80
      by_cases i0 : i = 0
      · rw [if_pos (by omega), tw_95, if_pos (show ((K = 45 ∨ K = 47) ∧ i = 0) ∨ (K = 46 ∧ i = 1) by omega)]
      · unfold tw_isArg_j84
        rw [if_neg (by omega), if_pos (by omega), tw_99, if_neg (show ¬ (((K = 45 ∨ K = 47) ∧ i = 0) ∨ (K = 46 ∧ i = 1)) by omega), if_neg (show ¬ (K = 41 ∨ K = 42) by omega), mf, Bool.or_false]
    rw [if_neg (by omega)]
    by_cases e47 : K = 47
    · rw [if_neg (by omega)]
      unfold tw_isArg_j80
      by_cases i0 : i = 0
      · rw [if_pos (by omega), tw_95, if_pos (show ((K = 45 ∨ K = 47) ∧ i = 0) ∨ (K = 46 ∧ i = 1) by omega)]
      · unfold tw_isArg_j84
        rw [if_neg (by omega), if_pos (by omega), tw_99, if_neg (show ¬ (((K = 45 ∨ K = 47) ∧ i = 0) ∨ (K = 46 ∧ i = 1)) by omega), if_neg (show ¬ (K = 41 ∨ K = 42) by omega), mf, Bool.or_false]
    rw [if_pos (by omega)]
    unfold tw_isArg_j84
    by_cases e46 : K = 46
    · rw [if_neg (by omega)]
      by_cases i1 : i = 1
      · rw [if_neg (by omega), tw_95, if_pos (show ((K = 45 ∨ K = 47) ∧ i = 0) ∨ (K = 46 ∧ i = 1) by omega)]
      · rw [if_pos (by omega), tw_99, if_neg (show ¬ (((K = 45 ∨ K = 47) ∧ i = 0) ∨ (K = 46 ∧ i = 1)) by omega), if_neg (show ¬ (K = 41 ∨ K = 42) by omega), mf, Bool.or_false]
    · rw [if_pos (by omega), tw_99, if_neg (show ¬ (((K = 45 ∨ K = 47) ∧ i = 0) ∨ (K = 46 ∧ i = 1)) by omega), if_neg (show ¬ (K = 41 ∨ K = 42) by omega), mf, Bool.or_false]
/-- both take the same -/
theorem tk_both {k i t : Nat} {v : Int} (hk : k < 18) (g17 : t = 17 ↔ v = 6) (g15 : t = 15 ↔ v = 5) (g13 : t = 13 ↔ v = 4) : tkC k i t = tkT (nmk k) i v := by
  have nk : ∀ k, k < 18 → ((nmk k = 45 ↔ k = 13) ∧ (nmk k = 47 ↔ k = 14) ∧ (nmk k = 46 ↔ k = 12) ∧ (nmk k = 41 ↔ k = 16) ∧ (nmk k = 42 ↔ k = 17) ∧ ((31 ≤ nmk k ∧ nmk k ≤ 36) ↔ (k = 1 ∨ k = 2 ∨ (5 ≤ k ∧ k ≤ 8)))) := by decide
  obtain ⟨a1, a2, a3, a4, a5, a6⟩ := nk k hk
  unfold tkC tkT mstA mayA
  by_cases e : (k = 12 ∧ i = 1) ∨ ((k = 13 ∨ k = 14) ∧ i = 0)
  · rw [if_pos (decide_eq_true e), if_pos (show ((nmk k = 45 ∨ nmk k = 47) ∧ i = 0) ∨ (nmk k = 46 ∧ i = 1) by omega)]
    exact decide_eq_decide.mpr (by rw [g17, g13])
  · rw [if_neg (fun z => e (of_decide_eq_true z)), if_neg (show ¬ (((nmk k = 45 ∨ nmk k = 47) ∧ i = 0) ∨ (nmk k = 46 ∧ i = 1)) by omega)]
    by_cases w : k = 16 ∨ k = 17
    · rw [if_pos w, if_pos (show nmk k = 41 ∨ nmk k = 42 by omega)]
      exact decide_eq_decide.mpr (by rw [g15, g13])
    · rw [if_neg w, if_neg (show ¬ (nmk k = 41 ∨ nmk k = 42) by omega)]
      by_cases t17 : t = 17
      · rw [if_pos t17, decide_eq_false (show ¬ v ≠ 6 from fun z => z (g17.mp t17)), Bool.false_or]
        exact decide_eq_decide.mpr (by omega)
      · rw [if_neg t17, decide_eq_true (show v ≠ 6 from fun z => t17 (g17.mpr z)), Bool.true_or]
end Read26
