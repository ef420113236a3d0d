/-! ===== PHASE 2: reading: how many parts a call takes ===== -/
section Read29
variable {K i : Nat} {pt : Pt}
theorem nm_cnt : ∀ k, k < 18 → (gnm.getD k []).getD 2 0 = ((leastA (nmk k) : Nat) : Int) ∧ (gnm.getD k []).getD 3 0 = ((mostA (nmk k) : Nat) : Int) ∧ mostA (nmk k) ≤ 8 ∧ 30 ≤ nmk k ∧ nmk k ≤ 47 := by decide
theorem tkT_takes : tkT K i ((pK pt : Nat) : Int) = takes K i pt := by
  unfold tkT takes
  by_cases e : ((K = 45 ∨ K = 47) ∧ i = 0) ∨ (K = 46 ∧ i = 1)
  · rw [if_pos e, if_pos e]
    exact decide_eq_decide.mpr (by omega)
  · rw [if_neg e, if_neg e]
    by_cases w : K = 41 ∨ K = 42
    · rw [if_pos w, if_pos w]
      exact decide_eq_decide.mpr (by omega)
    · rw [if_neg w, if_neg w]
      have z : decide (((pK pt : Nat) : Int) ≠ 6) = decide (pK pt ≠ 6) := decide_eq_decide.mpr (by omega)
      rw [z]
end Read29
