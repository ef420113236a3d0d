/-! ===== PHASE 2: reading: a place under ROW or COL is marked ===== -/
section Read28
variable {N x h hi all nv sh M lu0 b b' p q op pa pi : Nat} {bA : Nat → Int} {f : Int → List Int × List Int} {σ σ' σ'' τ τ' τ'' s r σ0 τ0 σ1 τ2 : gMem} {p0 pa0 nd k lu : Nat}
theorem or16 : ∀ a : Nat, a < 16 → bOr (a : Int) 16 = ((a + 16 : Nat) : Int) := by decide
theorem mark_rw {pt : Pt} {K : Nat} (w : RwT τ h b nv [pt]) (h5 : pK pt = 5) (hK : K = 41 ∨ K = 42) (e : Ex (fun a j => a = h + 24 ∧ j = b) τ τ') (e' : mI τ' (h + 24) b = bOr (mI τ (h + 24) b) 16) : SpT τ' h 1 b [pt] ∧ RwI τ' h b nv ([pt] ++ [mkO K 1]) 0 := by
  obtain ⟨k1, k2, k3⟩ := w
  obtain ⟨L, ⟨at', a1, a2⟩, po, m24, hF, hW⟩ := k3 0 Nat.zero_lt_one
  have as0 : askd [pt] 0 = false := by unfold askd; exact Bool.and_false _
  rw [as0] at m24
  have f24 : mI τ' (h + 24) b = ((pF pt + 16 : Nat) : Int) := by
    rw [e', show mI τ (h + 24) b = ((pF pt : Nat) : Int) from m24]
    exact or16 _ hF
  have ne : ∀ o, o ≠ 24 → mI τ' (h + o) b = mI τ (h + o) b := fun o ho => e.rI (fun y => by omega)
  obtain ⟨l1, l2, l3, l4, ⟨at2, l5, l6, l7⟩, l8, l9, l10, l11, l12, l13, l14⟩ := L
  have L' : LabT τ' h b pt := ⟨l1, by rw [ne 14 (by decide)]; exact l2, by rw [ne 15 (by decide)]; exact l3, by rw [e.rL (fun y => by omega)]; exact l4, ⟨at2, by rw [ne 18 (by decide)]; exact l5, l6, fun i hi => by rw [e.rI (fun y => by omega)]; exact l7 i hi⟩, by rw [ne 19 (by decide)]; exact l8, by rw [ne 20 (by decide)]; exact l9, by rw [ne 21 (by decide)]; exact l10, by rw [ne 22 (by decide)]; exact l11, by rw [ne 23 (by decide)]; exact l12, Or.inr f24, by rw [ne 25 (by decide)]; exact l14⟩
  refine ⟨?_, L', ⟨at', by show mI τ' (h + 18) b = at'; rw [ne 18 (by decide)]; exact a1, by rw [e.rI (fun y => by omega)]; exact a2⟩, po, ?_, hF, hW⟩
  · obtain ⟨p, ls, j1, j2, j3, j4, j5, j6, j7, j8⟩ := k1
    have ep : pt = p := by
      have := congrArg lab j1
      rw [lab_app] at this
      exact this
    subst ep
    have a0 : pA pt = 0 := by
      unfold argsOk at j5
      rw [if_pos (by omega)] at j5
      exact j5
    refine ⟨pt, [], rfl, a0.symm, L', po, ?_, ?_, by show 1 ≤ b + 1; omega, fun i hi => absurd hi (Nat.not_lt_zero _)⟩
    · unfold argsOk; rw [if_pos (by omega)]; exact a0
    · rw [ne 16 (by decide)]; exact j6
  · have as1 : askd ([pt] ++ [mkO K 1]) 0 = true := by
      have n : nextRC [mkO K 1] = true := by
        show decide (pK (mkO K 1) = 41 ∨ pK (mkO K 1) = 42) = true
        exact decide_eq_true hK
      show (decide (pK pt = 5) && nextRC [mkO K 1]) = true
      rw [n, decide_eq_true h5]; rfl
    rw [as1]
    exact f24
end Read28
