/-! ===== PHASE 2: reading: a bracket opens ===== -/
section Read31
variable {N x h hi all nv sh M lu0 b b' p q op pa pi : Nat} {bA : Nat → Int} {f : Int → List Int × List Int} {σ σ' σ'' τ τ' τ'' s r σ0 τ0 σ1 τ2 : gMem} {p0 pa0 nd k lu : Nat}
/-- both open a bracket, or both tell that there are too many -/
theorem rd_opens (hN : 500 ≤ N) (S : S2 x h hi all nv sh M lu0 bA f σ τ q q op pa pi) (qh : q < hi) (e49 : mI τ h 49 = ((q + 1 : Nat) : Int)) :
    (∃ r2, op = 20 ∧ ∃ s, x6_opens (x + 1429) σ = some (.inr "SheetBranches$Wrong", s) ∧ tw_opens h τ = some (0, r2) ∧ ErN x h hi M lu0 σ τ q pa s r2) ∨
    (∃ s r2, op + 1 ≤ 20 ∧ q < hi ∧ x6_opens (x + 1429) σ = some (.inl none, wI s (x + 1429) 6 ((q + 1 : Nat) : Int)) ∧ tw_opens h τ = some (1, r2) ∧ S2 x h hi all nv sh M lu0 bA f s r2 q q (op + 1) pa pi ∧ CF x σ s 0 ∧ TF (lu0 + hi) h τ r2 (M + pa) ∧ mI r2 h 49 = ((q + 1 : Nat) : Int) ∧ (∀ j, j ≠ 7 → mI s (x + 1429) j = mI σ (x + 1429) j) ∧ ∀ a j, a ≠ h → mI r2 a j = mI τ a j) := by
  have S0 := S
  obtain ⟨c, t, ⟨s1, s2, s3, s4⟩, ⟨t1, t2, t3, t4, t5⟩, ⟨l1, l2, l3⟩, b1, b2, b3, b4, b5, b6, b7⟩ := S
  have tx := c.1.2.2.2.2.2.2.2
  have h4 : hi ≤ 400 := by have := tx.2.2.1; have := tx.2.2.2; omega
  by_cases e : op = 20
  · left
    obtain ⟨a, r2, ea, eb, z1, z2⟩ := S0.wrong (k := 2) (kt := some) (p0 := q) (pa0 := pa) ((CF.rf c).mono (by omega)) (TF.rf b5) (Nat.le_refl _) (Nat.le_refl _) (by decide) (fun r _ => rfl)
    have ee : x6_opens (x + 1429) σ = some a := by
      unfold x6_opens
      rw [if_pos c.1.1, s2, if_neg (by omega), s1]; exact ea
    have eb' : tw_fail h 2 (mI τ h 48) τ = some r2 := by rw [← eb]; exact bnd_id.symm
    have et : tw_opens h τ = some (0, r2) := by
      unfold tw_opens
      rw [t3, if_neg (by omega), eb', Option.bind_some]
    obtain ⟨a1', a2'⟩ := a
    have z1' : a1' = .inr "SheetBranches$Wrong" := z1
    subst z1'
    exact ⟨r2, e, a2', ee, et, z2⟩
  · right
    have ee : x6_opens (x + 1429) σ = some (.inl none, wI (wI σ (x + 1429) 7 ((op + 1 : Nat) : Int)) (x + 1429) 6 ((q + 1 : Nat) : Int)) := by
      unfold x6_opens
      simp only [gLet]
      rw [if_pos c.1.1, s2, if_pos (by omega), inc32 (by omega), mIwI1 (by omega), s1, inc32 (by omega)]
    have et : tw_opens h τ = some (1, wI τ h 57 ((op + 1 : Nat) : Int)) := by
      unfold tw_opens
      rw [t3, if_pos (by omega), inc32 (by omega)]; rfl
    obtain ⟨S1, cf1, tf1⟩ := S0.opn (op' := op + 1) (by omega)
    exact ⟨_, _, by omega, qh, ee, et, S1, cf1, tf1, by rw [mIwI1 (by omega)]; exact e49, fun j hj => mIwI1 (by omega), fun a j ha => mIwI1 (by omega)⟩
end Read31
