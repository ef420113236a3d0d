/-! ===== PHASE 2: constants and values are kept ===== -/
section Keep2
variable {σ σ' s : gMem} {W : Nat → Prop}
theorem KS.kp (x : Kz W σ σ') (g : gOk σ) (z : 0 < mZ σ) (w0 : ¬ W 0) (wt : ∀ a, W a → mT σ a < 90 ∨ 100 ≤ mT σ a) (h : KS σ) : KS σ' := by
  intro k hk
  have q := h k hk
  have e0 : mR σ' 0 (20 + k) = mR σ 0 (20 + k) := (x.2.2.2 0 z w0 _).2.2
  have n : ¬ W (mR σ 0 (20 + k)) := fun w => by have := wt _ w; omega
  rw [e0, x.tag g (by omega), x.rI g (by omega) n, x.rI g (by omega) n]; exact q
theorem KN.kp (x : Kz W σ σ') (g : gOk σ) (z : 0 < mZ σ) (w0 : ¬ W 0) (wt : ∀ a, W a → mT σ a < 90 ∨ 100 ≤ mT σ a) (h : KN σ) : KN σ' := by
  intro k hk
  have q := h k hk
  have e0 : mR σ' 0 k = mR σ 0 k := (x.2.2.2 0 z w0 _).2.2
  have n : ¬ W (mR σ 0 k) := fun w => by have := wt _ w; omega
  rw [e0, x.tag g (by omega), x.rI g (by omega) n]; exact q
theorem Kx.kp (x : Kz W σ σ') (g : gOk σ) (wt : ∀ a, W a → mT σ a < 90 ∨ 100 ≤ mT σ a) {a : Nat} {t : List Int} (h : Kx σ a t) : Kx σ' a t := by
  obtain ⟨h1, h2, h3⟩ := h
  have n : ¬ W a := fun w => by have := wt _ w; omega
  exact ⟨by rw [x.tag g (by omega)]; exact h1, by rw [x.len g (by omega)]; exact h2, fun j hj => by rw [x.rI g (by omega) n]; exact h3 j hj⟩
theorem Ck.kp (x : Kz W σ σ') (g : gOk σ) (z : 0 < mZ σ) (w0 : ¬ W 0) (wt : ∀ a, W a → mT σ a < 90 ∨ 100 ≤ mT σ a) (h : Ck σ) : Ck σ' := by
  unfold Ck
  rw [(x.2.2.2 0 z w0 _).2.2, (x.2.2.2 0 z w0 _).2.2]
  exact ⟨h.1.kp x g wt, h.2.kp x g wt⟩
theorem VV.kp (x : Kz W σ σ') (g : gOk σ) {q : Nat} {V : Nat → Vl} (h : VV σ q V) (w : ∀ i, i ≤ 4 → ¬ W (q + i)) : VV σ' q V := by
  obtain ⟨k1, k2, k3, k4, k5, k6, k7, k8, k9, k10, k11, k12, k13, k14⟩ := h
  have w0 : ¬ W q := w 0 (by omega)
  refine ⟨by rw [x.tag g (by omega)]; exact k1, by rw [x.rR g (by omega) w0]; exact k2, by rw [x.rR g (by omega) w0]; exact k3, by rw [x.rR g (by omega) w0]; exact k4, by rw [x.rR g (by omega) w0]; exact k5, by rw [x.tag g (by omega)]; exact k6, by rw [x.len g (by omega)]; exact k7, by rw [x.tag g (by omega)]; exact k8, by rw [x.len g (by omega)]; exact k9, by rw [x.tag g (by omega)]; exact k10, by rw [x.len g (by omega)]; exact k11, by rw [x.tag g (by omega)]; exact k12, by rw [x.len g (by omega)]; exact k13, fun k hk => ?_⟩
  obtain ⟨a1, a2, a3, a4, a5⟩ := k14 k hk
  exact ⟨a1, by rw [x.rI g (by omega) (w 1 (by omega))]; exact a2, by rw [x.rI g (by omega) (w 2 (by omega))]; exact a3, by rw [x.rL g (by omega) (w 4 (by omega))]; exact a4, fun i hi => by rw [x.rI g (by omega) (w 3 (by omega))]; exact a5 i hi⟩
end Keep2
