/-! ===== PHASE 2: the component's contents and sheets ===== -/
section CoSheet1
variable {σ σ' s : gMem} {W : Nat → Prop}
/-- a content lies at a -/
def CtC (σ : gMem) (a : Nat) (ct : Ct) : Prop :=
  (a = 0 ∧ ct = (vE, [])) ∨
  (mT σ a = 11 ∧ ct = ((1, (mL σ a 0, [])), []) ∧ -1000000000000000 < mL σ a 0 ∧ mL σ a 0 < 1000000000000000) ∨
  (mT σ a = 12 ∧ mR σ a 0 = a + 1 ∧ mT σ (a + 1) = 102 ∧ ct = (vTx (lst (mN σ (a + 1)) (mI σ (a + 1))), []) ∧ mN σ (a + 1) ≤ 24 ∧ ∀ i, i < mN σ (a + 1) → 32 ≤ mI σ (a + 1) i ∧ mI σ (a + 1) i ≤ 126) ∨
  (mT σ a = 16 ∧ ct = (vIs (decide (mI σ a 0 ≠ 0)), []) ∧ bz1 (mI σ a 0)) ∨
  (mT σ a = 21 ∧ ct.1 = vE ∧ ct.2 ≠ [] ∧ ct.2.length ≤ 60 ∧ IsP σ 60 (mR σ a 0) ct.2 ∧ pK (lab ct.2) ≠ 6 ∧ mI σ a 1 = ct.2.length)
theorem CtC.node {a : Nat} {ct : Ct} (h : CtC σ a ct) : a = 0 ∨ gNode (mT σ a) = true := by
  rcases h with h | h | h | h | h
  · exact Or.inl h.1
  · right; rw [h.1]; decide
  · right; rw [h.1]; decide
  · right; rw [h.1]; decide
  · right; rw [h.1]; decide
theorem CtC.form {a : Nat} {ct : Ct} (z0 : mT σ 0 = 0) (h : CtC σ a ct) : mT σ a = 21 ↔ ct.2 ≠ [] := by
  rcases h with h | h | h | h | h
  · rw [h.1, z0, h.2]; exact ⟨fun z => (by cases z), fun z => absurd rfl z⟩
  · rw [h.1, h.2.1]; exact ⟨fun z => (by cases z), fun z => absurd rfl z⟩
  · rw [h.1, h.2.2.2.1]; exact ⟨fun z => (by cases z), fun z => absurd rfl z⟩
  · rw [h.1, h.2.1]; exact ⟨fun z => (by cases z), fun z => absurd rfl z⟩
  · exact ⟨fun _ => h.2.2.1, fun _ => h.1⟩
theorem CtC.fm {a : Nat} {ct : Ct} (h : CtC σ a ct) (c : ct.2 ≠ []) : mT σ a = 21 ∧ ct.1 = vE ∧ ct.2.length ≤ 60 ∧ IsP σ 60 (mR σ a 0) ct.2 ∧ pK (lab ct.2) ≠ 6 ∧ mI σ a 1 = ct.2.length := by
  rcases h with h | h | h | h | h
  · rw [h.2] at c; exact absurd rfl c
  · rw [h.2.1] at c; exact absurd rfl c
  · rw [h.2.2.2.1] at c; exact absurd rfl c
  · rw [h.2.1] at c; exact absurd rfl c
  · exact ⟨h.1, h.2.1, h.2.2.2⟩
theorem CtC.kp (x : Kz W σ σ') (g : gOk σ) (z : 0 < mZ σ) (n : WN σ W) {a : Nat} {ct : Ct} (h : CtC σ a ct) : CtC σ' a ct := by
  rcases h with h | h | h | h | h
  · exact Or.inl h
  · refine Or.inr (Or.inl ?_)
    have t : mT σ a ≠ 0 := by omega
    rw [x.tag g t, x.rL g t (n.nd ⟨by omega, by omega⟩)]; exact h
  · refine Or.inr (Or.inr (Or.inl ?_))
    obtain ⟨h1, h2, h3, h4⟩ := h
    have t : mT σ a ≠ 0 := by omega
    have t1 : mT σ (a + 1) ≠ 0 := by omega
    have n1 : ¬ W (a + 1) := fun w => by have := (n.2 _ w).2.2 h3; rw [Nat.add_sub_cancel] at this; exact this h1
    have e : mI σ' (a + 1) = mI σ (a + 1) := by funext i; exact x.rI g t1 n1 i
    rw [x.tag g t, x.rR g t (n.nd ⟨by omega, by omega⟩), x.tag g t1, x.len g t1, e]; exact ⟨h1, h2, h3, h4⟩
  · refine Or.inr (Or.inr (Or.inr (Or.inl ?_)))
    have t : mT σ a ≠ 0 := by omega
    rw [x.tag g t, x.rI g t (n.nd ⟨by omega, by omega⟩)]; exact h
  · refine Or.inr (Or.inr (Or.inr (Or.inr ?_)))
    obtain ⟨h1, h2, h3, h4, h5, h6, h7⟩ := h
    have t : mT σ a ≠ 0 := by omega
    rw [x.tag g t, x.rR g t (n.nd ⟨by omega, by omega⟩), x.rI g t (n.nd ⟨by omega, by omega⟩)]
    exact ⟨h1, h2, h3, h4, h5.kp x g z n _ _ _, h6, h7⟩
/-- a sheet: marks of rows and columns, contents by places -/
abbrev Sh : Type := (List Int × List Int) × (Nat → Ct)
/-- a row of contents, of n cells -/
def RwC (σ : gMem) (b n : Nat) (f : Nat → Ct) : Prop := mT σ b = 110 ∧ mN σ b = n ∧ ∀ c, c < n → CtC σ (mR σ b c) (f c)
/-- a component's sheet -/
def ShC (σ : gMem) (a : Nat) (S : Sh) : Prop :=
  ShL σ a S.1.1 S.1.2 ∧ mT σ (mR σ a 2) = 111 ∧ mN σ (mR σ a 2) = S.1.1.length ∧ ∀ r, r < S.1.1.length → RwC σ (mR σ (mR σ a 2) r) S.1.2.length (fun c => S.2 (10 * r + c))
/-- whether a cell of the heap belongs to a sheet -/
def ShA (σ : gMem) (a : Nat) (n b : Nat) : Prop := b = a ∨ b = mR σ a 0 ∨ b = mR σ a 1 ∨ b = mR σ a 2 ∨ ∃ r, r < n ∧ b = mR σ (mR σ a 2) r
theorem RwC.kp (x : Kz W σ σ') (g : gOk σ) (z : 0 < mZ σ) (n : WN σ W) {b m : Nat} {f : Nat → Ct} (h : RwC σ b m f) (w : ¬ W b) : RwC σ' b m f := by
  obtain ⟨h1, h2, h3⟩ := h
  have t : mT σ b ≠ 0 := by omega
  refine ⟨by rw [x.tag g t]; exact h1, by rw [x.len g t]; exact h2, fun c hc => ?_⟩
  rw [x.rR g t w]; exact (h3 c hc).kp x g z n
theorem ShC.kp (x : Kz W σ σ') (g : gOk σ) (z : 0 < mZ σ) (n : WN σ W) {a : Nat} {S : Sh} (h : ShC σ a S) (w : ∀ b, ShA σ a S.1.1.length b → ¬ W b) : ShC σ' a S := by
  obtain ⟨h1, h2, h3, h4⟩ := h
  have ta : mT σ a ≠ 0 := by rw [h1.1]; decide
  have tc : mT σ (mR σ a 2) ≠ 0 := by rw [h2]; decide
  have wa : ¬ W a := w a (Or.inl rfl)
  have wc : ¬ W (mR σ a 2) := w _ (Or.inr (Or.inr (Or.inr (Or.inl rfl))))
  refine ⟨h1.kp x g wa (w _ (Or.inr (Or.inl rfl))) (w _ (Or.inr (Or.inr (Or.inl rfl)))), ?_, ?_, fun r hr => ?_⟩
  · rw [x.rR g ta wa, x.tag g tc]; exact h2
  · rw [x.rR g ta wa, x.len g tc]; exact h3
  · rw [x.rR g ta wa, x.rR g tc wc]
    exact (h4 r hr).kp x g z n (w _ (Or.inr (Or.inr (Or.inr (Or.inr ⟨r, hr, rfl⟩)))))
/-- nothing of a sheet has such a tag -/
theorem ShA.tag {a b : Nat} {S : Sh} (h : ShC σ a S) (k : ShA σ a S.1.1.length b) : mT σ b = 8 ∨ mT σ b = 100 ∨ mT σ b = 111 ∨ mT σ b = 110 := by
  rcases k with rfl | rfl | rfl | rfl | ⟨r, hr, rfl⟩
  · exact Or.inl h.1.1
  · exact Or.inr (Or.inl h.1.2.1.1)
  · exact Or.inr (Or.inl h.1.2.2.1.1)
  · exact Or.inr (Or.inr (Or.inl h.2.1))
  · exact Or.inr (Or.inr (Or.inr (h.2.2.2 r hr).1))
end CoSheet1
