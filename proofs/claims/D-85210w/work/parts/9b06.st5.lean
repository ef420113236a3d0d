/-! ===== PHASE 2: the state: the twin copies a sheet ===== -/
section State5
variable {N h s t u : Nat} {σ τ τ' r : gMem}
/-- what copying a sheet may change -/
def CpP (h u a k : Nat) : Prop := ((a = h + 1 ∨ a = h + 2) ∧ k = u) ∨ (a = h + 3 ∧ 32 * u ≤ k ∧ k < 32 * u + 32) ∨ (a = h + 4 ∧ 10 * u ≤ k ∧ k < 10 * u + 10) ∨ (a = h + 5 ∧ 320 * u ≤ k ∧ k < 320 * u + 320) ∨ (a = h ∧ k = 65 ∧ u = 40)
/-- sheet u is as sheet t was -/
def CpT (τ r : gMem) (h t u : Nat) : Prop := Ex (CpP h u) τ r ∧ mI r (h + 1) u = mI τ (h + 1) t ∧ mI r (h + 2) u = mI τ (h + 2) t ∧ (∀ j, j < 32 → mI r (h + 3) (32 * u + j) = mI τ (h + 3) (32 * t + j)) ∧ (∀ j, j < 10 → mI r (h + 4) (10 * u + j) = mI τ (h + 4) (10 * t + j)) ∧ (∀ j, j < 320 → mI r (h + 5) (320 * u + j) = mI τ (h + 5) (320 * t + j)) ∧ (u = 40 → mI r h 65 = 0)
theorem t_cp26 {K : gMem → Option gMem} {Φ : gMem → Prop} (ht : t < 122) (hu : u < 122) (ne : t ≠ u) (hK : ∀ r, Ex (fun a k => a = h + 3 ∧ 32 * u ≤ k ∧ k < 32 * u + 32) τ r → (∀ j, j < 32 → mI r (h + 3) (32 * u + j) = mI τ (h + 3) (32 * t + j)) → Ev (K r) Φ) : ∀ (m i f : Nat) (r : gMem), i + m = 32 → m < f → Ex (fun a k => a = h + 3 ∧ 32 * u ≤ k ∧ k < 32 * u + 32) τ r → (∀ j, j < i → mI r (h + 3) (32 * u + j) = mI τ (h + 3) (32 * t + j)) → Ev (tw_copySheet_l26 N h t u K f i r) Φ := by
  intro m
  induction m with
  | zero =>
    intro i f r h1 h2 X e
    obtain ⟨f, rfl⟩ : ∃ j, f = j + 1 := ⟨f - 1, by omega⟩
    unfold tw_copySheet_l26
    exact Ev.g (by omega) (hK r X (fun j hj => e j (by omega)))
  | succ m ih =>
    intro i f r h1 h2 X e
    obtain ⟨f, rfl⟩ : ∃ j, f = j + 1 := ⟨f - 1, by omega⟩
    unfold tw_copySheet_l26
    rw [show (32 * (t : Int) + (i : Int)).toNat = 32 * t + i by omega, show (32 * (u : Int) + (i : Int)).toNat = 32 * u + i by omega, inc32 (by omega), X.rI (show ¬ (h + 3 = h + 3 ∧ 32 * u ≤ 32 * t + i ∧ 32 * t + i < 32 * u + 32) by omega)]
    refine Ev.f (by omega) (Ev.g (by omega) (Ev.g (by omega) (Ev.l (ih (i + 1) f _ (by omega) (by omega) (X.I (by omega)) (fun j hj => ?_)))))
    by_cases c : j = i
    · rw [c, mIwI2 ⟨rfl, rfl⟩, mI_w32]
    · rw [mIwI1 (by omega)]; exact e j (by omega)
theorem t_cp62 {K : gMem → Option gMem} {Φ : gMem → Prop} (ht : t < 122) (hu : u < 122) (ne : t ≠ u) (hK : ∀ r, Ex (fun a k => a = h + 4 ∧ 10 * u ≤ k ∧ k < 10 * u + 10) τ r → (∀ j, j < 10 → mI r (h + 4) (10 * u + j) = mI τ (h + 4) (10 * t + j)) → Ev (K r) Φ) : ∀ (m i f : Nat) (r : gMem), i + m = 10 → m < f → Ex (fun a k => a = h + 4 ∧ 10 * u ≤ k ∧ k < 10 * u + 10) τ r → (∀ j, j < i → mI r (h + 4) (10 * u + j) = mI τ (h + 4) (10 * t + j)) → Ev (tw_copySheet_l62 N h t u K f i r) Φ := by
  intro m
  induction m with
  | zero =>
    intro i f r h1 h2 X e
    obtain ⟨f, rfl⟩ : ∃ j, f = j + 1 := ⟨f - 1, by omega⟩
    unfold tw_copySheet_l62
    exact Ev.g (by omega) (hK r X (fun j hj => e j (by omega)))
  | succ m ih =>
    intro i f r h1 h2 X e
    obtain ⟨f, rfl⟩ : ∃ j, f = j + 1 := ⟨f - 1, by omega⟩
    unfold tw_copySheet_l62
    rw [show (10 * (t : Int) + (i : Int)).toNat = 10 * t + i by omega, show (10 * (u : Int) + (i : Int)).toNat = 10 * u + i by omega, inc32 (by omega), X.rI (show ¬ (h + 4 = h + 4 ∧ 10 * u ≤ 10 * t + i ∧ 10 * t + i < 10 * u + 10) by omega)]
    refine Ev.f (by omega) (Ev.g (by omega) (Ev.g (by omega) (Ev.l (ih (i + 1) f _ (by omega) (by omega) (X.I (by omega)) (fun j hj => ?_)))))
    by_cases c : j = i
    · rw [c, mIwI2 ⟨rfl, rfl⟩, mI_w32]
    · rw [mIwI1 (by omega)]; exact e j (by omega)
theorem t_cp98 {K : gMem → Option gMem} {Φ : gMem → Prop} (ht : t < 122) (hu : u < 122) (ne : t ≠ u) (hK : ∀ r, Ex (fun a k => a = h + 5 ∧ 320 * u ≤ k ∧ k < 320 * u + 320) τ r → (∀ j, j < 320 → mI r (h + 5) (320 * u + j) = mI τ (h + 5) (320 * t + j)) → Ev (K r) Φ) : ∀ (m i f : Nat) (r : gMem), i + m = 320 → m < f → Ex (fun a k => a = h + 5 ∧ 320 * u ≤ k ∧ k < 320 * u + 320) τ r → (∀ j, j < i → mI r (h + 5) (320 * u + j) = mI τ (h + 5) (320 * t + j)) → Ev (tw_copySheet_l98 N h t u K f i r) Φ := by
  intro m
  induction m with
  | zero =>
    intro i f r h1 h2 X e
    obtain ⟨f, rfl⟩ : ∃ j, f = j + 1 := ⟨f - 1, by omega⟩
    unfold tw_copySheet_l98
    exact Ev.g (by omega) (hK r X (fun j hj => e j (by omega)))
  | succ m ih =>
    intro i f r h1 h2 X e
    obtain ⟨f, rfl⟩ : ∃ j, f = j + 1 := ⟨f - 1, by omega⟩
    unfold tw_copySheet_l98
    rw [show (320 * (t : Int) + (i : Int)).toNat = 320 * t + i by omega, show (320 * (u : Int) + (i : Int)).toNat = 320 * u + i by omega, inc32 (by omega), X.rI (show ¬ (h + 5 = h + 5 ∧ 320 * u ≤ 320 * t + i ∧ 320 * t + i < 320 * u + 320) by omega)]
    refine Ev.f (by omega) (Ev.g (by omega) (Ev.g (by omega) (Ev.l (ih (i + 1) f _ (by omega) (by omega) (X.I (by omega)) (fun j hj => ?_)))))
    by_cases c : j = i
    · rw [c, mIwI2 ⟨rfl, rfl⟩, mI_w32]
    · rw [mIwI1 (by omega)]; exact e j (by omega)
theorem t_copySheet (hN : 500 ≤ N) (ht : t < 122) (hu : u < 122) (ne : t ≠ u) : Ev (tw_copySheet N h t u τ) (fun r => CpT τ r h t u) := by
  unfold tw_copySheet
  rw [tn, tn]
  refine Ev.g (by omega) (Ev.g (by omega) (Ev.l (Ev.g (by omega) (Ev.g (by omega) (Ev.l ?_)))))
  have X1 : Ex (fun a k => (a = h + 1 ∨ a = h + 2) ∧ k = u) τ (wI (wI τ (h + 1) u (mI τ (h + 1) t)) (h + 2) u (mI (wI τ (h + 1) u (mI τ (h + 1) t)) (h + 2) t)) := (Ex.rf.I ⟨Or.inl rfl, rfl⟩).I ⟨Or.inr rfl, rfl⟩
  have a1 : mI (wI (wI τ (h + 1) u (mI τ (h + 1) t)) (h + 2) u (mI (wI τ (h + 1) u (mI τ (h + 1) t)) (h + 2) t)) (h + 1) u = mI τ (h + 1) t := by rw [mIwI1 (by omega), mIwI2 ⟨rfl, rfl⟩, mI_w32]
  have a2 : mI (wI (wI τ (h + 1) u (mI τ (h + 1) t)) (h + 2) u (mI (wI τ (h + 1) u (mI τ (h + 1) t)) (h + 2) t)) (h + 2) u = mI τ (h + 2) t := by rw [mIwI2 ⟨rfl, rfl⟩, mI_w32, mIwI1 (by omega)]
  generalize wI (wI τ (h + 1) u (mI τ (h + 1) t)) (h + 2) u (mI (wI τ (h + 1) u (mI τ (h + 1) t)) (h + 2) t) = τ1 at X1 a1 a2 ⊢
  refine t_cp26 (τ := τ1) (h := h) ht hu ne (fun τ2 X2 b2 => ?_) 32 0 N τ1 (by omega) (by omega) Ex.rf (fun j hj => by omega)
  refine t_cp62 (τ := τ2) (h := h) ht hu ne (fun τ3 X3 b3 => ?_) 10 0 N τ2 (by omega) (by omega) Ex.rf (fun j hj => by omega)
  refine t_cp98 (τ := τ3) (h := h) ht hu ne (fun τ4 X4 b4 => ?_) 320 0 N τ3 (by omega) (by omega) Ex.rf (fun j hj => by omega)
  have XX : Ex (CpP h u) τ τ4 := ((X1.mono (fun a k p => Or.inl p)).tr (X2.mono (fun a k p => Or.inr (Or.inl p)))).tr ((X3.mono (fun a k p => Or.inr (Or.inr (Or.inl p)))).tr (X4.mono (fun a k p => Or.inr (Or.inr (Or.inr (Or.inl p))))))
  have c1 : mI τ4 (h + 1) u = mI τ (h + 1) t := by rw [X4.rI (by omega), X3.rI (by omega), X2.rI (by omega)]; exact a1
  have c2 : mI τ4 (h + 2) u = mI τ (h + 2) t := by rw [X4.rI (by omega), X3.rI (by omega), X2.rI (by omega)]; exact a2
  have c3 : ∀ j, j < 32 → mI τ4 (h + 3) (32 * u + j) = mI τ (h + 3) (32 * t + j) := fun j hj => by rw [X4.rI (by omega), X3.rI (by omega), b2 j hj, X1.rI (by omega)]
  have c4 : ∀ j, j < 10 → mI τ4 (h + 4) (10 * u + j) = mI τ (h + 4) (10 * t + j) := fun j hj => by rw [X4.rI (by omega), b3 j hj, X2.rI (by omega), X1.rI (by omega)]
  have c5 : ∀ j, j < 320 → mI τ4 (h + 5) (320 * u + j) = mI τ (h + 5) (320 * t + j) := fun j hj => by rw [b4 j hj, X3.rI (by omega), X2.rI (by omega), X1.rI (by omega)]
  by_cases e : u = 40
  · refine Ev.f (by omega) (Ev.l (Ev.r ⟨XX.I (Or.inr (Or.inr (Or.inr (Or.inr ⟨rfl, rfl, e⟩)))), ?_, ?_, fun j hj => ?_, fun j hj => ?_, fun j hj => ?_, fun _ => ?_⟩))
    · rw [mIwI1 (by omega)]; exact c1
    · rw [mIwI1 (by omega)]; exact c2
    · rw [mIwI1 (by omega)]; exact c3 j hj
    · rw [mIwI1 (by omega)]; exact c4 j hj
    · rw [mIwI1 (by omega)]; exact c5 j hj
    · rw [mIwI2 ⟨rfl, rfl⟩, w32_i (by omega) (by omega)]
  · exact Ev.g (by omega) (Ev.r ⟨XX, c1, c2, c3, c4, c5, fun z => absurd z e⟩)
end State5
