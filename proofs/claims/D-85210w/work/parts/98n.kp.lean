/-! ===== PHASE 2: what is kept of the component's heap ===== -/
section Keep
variable {σ σ' σ'' : gMem} {W W' : Nat → Prop}
/-- cells made already and not at W are as they were -/
def Kz (W : Nat → Prop) (σ σ' : gMem) : Prop :=
  mZ σ ≤ mZ σ' ∧ gOk σ' ∧ (∀ a, a < mZ σ → mT σ' a = mT σ a ∧ mN σ' a = mN σ a) ∧ ∀ a, a < mZ σ → ¬ W a → ∀ k, mI σ' a k = mI σ a k ∧ mL σ' a k = mL σ a k ∧ mR σ' a k = mR σ a k
theorem Kz.rf (g : gOk σ) : Kz W σ σ := ⟨Nat.le_refl _, g, fun _ _ => ⟨rfl, rfl⟩, fun _ _ _ _ => ⟨rfl, rfl, rfl⟩⟩
theorem Kz.tr (x : Kz W σ σ') (y : Kz W σ' σ'') : Kz W σ σ'' :=
  ⟨by have := x.1; have := y.1; omega, y.2.1, fun a ha => ⟨(y.2.2.1 a (by have := x.1; omega)).1.trans (x.2.2.1 a ha).1, (y.2.2.1 a (by have := x.1; omega)).2.trans (x.2.2.1 a ha).2⟩, fun a ha hw k => by
    have p := x.2.2.2 a ha hw k
    have q := y.2.2.2 a (by have := x.1; omega) hw k
    exact ⟨q.1.trans p.1, q.2.1.trans p.2.1, q.2.2.trans p.2.2⟩⟩
theorem Kz.mono (x : Kz W σ σ') (h : ∀ a, W a → W' a) : Kz W' σ σ' := ⟨x.1, x.2.1, x.2.2.1, fun a ha hw k => x.2.2.2 a ha (fun z => hw (h a z)) k⟩
/-- what is new may be written -/
theorem Kz.tr2 (x : Kz W σ σ') (y : Kz W' σ' σ'') (h : ∀ a, a < mZ σ → W' a → W a) : Kz W σ σ'' :=
  ⟨by have := x.1; have := y.1; omega, y.2.1, fun a ha => ⟨(y.2.2.1 a (by have := x.1; omega)).1.trans (x.2.2.1 a ha).1, (y.2.2.1 a (by have := x.1; omega)).2.trans (x.2.2.1 a ha).2⟩, fun a ha hw k => by
    have p := x.2.2.2 a ha hw k
    have q := y.2.2.2 a (by have := x.1; omega) (fun z => hw (h a ha z)) k
    exact ⟨q.1.trans p.1, q.2.1.trans p.2.1, q.2.2.trans p.2.2⟩⟩
theorem Kz.ok (x : Kz W σ σ') : gOk σ' := x.2.1
theorem Kz.lt (g : gOk σ) {a : Nat} (h : mT σ a ≠ 0) : a < mZ σ := gOk_lt g h
theorem Kz.tag (x : Kz W σ σ') {a : Nat} (g : gOk σ) (h : mT σ a ≠ 0) : mT σ' a = mT σ a := (x.2.2.1 a (gOk_lt g h)).1
theorem Kz.len (x : Kz W σ σ') {a : Nat} (g : gOk σ) (h : mT σ a ≠ 0) : mN σ' a = mN σ a := (x.2.2.1 a (gOk_lt g h)).2
theorem Kz.rI (x : Kz W σ σ') {a : Nat} (g : gOk σ) (h : mT σ a ≠ 0) (w : ¬ W a) (k : Nat) : mI σ' a k = mI σ a k := (x.2.2.2 a (gOk_lt g h) w k).1
theorem Kz.rL (x : Kz W σ σ') {a : Nat} (g : gOk σ) (h : mT σ a ≠ 0) (w : ¬ W a) (k : Nat) : mL σ' a k = mL σ a k := (x.2.2.2 a (gOk_lt g h) w k).2.1
theorem Kz.rR (x : Kz W σ σ') {a : Nat} (g : gOk σ) (h : mT σ a ≠ 0) (w : ¬ W a) (k : Nat) : mR σ' a k = mR σ a k := (x.2.2.2 a (gOk_lt g h) w k).2.2
theorem Ex.kp {P : Nat → Nat → Prop} (x : Ex P σ σ') (g : gOk σ) (h : ∀ a k, P a k → W a) : Kz W σ σ' := by
  refine ⟨by rw [x.rZ]; exact Nat.le_refl _, fun a ha => by rw [x.rT]; exact g a (by rw [x.rZ] at ha; exact ha), fun a _ => by rw [x.rT, x.rN]; exact ⟨rfl, rfl⟩, fun a _ hw k => ⟨x.rI (fun p => hw (h a k p)), x.rL (fun p => hw (h a k p)), by rw [x.rR]⟩⟩
theorem Ey.kp {x0 : Nat} {P : Nat → Nat → Prop} (x : Ey x0 P σ σ') (g : gOk σ) (h : ∀ a k, P a k → W a) (h' : W (x0 + 13)) : Kz W σ σ' := by
  refine ⟨by rw [x.rZ]; exact Nat.le_refl _, fun a ha => by rw [x.rT]; exact g a (by rw [x.rZ] at ha; exact ha), fun a _ => by rw [x.rT, x.rN]; exact ⟨rfl, rfl⟩, fun a _ hw k => ⟨x.rI (fun p => hw (h a k p)), x.rL (fun p => hw (h a k p)), x.rR (Or.inl (fun e => hw (e ▸ h')))⟩⟩
/-- what is written are no contents -/
def NP18 (σ : gMem) (a : Nat) : Prop := ∀ q, mT σ q = 18 → mR σ q 1 ≠ a
def WN (σ : gMem) (W : Nat → Prop) : Prop := ¬ W 0 ∧ ∀ a, W a → ¬ (11 ≤ mT σ a ∧ mT σ a ≤ 21) ∧ (mT σ a = 108 → NP18 σ a) ∧ (mT σ a = 102 → mT σ (a - 1) ≠ 12)
theorem WN.nd (n : WN σ W) {a : Nat} (h : 11 ≤ mT σ a ∧ mT σ a ≤ 21) : ¬ W a := fun w => (n.2 a w).1 h
theorem Kz.c0 (x : Kz W σ σ') (n : WN σ W) (z : 0 < mZ σ) (k : Nat) : mR σ' 0 k = mR σ 0 k := (x.2.2.2 0 z n.1 k).2.2
theorem LabC.kp (x : Kz W σ σ') (g : gOk σ) (z : 0 < mZ σ) (n : WN σ W) {q : Nat} {p : Pt} (k : LabC σ q p) : LabC σ' q p := by
  have k0 := k.tag
  have nq : ¬ W q := n.nd ⟨k0.1, by omega⟩
  have tq : mT σ q ≠ 0 := by omega
  have eT := x.tag g tq
  have eI := x.rI g tq nq
  have eR := x.rR g tq nq
  have cor : ∀ c, mT σ c = 14 → mT σ' c = 14 ∧ ∀ i, mI σ' c i = mI σ c i := fun c hc => ⟨by rw [x.tag g (by omega), hc], fun i => x.rI g (by omega) (n.nd ⟨by omega, by omega⟩) i⟩
  unfold LabC at k ⊢
  rw [eT]
  rcases k with ⟨k1, k2⟩ | ⟨k1, k2, k3, k4⟩ | ⟨k1, k2, kB⟩ | ⟨k1, k2⟩ | ⟨k1, k2, k3, kB⟩ | ⟨k1, k2, k3, k4, kB⟩ | ⟨k1, k2⟩ | ⟨k1, j, k2, k3, k4⟩ | ⟨k1, j, k2, k3, k4, k5⟩
  · exact Or.inl ⟨k1, by rw [x.rL g tq nq]; exact k2⟩
  · have n1 : ¬ W (q + 1) := fun w => by have := (n.2 _ w).2.2 k3; rw [Nat.add_sub_cancel] at this; exact this k1
    refine Or.inr (Or.inl ⟨k1, by rw [eR]; exact k2, by rw [x.tag g (by omega)]; exact k3, ?_⟩)
    rw [x.len g (by omega), k4]
    congr 1
    exact (lst_congr (fun i _ => x.rI g (by omega) n1 i)).symm
  · exact Or.inr (Or.inr (Or.inl ⟨k1, by rw [eI]; exact ⟨k2, kB⟩⟩))
  · exact Or.inr (Or.inr (Or.inr (Or.inl ⟨k1, k2⟩)))
  · refine Or.inr (Or.inr (Or.inr (Or.inr (Or.inl ⟨k1, ?_⟩))))
    have m := cor _ k2
    unfold cfx at k3 ⊢
    rw [eR 0, m.2 0, m.2 1, m.2 2, m.2 3, eI]
    exact ⟨m.1, k3, kB⟩
  · refine Or.inr (Or.inr (Or.inr (Or.inr (Or.inr (Or.inl ⟨k1, ?_⟩)))))
    have m := cor _ k2
    have m' := cor _ k3
    unfold cfx at k4 ⊢
    rw [eR 0, eR 1, m.2 0, m.2 1, m.2 2, m.2 3, m'.2 0, m'.2 1, m'.2 2, m'.2 3, eI]
    exact ⟨m.1, m'.1, k4, kB⟩
  · exact Or.inr (Or.inr (Or.inr (Or.inr (Or.inr (Or.inr (Or.inl ⟨k1, k2⟩))))))
  · refine Or.inr (Or.inr (Or.inr (Or.inr (Or.inr (Or.inr (Or.inr (Or.inl ⟨k1, j, k2, ?_, k4⟩)))))))
    rw [eR 0, x.c0 n z]; exact k3
  · refine Or.inr (Or.inr (Or.inr (Or.inr (Or.inr (Or.inr (Or.inr (Or.inr ⟨k1, j, k2, ?_, ?_, ?_⟩)))))))
    · rw [eR 0, x.c0 n z]; exact k3
    · rw [eR 1, x.tag g (by omega)]; exact k4
    · rw [eR 1, x.len g (by omega)]; exact k5
theorem chd_kp (x : Kz W σ σ') (g : gOk σ) (n : WN σ W) {q : Nat} {p : Pt} (k : LabC σ q p) (hp : pA p ≠ 0) (i : Nat) : chd σ' q i = chd σ q i := by
  have k0 := k.tag
  have nq : ¬ W q := n.nd ⟨k0.1, by omega⟩
  have tq : mT σ q ≠ 0 := by omega
  have eR := x.rR g tq nq
  unfold chd
  rw [x.tag g tq]
  rcases k.tag.2.2 hp with e | e | ⟨e, e'⟩
  · rw [if_pos e, if_pos e, eR]
  · have h19 : ¬ mT σ q = 19 := by omega
    rw [if_neg h19, if_neg h19, if_pos e, if_pos e, eR]
  · have h19 : ¬ mT σ q = 19 := by omega
    have h20 : ¬ mT σ q = 20 := by omega
    rw [if_neg h19, if_neg h19, if_neg h20, if_neg h20, eR 1, x.rR g (by omega) (fun w => (n.2 _ w).2.1 e' q e rfl)]
theorem IsP.kp (x : Kz W σ σ') (g : gOk σ) (z : 0 < mZ σ) (n : WN σ W) : ∀ (m q : Nat) (l : Fm), IsP σ m q l → IsP σ' m q l := by
  intro m
  induction m with
  | zero => intro q l k; exact k.elim
  | succ m ih =>
    intro q l k
    obtain ⟨p, ls, k1, k2, k3, k4, k5, k6⟩ := k
    refine ⟨p, ls, k1, k2, k3.kp x g z n, k4, k5, fun i hi => ?_⟩
    rw [chd_kp x g n k3 (by omega) i]
    exact ih _ _ (k6 i hi)
theorem LsC.kp (x : Kz W σ σ') (g : gOk σ) {q : Nat} {l : List Int} (k : LsC σ q l) (w : ¬ W q) : LsC σ' q l :=
  ⟨by rw [x.tag g (by rw [k.1]; decide)]; exact k.1, by rw [x.len g (by rw [k.1]; decide)]; exact k.2.1, k.2.2.1, fun i hi => by rw [x.rI g (by rw [k.1]; decide) w]; exact k.2.2.2 i hi⟩
theorem ShL.kp (x : Kz W σ σ') (g : gOk σ) {q : Nat} {R C : List Int} (k : ShL σ q R C) (w : ¬ W q) (w0 : ¬ W (mR σ q 0)) (w1 : ¬ W (mR σ q 1)) : ShL σ' q R C := by
  have tq : mT σ q ≠ 0 := by rw [k.1]; decide
  refine ⟨by rw [x.tag g tq]; exact k.1, ?_, ?_, k.2.2.2⟩
  · rw [x.rR g tq w]; exact k.2.1.kp x g w0
  · rw [x.rR g tq w]; exact k.2.2.1.kp x g w1
end Keep
