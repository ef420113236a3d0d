/-! ===== PHASE 2: the state: the twin's half ===== -/
section State6
variable {N h s t u b nv nv' pa un fs i : Nat} {σ τ τ' τ'' r : gMem} {P : Nat → Nat → Prop} {l : Fm} {c : Int} {ct : Ct} {S : Sh} {Gs : Nat → Sh}
/-- places of contents that are in use -/
def CoP (τ : gMem) (h a k : Nat) : Prop := (∃ o, 14 ≤ o ∧ o ≤ 26 ∧ a = h + o ∧ (k : Int) < mI τ h 25) ∨ (a = h + 9 ∧ (k : Int) < mI τ h 19) ∨ (∃ o, 10 ≤ o ∧ o ≤ 13 ∧ a = h + o ∧ (k : Int) < mI τ h 24)
/-- contents stay, more may come -/
def Grw (τ τ' : gMem) (h : Nat) : Prop := mI τ h 25 ≤ mI τ' h 25 ∧ mI τ h 19 ≤ mI τ' h 19 ∧ mI τ h 24 ≤ mI τ' h 24
theorem RwT.ex (k : RwT τ h b nv l) (e : Ex P τ τ') (hP : ∀ a k, P a k → ¬ CoP τ h a k) (hb : ((b + l.length : Nat) : Int) ≤ mI τ h 25) (g : mI τ h 19 ≤ mI τ' h 19) (hn : nv ≤ nv') : RwT τ' h b nv' l := by
  obtain ⟨k1, k2, k3⟩ := k
  have nI : ∀ (o k : Nat), 14 ≤ o → o ≤ 25 → (k : Int) < mI τ h 25 → mI τ' (h + o) k = mI τ (h + o) k := fun o k h1 h2 h3 => e.rI (fun p => hP _ _ p (Or.inl ⟨o, h1, by omega, rfl, h3⟩))
  have nL : ∀ (o k : Nat), 14 ≤ o → o ≤ 25 → (k : Int) < mI τ h 25 → mL τ' (h + o) k = mL τ (h + o) k := fun o k h1 h2 h3 => e.rL (fun p => hP _ _ p (Or.inl ⟨o, h1, by omega, rfl, h3⟩))
  have nt : ∀ k : Nat, (k : Int) < mI τ h 19 → mI τ' (h + 9) k = mI τ (h + 9) k := fun k h3 => e.rI (fun p => hP _ _ p (Or.inr (Or.inl ⟨rfl, h3⟩)))
  have LT : ∀ (q : Nat) p, (q : Int) < mI τ h 25 → (∃ at' : Nat, mI τ (h + 18) q = at' ∧ ((at' + (pX p).length : Nat) : Int) ≤ mI τ h 19) → LabT τ h q p → LabT τ' h q p := by
    intro q p hq ⟨at', e1, e2⟩ L
    obtain ⟨l1, l2, l3, l4, ⟨at2, l5, l6, l7⟩, l8, l9, l10, l11, l12, l13, l14⟩ := L
    have ea : at2 = at' := by omega
    subst ea
    refine ⟨l1, by rw [nI 14 q (by omega) (by omega) hq]; exact l2, by rw [nI 15 q (by omega) (by omega) hq]; exact l3, by rw [nL 17 q (by omega) (by omega) hq]; exact l4, ⟨at2, by rw [nI 18 q (by omega) (by omega) hq]; exact l5, l6, fun i hi => by rw [nt _ (by omega)]; exact l7 i hi⟩, by rw [nI 19 q (by omega) (by omega) hq]; exact l8, by rw [nI 20 q (by omega) (by omega) hq]; exact l9, by rw [nI 21 q (by omega) (by omega) hq]; exact l10, by rw [nI 22 q (by omega) (by omega) hq]; exact l11, by rw [nI 23 q (by omega) (by omega) hq]; exact l12, ?_, by rw [nI 25 q (by omega) (by omega) hq]; exact l14⟩
    rw [nI 24 q (by omega) (by omega) hq]; exact l13
  refine ⟨SpT.cg _ _ _ (fun q p h1 h2 L => ?_) (fun q h1 h2 => nI 16 q (by omega) (by omega) (by omega)) k1, k2, fun i hi => ?_⟩
  · obtain ⟨j, hj, rfl⟩ : ∃ j, j < l.length ∧ q = b + j := ⟨q - b, by omega, by omega⟩
    obtain ⟨m1, ⟨at', m2, m3⟩, -⟩ := k3 j hj
    obtain ⟨at2, n2, n3, n4⟩ := L.2.2.2.2.1
    refine LT _ _ (by omega) ⟨at2, n2, ?_⟩ L
    have e8 := m1.2.2.2.2.2.1
    have e8' := L.2.2.2.2.2.1
    have : at2 = at' := by omega
    have : (pX p).length = (pX (l.getD j mkR)).length := by omega
    omega
  · obtain ⟨m1, ⟨at', m2, m3⟩, m4, m5, m6, m7⟩ := k3 i hi
    exact ⟨LT _ _ (by omega) ⟨at', m2, m3⟩ m1, ⟨at', by rw [nI 18 _ (by omega) (by omega) (by omega)]; exact m2, by omega⟩, m4, by rw [nI 24 _ (by omega) (by omega) (by omega)]; exact m5, m6, by omega⟩
/-- a content by its number, all of it in use -/
def CtB (τ : gMem) (h nv : Nat) (c : Int) (ct : Ct) : Prop :=
  (c = 0 ∧ ct = (vE, [])) ∨
  (∃ q : Nat, c = ((q + 1 : Nat) : Int) ∧ ct.1 = vE ∧ ct.2.length ≤ 60 ∧ mI τ (h + 26) q = ct.2.length ∧ RwT τ h q nv ct.2 ∧ pK (lab ct.2) ≠ 6 ∧ ((q + ct.2.length : Nat) : Int) ≤ mI τ h 25) ∨
  (∃ q : Nat, c = ((100000 + q : Nat) : Int) ∧ ct.2 = [] ∧ VP τ h q ct.1 ∧ (q : Int) < mI τ h 24 ∧ ∃ at' : Nat, mI τ (h + 12) q = at' ∧ ((at' + ct.1.2.2.length : Nat) : Int) ≤ mI τ h 19)
theorem CtB.ctT (k : CtB τ h nv c ct) (m : mI τ h 25 ≤ 60000) : CtT τ h c ct := by
  rcases k with k | ⟨q, k1, k2, k3, k4, k5, k6, k7⟩ | ⟨q, k1, k2, k3, -⟩
  · exact Or.inl k
  · obtain ⟨a1, a2, a3⟩ := k5
    exact Or.inr (Or.inl ⟨q, k1, by omega, k2, a2, k3, by omega, k4, ⟨ct.2.length, by omega, a1⟩, k6, fun i hi => by
      obtain ⟨m1, m2, m3, m4, m5, m6⟩ := a3 i hi
      exact ⟨m1, m3, m4, m5⟩⟩)
  · exact Or.inr (Or.inr ⟨q, k1, k2, k3⟩)
theorem CtB.ex (k : CtB τ h nv c ct) (e : Ex P τ τ') (hP : ∀ a k, P a k → ¬ CoP τ h a k) (g : Grw τ τ' h) (hn : nv ≤ nv') : CtB τ' h nv' c ct := by
  obtain ⟨g1, g2, g3⟩ := g
  rcases k with k | ⟨q, k1, k2, k3, k4, k5, k6, k7⟩ | ⟨q, k1, k2, k3, k4, at', k5, k6⟩
  · exact Or.inl k
  · have l0 := k5.2.1
    exact Or.inr (Or.inl ⟨q, k1, k2, k3, by rw [e.rI (fun p => hP _ _ p (Or.inl ⟨26, by omega, by omega, rfl, by omega⟩))]; exact k4, k5.ex e hP k7 g2 hn, k6, by omega⟩)
  · obtain ⟨v1, v2, v3, v4, v5, v6, v7, at2, v8, v9, v10⟩ := k3
    have ea : at2 = at' := by omega
    subst ea
    have nI : ∀ o, 10 ≤ o → o ≤ 13 → mI τ' (h + o) q = mI τ (h + o) q := fun o h1 h2 => e.rI (fun p => hP _ _ p (Or.inr (Or.inr ⟨o, h1, h2, rfl, k4⟩)))
    exact Or.inr (Or.inr ⟨q, k1, k2, ⟨v1, v2, v3, v4, by rw [nI 10 (by omega) (by omega)]; exact v5, by rw [e.rL (fun p => hP _ _ p (Or.inr (Or.inr ⟨11, by omega, by omega, rfl, k4⟩)))]; exact v6, by rw [nI 13 (by omega) (by omega)]; exact v7, at2, by rw [nI 12 (by omega) (by omega)]; exact v8, v9, fun i hi => by rw [e.rI (fun p => hP _ _ p (Or.inr (Or.inl ⟨rfl, by omega⟩)))]; exact v10 i hi⟩, by omega, at2, by rw [nI 12 (by omega) (by omega)]; exact k5, by omega⟩)
/-- a sheet of the twin -/
def ShT (τ : gMem) (h nv s : Nat) (S : Sh) : Prop :=
  mI τ (h + 1) s = S.1.1.length ∧ mI τ (h + 2) s = S.1.2.length ∧ (∀ r, r < S.1.1.length → mI τ (h + 3) (32 * s + r) = gl S.1.1 r) ∧ (∀ c, c < S.1.2.length → mI τ (h + 4) (10 * s + c) = gl S.1.2 c) ∧
  ∀ k, inB S.1.1.length S.1.2.length k → CtB τ h nv (mI τ (h + 5) (320 * s + k)) (S.2 k)
/-- what belongs to sheet s -/
def SlP (h s a k : Nat) : Prop := ((a = h + 1 ∨ a = h + 2) ∧ k = s) ∨ (a = h + 3 ∧ 32 * s ≤ k ∧ k < 32 * s + 32) ∨ (a = h + 4 ∧ 10 * s ≤ k ∧ k < 10 * s + 10) ∨ (a = h + 5 ∧ 320 * s ≤ k ∧ k < 320 * s + 320)
theorem ShT.ex (k : ShT τ h nv s S) (e : Ex P τ τ') (hS : ∀ a k, P a k → ¬ SlP h s a k) (hP : ∀ a k, P a k → ¬ CoP τ h a k) (g : Grw τ τ' h) (hn : nv ≤ nv') (n1 : S.1.1.length ≤ 32) (n2 : S.1.2.length ≤ 10) : ShT τ' h nv' s S := by
  obtain ⟨k1, k2, k3, k4, k5⟩ := k
  refine ⟨by rw [e.rI (fun p => hS _ _ p (Or.inl ⟨Or.inl rfl, rfl⟩))]; exact k1, by rw [e.rI (fun p => hS _ _ p (Or.inl ⟨Or.inr rfl, rfl⟩))]; exact k2, fun r hr => by rw [e.rI (fun p => hS _ _ p (Or.inr (Or.inl ⟨rfl, by omega, by omega⟩)))]; exact k3 r hr, fun c hc => by rw [e.rI (fun p => hS _ _ p (Or.inr (Or.inr (Or.inl ⟨rfl, by omega, by omega⟩))))]; exact k4 c hc, fun k hk => ?_⟩
  have hk' : k < 320 := by unfold inB at hk; omega
  rw [e.rI (fun p => hS _ _ p (Or.inr (Or.inr (Or.inr ⟨rfl, by omega, by omega⟩))))]
  exact (k5 k hk).ex e hP g hn
theorem CpP.co {a k : Nat} (p : CpP h u a k) : ¬ CoP τ h a k := by
  unfold CpP at p
  intro q
  rcases q with ⟨o, h1, h2, h3, -⟩ | ⟨h3, -⟩ | ⟨o, h1, h2, h3, -⟩ <;> omega
theorem CpT.grw (c : CpT τ r h t u) : Grw τ r h := by
  have X := c.1
  unfold Grw
  rw [X.rI (show ¬ CpP h u h 25 by unfold CpP; omega), X.rI (show ¬ CpP h u h 19 by unfold CpP; omega), X.rI (show ¬ CpP h u h 24 by unfold CpP; omega)]
  exact ⟨Int.le_refl _, Int.le_refl _, Int.le_refl _⟩
/-- the copy is that sheet -/
theorem ShT.cp (k : ShT τ h nv t S) (c : CpT τ r h t u) (n1 : S.1.1.length ≤ 32) (n2 : S.1.2.length ≤ 10) : ShT r h nv u S := by
  obtain ⟨k1, k2, k3, k4, k5⟩ := k
  have g := c.grw
  obtain ⟨X, c1, c2, c3, c4, c5, -⟩ := c
  refine ⟨by rw [c1]; exact k1, by rw [c2]; exact k2, fun r hr => by rw [c3 r (by omega)]; exact k3 r hr, fun c hc => by rw [c4 c (by omega)]; exact k4 c hc, fun k hk => ?_⟩
  have hk' : k < 320 := by unfold inB at hk; omega
  rw [c5 k hk']
  exact (k5 k hk).ex X (fun a k p => p.co) g (Nat.le_refl _)
/-- another sheet stays -/
theorem ShT.cpo (k : ShT τ h nv s S) (c : CpT τ r h t u) (ne : s ≠ u) (n1 : S.1.1.length ≤ 32) (n2 : S.1.2.length ≤ 10) : ShT r h nv s S := by
  refine k.ex c.1 (fun a k p q => ?_) (fun a k p => p.co) c.grw (Nat.le_refl _) n1 n2
  unfold CpP at p; unfold SlP at q; omega
def tsN (fs i : Nat) : Nat := if i = 0 then 40 else if i ≤ 40 then 41 + (fs + (i - 1)) % 40 else if i ≤ 80 then 81 + (i - 41) else i - 81
theorem tsN_lt {fs i : Nat} (v : rtV nv pa un i) (h1 : nv ≤ 40) (h2 : pa ≤ 40) (h3 : un ≤ 40) : tsN fs i < 121 := by
  unfold rtV at v; unfold tsN
  split
  · omega
  · split
    · have := Nat.mod_lt (fs + (i - 1)) (show 0 < 40 by decide); omega
    · split <;> omega
theorem tsN_inj {fs i j : Nat} (vi : rtV nv pa un i) (vj : rtV nv pa un j) (h1 : nv ≤ 40) (h2 : pa ≤ 40) (h3 : un ≤ 40) (e : tsN fs i = tsN fs j) : i = j := by
  unfold rtV at vi vj; unfold tsN at e
  have a := Nat.mod_lt (fs + (i - 1)) (show 0 < 40 by decide)
  have b := Nat.mod_lt (fs + (j - 1)) (show 0 < 40 by decide)
  split at e <;> split at e <;> (try split at e) <;> (try split at e) <;> (try split at e) <;> (try split at e) <;> omega
/-- the twin's half of the state, but for values -/
def RTw (h t nv pa un fs : Nat) (Gs : Nat → Sh) (τ : gMem) : Prop :=
  (TMb τ h = true ∧ TB τ h ∧ KC τ ∧ Cw τ h) ∧ (mI τ h 8 = nv ∧ mI τ h 16 = pa ∧ mI τ h 17 = un ∧ mI τ h 15 = fs ∧ fs < 40 ∧ nv ≤ 40 ∧ pa + un ≤ 40) ∧
  (∀ s, s < 122 → 0 ≤ mI τ (h + 1) s ∧ mI τ (h + 1) s ≤ 32 ∧ 0 ≤ mI τ (h + 2) s ∧ mI τ (h + 2) s ≤ 10) ∧
  (0 ≤ mI τ h 25 ∧ mI τ h 25 ≤ 60000 ∧ 0 ≤ mI τ h 19 ∧ mI τ h 19 ≤ 400 * t ∧ 0 ≤ mI τ h 24 ∧ mI τ h 24 ≤ t) ∧
  (∀ i, rtV nv pa un i → ShT τ h nv (tsN fs i) (Gs i)) ∧ ∀ c, c < 13120 → ∃ v, VC τ h c v
theorem RTw.len (R : RTw h t nv pa un fs Gs τ) (v : rtV nv pa un i) : (Gs i).1.1.length ≤ 32 ∧ (Gs i).1.2.length ≤ 10 := by
  obtain ⟨-, ⟨r1, r2, r3, r4, r5, r6, r7⟩, r8, -, r9, -⟩ := R
  have k := r9 i v
  have := r8 (tsN fs i) (by have := tsN_lt (fs := fs) v r6 (by omega) (by omega); omega)
  have := k.1; have := k.2.1; omega
theorem TMb.ex (e : Ex P τ τ') (m : TMb τ h = true) : TMb τ' h = true := by
  unfold TMb at m ⊢
  rw [e.rT, e.rN, e.rR]; exact m
end State6
