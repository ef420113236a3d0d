/-! ===== PHASE 2: the state: what both sides count ===== -/
section State8
variable {N x h s t u b nv nv' pa un fs i : Nat} {σ σ' τ τ' τ'' r : gMem} {P : Nat → Nat → Prop} {W : Nat → Prop} {l : Fm} {c : Int} {ct : Ct} {S : Sh} {Gs Gs' : Nat → Sh}
/-- the tape -/
def Rtp (x h : Nat) (σ τ : gMem) : Prop := ∃ n : Nat, n ≤ 400 ∧ mI σ x 1 = n ∧ mI τ h 40 = n ∧ ∀ k, k < n → 0 ≤ mI τ (h + 27) k ∧ mI τ (h + 27) k < 256 ∧ mI σ (x + 1) k = sby (mI τ (h + 27) k)
def Rfl (x h : Nat) (σ τ : gMem) : Prop := mI σ x 2 = mI τ h 41 ∧ mI σ x 3 = mI τ h 42
def Rnx (x h t : Nat) (σ τ : gMem) : Prop := mI σ x 21 = mI τ h 6 ∧ mI σ x 22 = mI τ h 7 ∧ 0 ≤ mI τ h 6 ∧ mI τ h 6 ≤ 8 + t ∧ 0 ≤ mI τ h 7 ∧ mI τ h 7 ≤ 8 + t
def Rpt (x h : Nat) (σ τ : gMem) : Prop := mI σ x 17 = mI τ h 25
/-- branches, merges -/
def Rbr (x h nv : Nat) (σ τ : gMem) : Prop := (∀ k, k < 6 → mI σ (x + 3) k = mI τ (h + 8) k ∧ -1 ≤ mI τ (h + 8) k ∧ mI τ (h + 8) k < nv) ∧ (∃ br : Nat, br < 6 ∧ mI σ x 7 = br ∧ mI τ h 12 = br ∧ 0 ≤ mI τ (h + 8) br) ∧ (mI σ x 15 = mI τ h 13 ∧ -1 ≤ mI τ h 13 ∧ mI τ h 13 < nv) ∧ (mI σ x 16 = mI τ h 14 ∧ 0 ≤ mI τ h 14 ∧ mI τ h 14 ≤ 200)
/-- versions' parents, and all they come from as bits -/
def Rvr (x h nv : Nat) (σ τ : gMem) : Prop := ∀ k, k < nv → mI σ (mR σ (x + 2) k) 2 = mI τ (h + 6) k ∧ mI σ (mR σ (x + 2) k) 3 = mI τ (h + 7) k ∧ -1 ≤ mI τ (h + 6) k ∧ mI τ (h + 6) k < k ∧ -1 ≤ mI τ (h + 7) k ∧ mI τ (h + 7) k < k ∧ (0 < k → 0 ≤ mI τ (h + 6) k) ∧
  ∀ j, j < 64 → (tb (mL σ (mR σ (x + 2) k) 4) j = true ↔ (j = k ∨ (∃ p : Nat, mI τ (h + 6) k = p ∧ tb (mL σ (mR σ (x + 2) p) 4) j = true) ∨ ∃ p : Nat, mI τ (h + 7) k = p ∧ tb (mL σ (mR σ (x + 2) p) 4) j = true))
/-- conflicts -/
def Rcf (x h nv : Nat) (σ τ : gMem) : Prop := ∃ n : Nat, n ≤ 370 ∧ mI σ x 20 = n ∧ mI τ h 98 = n ∧ mT σ (mR σ x 18) = 106 ∧ n ≤ mN σ (mR σ x 18) ∧ mT σ (mR σ x 19) = 103 ∧ n ≤ mN σ (mR σ x 19) ∧ (0 < n → OutS x h (mR σ x 18) ∧ OutS x h (mR σ x 19)) ∧
  ∀ i, i < n → mT σ (mR σ (mR σ x 18) i) = 24 ∧ OutS x h (mR σ (mR σ x 18) i) ∧ (∀ j, j < 4 → mI σ (mR σ (mR σ x 18) i) j = mI τ (h + [46, 47, 48, 51].getD j 0) i) ∧ (1 ≤ mI τ (h + 46) i ∧ mI τ (h + 46) i ≤ 3 ∧ -1 ≤ mI τ (h + 47) i ∧ -1 ≤ mI τ (h + 48) i ∧ (mI τ (h + 46) i = 1 → mI τ (h + 48) i = -1) ∧ (mI τ (h + 46) i = 2 → mI τ (h + 47) i = -1) ∧ (mI τ (h + 51) i = 0 ∨ mI τ (h + 51) i = 1)) ∧
    (mI σ (mR σ x 19) i = mI τ (h + 52) i ∧ (mI τ (h + 52) i = 0 ∨ mI τ (h + 52) i = 1)) ∧ (∃ ct, CtC σ (mR σ (mR σ (mR σ x 18) i) 4) ct ∧ CtB τ h nv (mI τ (h + 49) i) ct) ∧ ∃ ct, CtC σ (mR σ (mR σ (mR σ x 18) i) 5) ct ∧ CtB τ h nv (mI τ (h + 50) i) ct
/-- differences -/
def Rdf (x h : Nat) (σ τ : gMem) : Prop := ∃ n : Nat, n ≤ 410 ∧ mI σ x 29 = n ∧ mI τ h 104 = n ∧ ∀ k, k < n → mI σ (x + 1434) k = mI τ (h + 54) k ∧ mI σ (x + 1435) k = mI τ (h + 55) k ∧ mI σ (x + 1436) k = mI τ (h + 56) k
def RSq (x h nv : Nat) (σ τ : gMem) : Prop := Rbr x h nv σ τ ∧ Rvr x h nv σ τ ∧ Rcf x h nv σ τ ∧ Rdf x h σ τ
/-- the class's frame of steps on sheets -/
def FrS (x h : Nat) (W : Nat → Prop) (σ σ' : gMem) : Prop := Kz W σ σ' ∧ gOk σ ∧ 0 < mZ σ ∧ WN σ W ∧ (∀ a, W a → OutS x h a → mT σ a = 8 ∨ mT σ a = 110 ∨ mT σ a = 111) ∧ (¬ W (x + 2) ∧ ¬ W (x + 3) ∧ ¬ W (x + 1434) ∧ ¬ W (x + 1435) ∧ ¬ W (x + 1436)) ∧ (∀ j, (j = 7 ∨ j = 15 ∨ j = 16 ∨ j = 20 ∨ j = 29) → mI σ' x j = mI σ x j) ∧ mR σ' x 18 = mR σ x 18 ∧ mR σ' x 19 = mR σ x 19
/-- the twin's places that such steps keep -/
def FtP (h a k : Nat) : Prop := (a = h ∧ (k = 12 ∨ k = 13 ∨ k = 14 ∨ k = 98 ∨ k = 104)) ∨ a = h + 6 ∨ a = h + 7 ∨ a = h + 8 ∨ (h + 46 ≤ a ∧ a ≤ h + 52) ∨ (h + 54 ≤ a ∧ a ≤ h + 56)
theorem RSq.mv (R : RSq x h nv σ τ) (F : FrS x h W σ σ') (l2 : mT σ (x + 2) = 104 ∧ mT σ (x + 3) = 100 ∧ mT σ (x + 1434) = 100 ∧ mT σ (x + 1435) = 100 ∧ mT σ (x + 1436) = 100) (vo : ∀ k, k < nv → mT σ (mR σ (x + 2) k) = 9 ∧ OutS x h (mR σ (x + 2) k)) (e : Ex P τ τ') (hP : ∀ a k, P a k → ¬ FtP h a k ∧ ¬ CoP τ h a k) (g : Grw τ τ' h) : RSq x h nv σ' τ' := by
  obtain ⟨⟨b1, ⟨br, b2, b3, b4, b5⟩, ⟨b6, b7⟩, ⟨b8, b9⟩⟩, v1, ⟨n, c1, c2, c3, c4, c5, c6, c7, c8, c9⟩, ⟨m, d1, d2, d3, d4⟩⟩ := R
  obtain ⟨K, ok, z, wn, wS, ⟨w2, w3, w4, w5, w6⟩, fI, f18, f19⟩ := F
  obtain ⟨t2, t3, t4, t5, t6⟩ := l2
  have E : ∀ a k, FtP h a k → mI τ' a k = mI τ a k := fun a k f => e.rI (fun p => (hP a k p).1 f)
  have e2 : ∀ k, mR σ' (x + 2) k = mR σ (x + 2) k := fun k => K.rR ok (by rw [t2]; decide) w2 k
  have nW : ∀ a, OutS x h a → mT σ a ≠ 8 → mT σ a ≠ 110 → mT σ a ≠ 111 → ¬ W a := fun a o h1 h2 h3 w => by have := wS a w o; omega
  have vW : ∀ k, k < nv → ¬ W (mR σ (x + 2) k) := fun k hk => nW _ (vo k hk).2 (by rw [(vo k hk).1]; decide) (by rw [(vo k hk).1]; decide) (by rw [(vo k hk).1]; decide)
  have vI : ∀ k, k < nv → ∀ j, mI σ' (mR σ (x + 2) k) j = mI σ (mR σ (x + 2) k) j ∧ mL σ' (mR σ (x + 2) k) j = mL σ (mR σ (x + 2) k) j := fun k hk j => ⟨K.rI ok (by rw [(vo k hk).1]; decide) (vW k hk) j, K.rL ok (by rw [(vo k hk).1]; decide) (vW k hk) j⟩
  refine ⟨⟨fun k hk => ?_, ⟨br, b2, by rw [fI 7 (by omega)]; exact b3, by rw [E _ _ (Or.inl ⟨rfl, by omega⟩)]; exact b4, by rw [E _ _ (by unfold FtP; omega)]; exact b5⟩, ⟨by rw [fI 15 (by omega), E _ _ (Or.inl ⟨rfl, by omega⟩)]; exact b6, by rw [E _ _ (Or.inl ⟨rfl, by omega⟩)]; exact b7⟩, ⟨by rw [fI 16 (by omega), E _ _ (Or.inl ⟨rfl, by omega⟩)]; exact b8, by rw [E _ _ (Or.inl ⟨rfl, by omega⟩)]; exact b9⟩⟩, fun k hk => ?_, ⟨n, c1, by rw [fI 20 (by omega)]; exact c2, by rw [E _ _ (Or.inl ⟨rfl, by omega⟩)]; exact c3, ?_, ?_, ?_, ?_, ?_, fun i hi => ?_⟩, ⟨m, d1, by rw [fI 29 (by omega)]; exact d2, by rw [E _ _ (Or.inl ⟨rfl, by omega⟩)]; exact d3, fun k hk => ?_⟩⟩
  · rw [K.rI ok (by rw [t3]; decide) w3, E _ _ (by unfold FtP; omega)]; exact b1 k hk
  · obtain ⟨q1, q2, q3, q4, q5, q6, q7, q8⟩ := v1 k hk
    rw [e2, (vI k hk 2).1, (vI k hk 3).1, (vI k hk 4).2, E (h + 6) k (by unfold FtP; omega), E (h + 7) k (by unfold FtP; omega)]
    refine ⟨q1, q2, q3, q4, q5, q6, q7, fun j hj => ?_⟩
    rw [q8 j hj]
    have A : ∀ p : Nat, p < k → mL σ' (mR σ' (x + 2) p) 4 = mL σ (mR σ (x + 2) p) 4 := fun p hp => by rw [e2, (vI p (by omega) 4).2]
    constructor
    · rintro (a | ⟨p, a1, a2⟩ | ⟨p, a1, a2⟩)
      · exact Or.inl a
      · exact Or.inr (Or.inl ⟨p, a1, by rw [A p (by omega)]; exact a2⟩)
      · exact Or.inr (Or.inr ⟨p, a1, by rw [A p (by omega)]; exact a2⟩)
    · rintro (a | ⟨p, a1, a2⟩ | ⟨p, a1, a2⟩)
      · exact Or.inl a
      · exact Or.inr (Or.inl ⟨p, a1, by rw [← A p (by omega)]; exact a2⟩)
      · exact Or.inr (Or.inr ⟨p, a1, by rw [← A p (by omega)]; exact a2⟩)
  · rw [f18, K.tag ok (by rw [c4]; decide)]; exact c4
  · rw [f18, K.len ok (by rw [c4]; decide)]; exact c5
  · rw [f19, K.tag ok (by rw [c6]; decide)]; exact c6
  · rw [f19, K.len ok (by rw [c6]; decide)]; exact c7
  · rw [f18, f19]; exact c8
  · obtain ⟨o18, o19⟩ := c8 (by omega)
    obtain ⟨q1, q2, q3, q4, q5, ⟨ct, q6, q7⟩, ct', q8, q9⟩ := c9 i hi
    have w18 : ¬ W (mR σ x 18) := nW _ o18 (by rw [c4]; decide) (by rw [c4]; decide) (by rw [c4]; decide)
    have w19 : ¬ W (mR σ x 19) := nW _ o19 (by rw [c6]; decide) (by rw [c6]; decide) (by rw [c6]; decide)
    have wo : ¬ W (mR σ (mR σ x 18) i) := nW _ q2 (by rw [q1]; decide) (by rw [q1]; decide) (by rw [q1]; decide)
    have e18 : mR σ' (mR σ x 18) i = mR σ (mR σ x 18) i := K.rR ok (by rw [c4]; decide) w18 i
    have n1 : mT σ (mR σ (mR σ x 18) i) ≠ 0 := by rw [q1]; decide
    rw [f18, f19, e18, E (h + 46) i (by unfold FtP; omega), E (h + 47) i (by unfold FtP; omega), E (h + 48) i (by unfold FtP; omega), E (h + 49) i (by unfold FtP; omega), E (h + 50) i (by unfold FtP; omega), E (h + 51) i (by unfold FtP; omega), E (h + 52) i (by unfold FtP; omega)]
    refine ⟨by rw [K.tag ok n1]; exact q1, q2, fun j hj => ?_, q4, ⟨by rw [K.rI ok (by rw [c6]; decide) w19]; exact q5.1, q5.2⟩, ⟨ct, ?_, q7.ex e (fun a k p => (hP a k p).2) g (Nat.le_refl _)⟩, ct', ?_, q9.ex e (fun a k p => (hP a k p).2) g (Nat.le_refl _)⟩
    · rw [K.rI ok n1 wo, E _ i (by
        have : j = 0 ∨ j = 1 ∨ j = 2 ∨ j = 3 := by omega
        rcases this with e | e | e | e <;> subst e <;> unfold FtP <;> simp)]
      exact q3 j hj
    · rw [K.rR ok n1 wo]; exact q6.kp K ok z wn
    · rw [K.rR ok n1 wo]; exact q8.kp K ok z wn
  · rw [K.rI ok (by rw [t4]; decide) w4, K.rI ok (by rw [t5]; decide) w5, K.rI ok (by rw [t6]; decide) w6, E (h + 54) k (by unfold FtP; omega), E (h + 55) k (by unfold FtP; omega), E (h + 56) k (by unfold FtP; omega)]
    exact d4 k hk
end State8
