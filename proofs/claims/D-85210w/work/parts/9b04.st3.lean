/-! ===== PHASE 2: the state: the class's half ===== -/
section State3
variable {N x h nv pa un : Nat} {σ σ' σ'' s : gMem} {W : Nat → Prop} {own own' rt rt' : Nat → Nat} {Gs Gs' : Nat → Sh} {g : Nat → Nat → Vl} {S S' : Sh} {a A i k : Nat}
def fxT : List (Nat × Nat × Nat) := [(1, 102, 400), (2, 104, 40), (3, 100, 6), (9, 105, 40), (10, 105, 40), (1430, 108, 400), (1431, 109, 18), (1433, 102, 4000), (1434, 100, 500), (1435, 100, 500), (1436, 100, 500)]
def fxR : List (Nat × Nat) := [(0, 1), (4, 2), (6, 3), (9, 4), (11, 9), (12, 10), (23, 13), (24, 1429), (25, 1432), (26, 1434), (27, 1435), (28, 1436), (30, 1437), (31, 1439)]
/-- the class's fixed places -/
def LYc (x : Nat) (σ : gMem) : Prop :=
  (mT σ x = 1 ∧ (∀ q ∈ fxR, mR σ x q.1 = x + q.2) ∧ ∀ q ∈ fxT, mT σ (x + q.1) = q.2.1 ∧ mN σ (x + q.1) = q.2.2) ∧
  (WL σ x ∧ LK σ (x + 14) ∧ mR σ (x + 13) 1 = x + 14) ∧
  (mT σ (x + 1429) = 6 ∧ mR σ (x + 1429) 0 = x + 2 ∧ mR σ (x + 1429) 9 = x + 1430 ∧ mR σ (x + 1429) 10 = x + 1431 ∧ ∀ k, k < 18 → mR σ (x + 1431) k = mR σ 0 k) ∧
  (mT σ (x + 1432) = 7 ∧ mR σ (x + 1432) 0 = x + 1433 ∧ mR σ (x + 1432) 3 = x + 2) ∧ (WS σ (x + 1437) ∧ WS σ (x + 1439)) ∧
  KC σ ∧ gOk σ ∧ 0 < mZ σ ∧ mT σ 0 = 0 ∧ ∀ q, mT σ q = 18 → mR σ q 1 ≠ x + 1430
theorem LYc.T (l : LYc x σ) (q : Nat × Nat × Nat) (h : q ∈ fxT) : mT σ (x + q.1) = q.2.1 ∧ mN σ (x + q.1) = q.2.2 := l.1.2.2 q h
theorem LYc.R (l : LYc x σ) (q : Nat × Nat) (h : q ∈ fxR) : mR σ x q.1 = x + q.2 := l.1.2.1 q h
theorem LYc.ok (l : LYc x σ) : gOk σ := l.2.2.2.2.2.2.1
theorem LYc.z (l : LYc x σ) : 0 < mZ σ := l.2.2.2.2.2.2.2.1
theorem LYc.z0 (l : LYc x σ) : mT σ 0 = 0 := l.2.2.2.2.2.2.2.2.1
theorem LYc.kc (l : LYc x σ) : KC σ := l.2.2.2.2.2.1
theorem LYc.np (l : LYc x σ) : ∀ q, mT σ q = 18 → mR σ q 1 ≠ x + 1430 := l.2.2.2.2.2.2.2.2.2
/-- references of fixed places that are looked at -/
def RK (x a j : Nat) : Prop := (a = x ∧ j ≠ 8 ∧ j ≠ 18 ∧ j ≠ 19) ∨ (a = x + 13 ∧ j ≠ 6 ∧ j ≠ 7 ∧ j ≠ 8) ∨ (x + 14 ≤ a ∧ a ≤ x + 1428) ∨ (a = x + 1429 ∧ (j = 0 ∨ j = 9 ∨ j = 10)) ∨ (x + 1431 ≤ a ∧ a ≤ x + 1440)
theorem LYc.kp (l : LYc x σ) (K : Kz W σ σ') (w0 : ¬ W 0) (wt : ∀ a, W a → mT σ a < 90 ∨ 100 ≤ mT σ a) (hR : ∀ a j, W a → RK x a j → mR σ' a j = mR σ a j) (hn : ∀ q, (mZ σ ≤ q ∨ W q) → mT σ' q = 18 → mR σ' q 1 ≠ x + 1430) : LYc x σ' := by
  have z := l.z
  have z0 := l.z0
  have ok := l.ok
  have kc := l.kc
  have np := l.np
  obtain ⟨⟨a1, a2, a3⟩, ⟨b1, b2, b3⟩, ⟨c1, c2, c3, c4, c5⟩, ⟨d1, d2, d3⟩, ⟨e1, e2⟩, -⟩ := l
  have T : ∀ {a t : Nat}, mT σ a = t → t ≠ 0 → mT σ' a = t := fun {a t} e n => by rw [K.tag ok (by rw [e]; exact n)]; exact e
  have L : ∀ {a t n : Nat}, mT σ a = t → t ≠ 0 → mN σ a = n → mN σ' a = n := fun {a t n} e m q => by rw [K.len ok (by rw [e]; exact m)]; exact q
  have R : ∀ {a j v : Nat}, mT σ a ≠ 0 → RK x a j → mR σ a j = v → mR σ' a j = v := fun {a j v} e r q => by
    by_cases w : W a
    · rw [hR a j w r]; exact q
    · rw [K.rR ok e w]; exact q
  have ws : ∀ {w : Nat}, ((x + 14 ≤ w ∧ w ≤ x + 1428) ∨ (x + 1431 ≤ w ∧ w ≤ x + 1440)) → WS σ w → WS σ' w := fun {w} hw q => ⟨T q.1 (by decide), R (by rw [q.1]; decide) (by unfold RK; omega) q.2.1, T q.2.2.1 (by decide), L q.2.2.1 (by decide) q.2.2.2⟩
  have e0 : ∀ k, mR σ' 0 k = mR σ 0 k := fun k => (K.2.2.2 0 z w0 k).2.2
  have lp : x + 1 < mZ σ := gOk_lt ok (by rw [(a3 (1, 102, 400) (by decide)).1]; decide)
  refine ⟨⟨T a1 (by decide), fun q hq => ?_, fun q hq => ?_⟩, ⟨?_, ?_, R (by rw [b1.1]; decide) (by unfold RK; omega) b3⟩, ⟨T c1 (by decide), R (by rw [c1]; decide) (by unfold RK; omega) c2, R (by rw [c1]; decide) (by unfold RK; omega) c3, R (by rw [c1]; decide) (by unfold RK; omega) c4, fun k hk => ?_⟩, ⟨T d1 (by decide), R (by rw [d1]; decide) (by unfold RK; omega) d2, R (by rw [d1]; decide) (by unfold RK; omega) d3⟩, ⟨ws (by omega) e1, ws (by omega) e2⟩, kc.kp K ok z w0 wt, K.ok, by have := K.1; omega, by rw [(K.2.2.1 0 z).1]; exact z0, fun q ht => ?_⟩
  · refine R (by rw [a1]; decide) (Or.inl ⟨rfl, ?_⟩) (a2 q hq)
    have : ∀ q ∈ fxR, q.1 ≠ 8 ∧ q.1 ≠ 18 ∧ q.1 ≠ 19 := by decide
    exact this q hq
  · have t := a3 q hq
    have n0 : ∀ q ∈ fxT, q.2.1 ≠ 0 := by decide
    exact ⟨T t.1 (n0 q hq), L t.1 (n0 q hq) t.2⟩
  · obtain ⟨q1, q2, q3, q4, q5, q6, q7, q8, q9, q10, q11, q12, q13⟩ := b1
    refine ⟨T q1 (by decide), R (by rw [q1]; decide) (by unfold RK; omega) q2, R (by rw [q1]; decide) (by unfold RK; omega) q3, R (by rw [q1]; decide) (by unfold RK; omega) q4, R (by rw [q1]; decide) (by unfold RK; omega) q5, T q6 (by decide), L q6 (by decide) q7, fun i hi => R (by rw [q6]; decide) (by unfold RK; omega) (q8 i hi), ws (by omega) q9, ws (by omega) q10, fun i hi => ws (by omega) (q11 i hi), T q12 (by decide), L q12 (by decide) q13⟩
  · obtain ⟨q1, q2, q3, q4, q5, q6, q7, q8⟩ := b2
    refine ⟨T q1 (by decide), fun i hi => R (by rw [q1]; decide) (by unfold RK; omega) (q2 i hi), T q3 (by decide), L q3 (by decide) q4, fun i h1 h2 => T (q5 i h1 h2) (by decide), T q6 (by decide), T q7 (by decide), fun i h1 h2 => ?_⟩
    have tt : mT σ (x + 14 + i) ≠ 0 := by
      by_cases c8 : i < 8
      · rw [q5 i h1 c8]; decide
      · rcases (by omega : i = 8 ∨ i = 9) with e | e
        · rw [e, q6]; decide
        · rw [e, q7]; decide
    rw [K.len ok tt]; exact q8 i h1 h2
  · rw [e0]
    exact R (by rw [(a3 (1431, 109, 18) (by decide)).1]; decide) (by unfold RK; omega) (c5 k hk)
  · by_cases hq : mZ σ ≤ q ∨ W q
    · exact hn q hq ht
    · have lq : q < mZ σ := by omega
      rw [(K.2.2.1 q lq).1] at ht
      rw [(K.2.2.2 q lq (fun w => hq (Or.inr w)) 1).2.2]
      exact np q ht
/-- sheets by their numbers: the working one, steps that passed, steps undone, versions -/
def rtV (nv pa un i : Nat) : Prop := i = 0 ∨ (1 ≤ i ∧ i < 1 + pa) ∨ (41 ≤ i ∧ i < 41 + un) ∨ (81 ≤ i ∧ i < 81 + nv)
def rtA (x : Nat) (σ : gMem) (i : Nat) : Nat := if i = 0 then mR σ x 8 else if i ≤ 40 then mR σ (x + 9) (i - 1) else if i ≤ 80 then mR σ (x + 10) (i - 41) else mR σ (mR σ (x + 2) (i - 81)) 0
/-- a version -/
def VcO (x h : Nat) (σ : gMem) (k : Nat) (gv : Nat → Vl) : Prop :=
  mT σ (mR σ (x + 2) k) = 9 ∧ OutS x h (mR σ (x + 2) k) ∧ VV σ (mR σ (mR σ (x + 2) k) 1) gv ∧ ∀ i, i ≤ 4 → OutS x h (mR σ (mR σ (x + 2) k) 1 + i)
/-- the class's half of the state -/
def RCl (x h nv pa un : Nat) (Gs : Nat → Sh) (g : Nat → Nat → Vl) (own rt : Nat → Nat) (σ : gMem) : Prop :=
  LYc x σ ∧ (h = x + 1471 ∧ h + 57 < mZ σ) ∧ (mI σ x 5 = nv ∧ mI σ x 13 = pa ∧ mI σ x 14 = un ∧ 1 ≤ nv ∧ nv ≤ 40 ∧ pa + un ≤ 40) ∧
  SC x h own rt (rtV nv pa un) Gs σ ∧ (∀ i, rtV nv pa un i → rtA x σ i = rt i) ∧ (∀ k, k < nv → VcO x h σ k (g k)) ∧ ∃ V, VV σ (x + 4) V
theorem VcO.kp {gv : Nat → Vl} (v : VcO x h σ k gv) (K : Kz W σ σ') (ok : gOk σ) (t2 : mT σ (x + 2) = 104) (w2 : ¬ W (x + 2)) (o : ∀ a, W a → OutS x h a → mT σ a = 8 ∨ mT σ a = 110 ∨ mT σ a = 111) : VcO x h σ' k gv := by
  obtain ⟨v1, v2, v3, v4⟩ := v
  have wv : ¬ W (mR σ (x + 2) k) := fun w => by have := o _ w v2; omega
  have e2 : mR σ' (x + 2) k = mR σ (x + 2) k := K.rR ok (by rw [t2]; decide) w2 k
  have e1 : mR σ' (mR σ (x + 2) k) 1 = mR σ (mR σ (x + 2) k) 1 := K.rR ok (by rw [v1]; decide) wv 1
  have tg : ∀ i, i ≤ 4 → mT σ (mR σ (mR σ (x + 2) k) 1 + i) = 2 ∨ mT σ (mR σ (mR σ (x + 2) k) 1 + i) = 102 ∨ mT σ (mR σ (mR σ (x + 2) k) 1 + i) = 101 := fun i hi => by
    obtain ⟨k1, k2, k3, k4, k5, k6, k7, k8, k9, k10, k11, k12, k13, k14⟩ := v3
    rcases (by omega : i = 0 ∨ i = 1 ∨ i = 2 ∨ i = 3 ∨ i = 4) with e | e | e | e | e <;> subst e
    · exact Or.inl k1
    · exact Or.inr (Or.inl k6)
    · exact Or.inr (Or.inl k8)
    · exact Or.inr (Or.inl k10)
    · exact Or.inr (Or.inr k12)
  refine ⟨by rw [e2, K.tag ok (by rw [v1]; decide)]; exact v1, by rw [e2]; exact v2, ?_, fun i hi => by rw [e2, e1]; exact v4 i hi⟩
  rw [e2, e1]
  exact v3.kp K ok (fun i hi w => by have := o _ w (v4 i hi); have := tg i hi; omega)
/-- what is written is no sheet, no version, nothing that is counted -/
theorem RCl.kp (R : RCl x h nv pa un Gs g own rt σ) (K : Kz W σ σ') (n : WN σ W) (o : ∀ a, W a → ¬ OutS x h a) (w : ¬ W (x + 2) ∧ ¬ W (x + 9) ∧ ¬ W (x + 10)) (l : LYc x σ') (e8 : mR σ' x 8 = mR σ x 8) (ei : mI σ' x 5 = mI σ x 5 ∧ mI σ' x 13 = mI σ x 13 ∧ mI σ' x 14 = mI σ x 14) (vv : ∃ V, VV σ' (x + 4) V) : RCl x h nv pa un Gs g own rt σ' := by
  obtain ⟨r1, ⟨r2, r2'⟩, ⟨r3, r4, r5, r6, r7, r8⟩, r9, r10, r11, -⟩ := R
  have ok := r1.ok
  have t2 := (r1.T (2, 104, 40) (by decide)).1
  have t9 := (r1.T (9, 105, 40) (by decide)).1
  have t10 := (r1.T (10, 105, 40) (by decide)).1
  refine ⟨l, ⟨r2, by have := K.1; omega⟩, ⟨by rw [ei.1]; exact r3, by rw [ei.2.1]; exact r4, by rw [ei.2.2]; exact r5, r6, r7, r8⟩, r9.kp K ok r1.z n o, fun i hi => ?_, fun k hk => (r11 k hk).kp K ok t2 w.1 (fun a wa oa => absurd oa (o a wa)), vv⟩
  rw [← r10 i hi]
  unfold rtA
  rw [e8, K.rR ok (show mT σ (x + 9) ≠ 0 by rw [t9]; decide) w.2.1, K.rR ok (show mT σ (x + 10) ≠ 0 by rw [t10]; decide) w.2.2, K.rR ok (show mT σ (x + 2) ≠ 0 by rw [t2]; decide) w.1]
  by_cases c : i ≤ 80
  · by_cases c0 : i = 0
    · rw [if_pos c0, if_pos c0]
    · rw [if_neg c0, if_neg c0]
      by_cases c1 : i ≤ 40
      · rw [if_pos c1, if_pos c1]
      · rw [if_neg c1, if_neg c1, if_pos c, if_pos c]
  · rw [if_neg (by omega), if_neg (by omega), if_neg c, if_neg (by omega), if_neg (by omega), if_neg c]
    have v := r11 (i - 81) (by unfold rtV at hi; omega)
    exact K.rR ok (by rw [v.1]; decide) (fun wa => o _ wa v.2.1) 0
end State3
