/-! ===== PHASE 2: the state: what an act leaves; contents in both memories ===== -/
section State10
variable {N x h s t u b nv nv' pa un fs i : Nat} {σ σ' τ τ' τ'' r : gMem} {P : Nat → Nat → Prop} {W : Nat → Prop} {own own' rt rt' : Nat → Nat} {S S' : Sh} {Gs Gs' : Nat → Sh} {g : Nat → Nat → Vl} {c : Int} {ct : Ct} {a : Nat}
def RL (x h t : Nat) (σ τ : gMem) : Prop := ∃ nv pa un fs Gs g own rt, Rl x h t nv pa un fs Gs g own rt σ τ
/-- not the twin's, not older than the class's object -/
def NoT (x h a : Nat) : Prop := x ≤ a ∧ (a < h ∨ h + 57 < a)
/-- the frame of an act of the class, with its room -/
def FrL (x h : Nat) (σ r : gMem) : Prop := Kz (NoT x h) σ r ∧ ∃ d : Nat, mI r x 17 = mI σ x 17 + d ∧ mZ r ≤ mZ σ + 2000 + 4 * d ∧ mS r ≤ mS σ + 20000 + 20 * d
def TwA (h a _k : Nat) : Prop := h ≤ a ∧ a ≤ h + 56
/-- what an act leaves: the same answer, or the exception of that code -/
def OpO (x h t : Nat) (cd : List (String × Int)) (σ τ : gMem) (a : gR) (b : Int × gMem) : Prop :=
  RL x h (t + 1) a.2 b.2 ∧ FrL x h σ a.2 ∧ Ex (TwA h) τ b.2 ∧ ((∃ v, a.1 = .inl (some (vI v)) ∧ b.1 = v ∧ mI b.2 h 0 = 0 ∧ g32 v) ∨ ∃ E k, a.1 = .inr E ∧ (E, k) ∈ cd ∧ mI b.2 h 0 = k ∧ k ≠ 0)
theorem Rl.t1 (R : Rl x h t nv pa un fs Gs g own rt σ τ) : Rl x h (t + 1) nv pa un fs Gs g own rt σ τ := by
  obtain ⟨R1, ⟨r1, r2, r3, r4, r5, r6⟩, ⟨q1, q2, q3, q4, q5⟩, q6, q7, q8⟩ := R
  refine ⟨R1, ⟨r1, r2, r3, by omega, r5, r6⟩, ⟨q1, q2, ?_, q4, q5⟩, q6, q7, q8⟩
  unfold Rnx at q3 ⊢; omega
/-- places of the twin that nothing is said of -/
def TSc (h a k : Nat) : Prop := (a = h ∧ (k = 0 ∨ (43 ≤ k ∧ k ≤ 59) ∨ (71 ≤ k ∧ k ≤ 81) ∨ k = 87 ∨ k = 100)) ∨ (h + 42 ≤ a ∧ a ≤ h + 45) ∨ a = h + 53
theorem Rl.tsc (R : Rl x h t nv pa un fs Gs g own rt σ τ) (e : Ex P τ τ') (hP : ∀ a k, P a k → TSc h a k) : Rl x h t nv pa un fs Gs g own rt σ τ' := by
  have R0 := R
  obtain ⟨RC0, RT0, ⟨q1, q2, q3, q4, q5⟩, q6, q7, q8⟩ := R
  obtain ⟨r1, ⟨r2, r3, r4, r5, r6, r7, r8⟩, r9, r10, r11, r12⟩ := RT0
  have l := RC0.1
  have E : ∀ a k, ¬ TSc h a k → mI τ' a k = mI τ a k := fun a k n => e.rI (fun p => n (hP a k p))
  have qt : ∀ a k, P a k → Qt h a := fun a k p => by have := hP a k p; unfold TSc at this; unfold Qt; omega
  have eh : ∀ k, (k = 6 ∨ k = 7 ∨ k = 8 ∨ (12 ≤ k ∧ k ≤ 19) ∨ k = 24 ∨ k = 25 ∨ (40 ≤ k ∧ k ≤ 42) ∨ k = 65) → mI τ' h k = mI τ h k := fun k hk => E h k (by unfold TSc; omega)
  have gw : Grw τ τ' h := ⟨by rw [eh 25 (by omega)]; exact Int.le_refl _, by rw [eh 19 (by omega)]; exact Int.le_refl _, by rw [eh 24 (by omega)]; exact Int.le_refl _⟩
  have fr : FrS x h (fun _ => False) σ σ := ⟨Kz.rf l.ok, l.ok, l.z, WNF, fun a w _ => w.elim, ⟨fun f => f, fun f => f, fun f => f, fun f => f, fun f => f⟩, fun j _ => rfl, rfl, rfl⟩
  refine ⟨RC0, ⟨(R0.2.1.base e qt).1, ⟨by rw [eh 8 (by omega)]; exact r2, by rw [eh 16 (by omega)]; exact r3, by rw [eh 17 (by omega)]; exact r4, by rw [eh 15 (by omega)]; exact r5, r6, r7, r8⟩, fun s hs => ?_, ?_, fun i hi => ?_, (R0.2.1.base e qt).2⟩, ⟨?_, ?_, ?_, ?_, q5.mv fr l.t5 RC0.vo e (fun a k p => ⟨fun q => by have := hP a k p; unfold TSc at this; unfold FtP at q; omega, (qt a k p).co⟩) gw⟩, fun i hi => ?_, q7, ⟨fun k hk z cc hc => ?_, fun k h1 h2 => by rw [E _ _ (by unfold TSc; omega)]; exact q8.2.1 k h1 h2, fun z => ?_⟩⟩
  · rw [E _ _ (by unfold TSc; omega), E _ _ (by unfold TSc; omega)]; exact r9 s hs
  · rw [eh 25 (by omega), eh 19 (by omega), eh 24 (by omega)]; exact r10
  · have n := R0.2.1.len hi
    exact (r11 i hi).ex e (fun a k p q => by have := hP a k p; unfold TSc at this; unfold SlP at q; omega) (fun a k p => (qt a k p).co) gw (Nat.le_refl _) n.1 n.2
  · obtain ⟨n, a1, a2, a3, a4⟩ := q1
    exact ⟨n, a1, a2, by rw [eh 40 (by omega)]; exact a3, fun k hk => by rw [E _ _ (by unfold TSc; omega)]; exact a4 k hk⟩
  · unfold Rfl at q2 ⊢; rw [eh 41 (by omega), eh 42 (by omega)]; exact q2
  · unfold Rnx at q3 ⊢; rw [eh 6 (by omega), eh 7 (by omega)]; exact q3
  · unfold Rpt at q4 ⊢; rw [eh 25 (by omega)]; exact q4
  · rw [eh 6 (by omega), eh 7 (by omega)]; exact q6 i hi
  · rw [E _ _ (by unfold TSc; omega)] at z
    exact VG.ex e (q8.1 k hk z cc hc) (fun p => by have := hP _ _ p; unfold TSc at this; omega) (fun p => by have := hP _ _ p; unfold TSc at this; omega) (fun p => by have := hP _ _ p; unfold TSc at this; omega) (fun i _ p => by have := hP _ _ p; unfold TSc at this; omega)
  · rw [eh 65 (by omega)] at z
    obtain ⟨V, v1, v2⟩ := q8.2.2 z
    exact ⟨V, v1, fun cc hc => VG.ex e (v2 cc hc) (fun p => by have := hP _ _ p; unfold TSc at this; omega) (fun p => by have := hP _ _ p; unfold TSc at this; omega) (fun p => by have := hP _ _ p; unfold TSc at this; omega) (fun i _ p => by have := hP _ _ p; unfold TSc at this; omega)⟩
/-- the answer's slot of the twin -/
theorem Rl.t0 {v : Int} (R : Rl x h t nv pa un fs Gs g own rt σ τ) : Rl x h t nv pa un fs Gs g own rt σ (wI τ h 0 v) := R.tsc (P := fun a k => a = h ∧ k = 0) (Ex.rf.I ⟨rfl, rfl⟩) (fun a k p => Or.inl ⟨p.1, Or.inl p.2⟩)
theorem wX_same {n : Nat} : mI (wX σ n) = mI σ ∧ mL (wX σ n) = mL σ ∧ mR (wX σ n) = mR σ ∧ mT (wX σ n) = mT σ ∧ mN (wX σ n) = mN σ ∧ mZ (wX σ n) = mZ σ + 1 ∧ mS (wX σ n) = mS σ + n := ⟨rfl, rfl, rfl, rfl, rfl, rfl, rfl⟩
theorem Kz.wX {s : gMem} {n : Nat} (K : Kz W σ s) : Kz W σ (wX s n) := ⟨by have := K.1; show mZ σ ≤ mZ s + 1; omega, fun a ha => K.2.1 a (by have : mZ s + 1 ≤ a := ha; omega), K.2.2.1, K.2.2.2⟩
theorem FrL.X (l : LYc x σ) : FrL x h σ (wX σ 6) := ⟨(Kz.rf l.ok).wX, 0, by show mI σ x 17 = mI σ x 17 + ((0 : Nat) : Int); omega, by show mZ σ + 1 ≤ _; omega, by show mS σ + 6 ≤ _; omega⟩
/-- an exception's cell changes nothing -/
theorem Rl.cX (R : Rl x h t nv pa un fs Gs g own rt σ τ) : Rl x h t nv pa un fs Gs g own rt (wX σ 6) τ := by
  obtain ⟨RC0, RT0, ⟨q1, q2, q3, q4, q5⟩, q6, q7, q8⟩ := R
  have l := RC0.1
  have K : Kz (fun _ => False) σ (wX σ 6) := (Kz.rf l.ok).wX
  have ly : LYc x (wX σ 6) := l.kp K (fun f => f) (fun _ f => f.elim) (fun _ _ f => f.elim) (fun q _ ht => l.np q ht)
  have fr : FrS x h (fun _ => False) σ (wX σ 6) := ⟨K, l.ok, l.z, WNF, fun a w _ => w.elim, ⟨fun f => f, fun f => f, fun f => f, fun f => f, fun f => f⟩, fun j _ => rfl, rfl, rfl⟩
  have gw : Grw τ τ h := ⟨Int.le_refl _, Int.le_refl _, Int.le_refl _⟩
  obtain ⟨V, hV⟩ := RC0.2.2.2.2.2.2
  refine ⟨RC0.kp K WNF (fun _ f => f.elim) ⟨fun f => f, fun f => f, fun f => f⟩ ly rfl ⟨rfl, rfl, rfl⟩ ⟨V, hV.kp K l.ok (fun _ _ f => f)⟩, RT0, ⟨q1, q2, q3, q4, q5.mv fr l.t5 RC0.vo (Ex.rf (P := fun _ _ => False)) (fun _ _ p => p.elim) gw⟩, q6, ⟨q7.1, fun z => ?_⟩, q8⟩
  obtain ⟨V, v1, v2⟩ := q7.2 z
  exact ⟨V, v1.kp K l.ok (fun _ _ f => f), v2⟩
theorem CtC.nul (k : CtC σ a ct) (z0 : mT σ 0 = 0) : a = 0 ↔ ct = (vE, []) := by
  constructor
  · intro e
    subst e
    rcases k with k | k | k | k | k
    · exact k.2
    · have := k.1; omega
    · have := k.1; omega
    · have := k.1; omega
    · have := k.1; omega
  · intro e
    rcases k with k | k | k | k | k
    · exact k.1
    · have := k.2.1; rw [e] at this
      have := congrArg (fun z : Ct => z.1.1) this
      exact absurd this (by show ¬ (0 : Int) = 1; decide)
    · have := k.2.2.2.1; rw [e] at this
      have := congrArg (fun z : Ct => z.1.1) this
      exact absurd this (by show ¬ (0 : Int) = 2; decide)
    · have := k.2.1; rw [e] at this
      have := congrArg (fun z : Ct => z.1.1) this
      exact absurd this (by show ¬ (0 : Int) = 3; decide)
    · exact absurd (by rw [e]) k.2.2.1
theorem CtB.nul (k : CtB τ h nv c ct) : c = 0 ↔ ct = (vE, []) := by
  constructor
  · intro e
    rcases k with k | ⟨q, k1, -⟩ | ⟨q, k1, -⟩
    · exact k.2
    · omega
    · omega
  · intro e
    rcases k with k | ⟨q, k1, k2, k3, k4, k5, -⟩ | ⟨q, k1, k2, k3, -⟩
    · exact k.1
    · have := k5.2.1; rw [e] at this; exact absurd this (by decide)
    · have := k3.2.2.1; rw [e] at this; exact absurd this (by show ¬ (1 : Int) ≤ 0; decide)
theorem CtC.asg (k : CtC σ a ct) : a = 0 ∨ gAsg 10 (mT σ a) = true := by
  rcases k with k | k | k | k | k
  · exact Or.inl k.1
  · right; rw [k.1]; decide
  · right; rw [k.1]; decide
  · right; rw [k.1]; decide
  · right; rw [k.1]; decide
/-- a cell has a new content -/
def setC (S : Sh) (k : Nat) (ct : Ct) : Sh := (S.1, fun j => if j = k then ct else S.2 j)
theorem t_isCell {v w : Int} {S : Sh} (k1 : mI τ (h + 1) s = S.1.1.length) (k2 : mI τ (h + 2) s = S.1.2.length) (hs : s < 122) : tw_isCell h s v w τ = some (if 1 ≤ v ∧ v ≤ S.1.1.length ∧ 1 ≤ w ∧ w ≤ S.1.2.length then 1 else 0) := by
  unfold tw_isCell
  rw [if_pos (by omega), tn, k1, t_in, Option.bind_some]
  by_cases e : 1 ≤ v ∧ v ≤ (S.1.1.length : Int)
  · rw [if_pos e, if_neg (by decide), if_pos (by omega), k2, t_in, Option.bind_some]
    by_cases e2 : 1 ≤ w ∧ w ≤ (S.1.2.length : Int)
    · rw [if_pos e2, if_neg (by decide), if_pos ⟨e.1, e.2, e2⟩]
    · rw [if_neg e2, if_pos rfl, if_neg (fun z => e2 z.2.2)]
  · rw [if_neg e, if_pos rfl, if_neg (fun z => e ⟨z.1, z.2.1⟩)]
end State10
