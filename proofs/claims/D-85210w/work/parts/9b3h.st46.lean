/-! ===== PHASE 2: one memory for both: what is related moves over the other side's frame -/
section State46
variable {N x h t nv pa un fs i b k n : Nat} {σ σ' τ τ' : gMem} {own rt : Nat → Nat} {S : Sh} {Gs : Nat → Sh} {g : Nat → Nat → Vl} {ct : Ct} {c : Int} {l : Fm} {p : Pt} {v : Vl}
/-- the twin's own cells are as they were -/
def AgT (h : Nat) (τ τ' : gMem) : Prop := ∀ a, h ≤ a → a ≤ h + 56 → mT τ' a = mT τ a ∧ mN τ' a = mN τ a ∧ mI τ' a = mI τ a ∧ mL τ' a = mL τ a ∧ mR τ' a = mR τ a
theorem AgT.I (A : AgT h τ τ') (o : Nat) (ho : o ≤ 56) : mI τ' (h + o) = mI τ (h + o) := (A (h + o) (by omega) (by omega)).2.2.1
theorem AgT.L (A : AgT h τ τ') (o : Nat) (ho : o ≤ 56) : mL τ' (h + o) = mL τ (h + o) := (A (h + o) (by omega) (by omega)).2.2.2.1
theorem AgT.z (A : AgT h τ τ') : mI τ' h = mI τ h := (A h (by omega) (by omega)).2.2.1
theorem LabT.ag (k : LabT τ h n p) (A : AgT h τ τ') : LabT τ' h n p := by
  unfold LabT at k ⊢
  rw [A.I 14 (by decide), A.I 15 (by decide), A.L 17 (by decide), A.I 18 (by decide), A.I 9 (by decide), A.I 19 (by decide), A.I 20 (by decide), A.I 21 (by decide), A.I 22 (by decide), A.I 23 (by decide), A.I 24 (by decide), A.I 25 (by decide)]
  exact k
theorem RwT.ag (k : RwT τ h b nv l) (A : AgT h τ τ') : RwT τ' h b nv l := by
  obtain ⟨k1, k2, k3⟩ := k
  refine ⟨SpT.cg _ _ _ (fun q p _ _ L => L.ag A) (fun q _ _ => by rw [A.I 16 (by decide)]) k1, k2, fun i hi => ?_⟩
  obtain ⟨m1, m2⟩ := k3 i hi
  refine ⟨m1.ag A, ?_⟩
  rw [A.I 18 (by decide), A.z, A.I 24 (by decide)]
  exact m2
theorem CtB.ag (k : CtB τ h nv c ct) (A : AgT h τ τ') : CtB τ' h nv c ct := by
  rcases k with k | ⟨q, k1, k2, k3, k4, k5, k6, k7⟩ | ⟨q, k1, k2, k3, k4⟩
  · exact Or.inl k
  · exact Or.inr (Or.inl ⟨q, k1, k2, k3, by rw [A.I 26 (by decide)]; exact k4, k5.ag A, k6, by rw [A.z]; exact k7⟩)
  · refine Or.inr (Or.inr ⟨q, k1, k2, ?_, ?_⟩)
    · unfold VP at k3 ⊢
      rw [A.I 10 (by decide), A.L 11 (by decide), A.I 13 (by decide), A.I 12 (by decide), A.I 9 (by decide)]
      exact k3
    · rw [A.z, A.I 12 (by decide)]; exact k4
theorem ShT.ag (k : ShT τ h nv i S) (A : AgT h τ τ') : ShT τ' h nv i S := by
  obtain ⟨k1, k2, k3, k4, k5⟩ := k
  refine ⟨by rw [A.I 1 (by decide)]; exact k1, by rw [A.I 2 (by decide)]; exact k2, by rw [A.I 3 (by decide)]; exact k3, by rw [A.I 4 (by decide)]; exact k4, fun k hk => ?_⟩
  rw [A.I 5 (by decide)]
  exact (k5 k hk).ag A
theorem VC.ag (k : VC τ h n v) (A : AgT h τ τ') : VC τ' h n v := by
  unfold VC VG at k ⊢
  rw [A.I 28 (by decide), A.L 29 (by decide), A.I 30 (by decide), A.I 31 (by decide)]
  exact k
theorem TB.ag (k : TB τ h) (A : AgT h τ τ') : TB τ' h := by
  unfold TB By at k ⊢
  rw [A.I 36 (by decide), A.I 31 (by decide), A.I 9 (by decide), A.I 37 (by decide)]
  exact k
theorem tarr_le : ∀ q ∈ tarr, q.2.1 ≤ 56 := by decide
theorem TMb.ag (m : TMb τ h = true) (A : AgT h τ τ') : TMb τ' h = true := by
  obtain ⟨t0, T⟩ := TMb.tags m
  unfold TMb
  simp only [Bool.and_eq_true, decide_eq_true_eq, List.all_eq_true]
  refine ⟨by rw [(A h (by omega) (by omega)).1]; exact t0, fun q hq => ?_⟩
  have z := tarr_le q hq
  have a := A (h + q.2.1) (by omega) (by omega)
  obtain ⟨T1, T2, T3⟩ := T q hq
  exact ⟨by rw [(A h (by omega) (by omega)).2.2.2.2]; exact T1, by rw [a.1]; exact T2, by rw [a.2.1]; exact T3⟩
theorem Cw.ag (w : Cw τ h) (e0 : ∀ k, mR τ' 0 k = mR τ 0 k) (kc : KC τ') : Cw τ' h := by
  obtain ⟨w1, w2, w3⟩ := w
  have k1 := kc.1 1 (by decide)
  have k2 := kc.1 2 (by decide)
  have k3 := kc.1 21 (by decide)
  exact ⟨⟨k1.1, k1.2.1, k1.2.2, by rw [e0]; exact w1.2.2.2⟩, ⟨k2.1, k2.2.1, k2.2.2, by rw [e0]; exact w2.2.2.2⟩, ⟨k3.1, k3.2.1, k3.2.2, by rw [e0]; exact w3.2.2.2⟩⟩
theorem RTw.ag (R : RTw h t nv pa un fs Gs τ) (A : AgT h τ τ') (e0 : ∀ k, mR τ' 0 k = mR τ 0 k) (kc : KC τ') : RTw h t nv pa un fs Gs τ' := by
  obtain ⟨⟨m1, m2, m3, m4⟩, r2, r3, r4, r5, r6⟩ := R
  refine ⟨⟨TMb.ag m1 A, m2.ag A, kc, m4.ag e0 kc⟩, by rw [A.z]; exact r2, by rw [A.I 1 (by decide), A.I 2 (by decide)]; exact r3, by rw [A.z]; exact r4, fun i hi => (r5 i hi).ag A, fun c hc => ?_⟩
  obtain ⟨v, hv⟩ := r6 c hc
  exact ⟨v, VC.ag hv A⟩
/-- the reference's half moves -/
theorem Rl.twk (R : Rl x h t nv pa un fs Gs g own rt σ τ) (A : AgT h τ τ') (e0 : ∀ k, mR τ' 0 k = mR τ 0 k) (kc : KC τ') : Rl x h t nv pa un fs Gs g own rt σ τ' := by
  obtain ⟨R1, R2, ⟨q1, q2, q3, q4, ⟨b1, b2, b3, b4⟩⟩, q6, q7, ⟨q8, q9, q10⟩⟩ := R
  refine ⟨R1, R2.ag A e0 kc, ⟨?_, ?_, ?_, ?_, ⟨?_, ?_, ?_, ?_⟩⟩, by rw [A.z]; exact q6, q7, ⟨fun k hk z c hc => ?_, by rw [A.I 32 (by decide)]; exact q9, fun z => ?_⟩⟩
  · unfold Rtp at q1 ⊢; rw [A.z, A.I 27 (by decide)]; exact q1
  · unfold Rfl at q2 ⊢; rw [A.z]; exact q2
  · unfold Rnx at q3 ⊢; rw [A.z]; exact q3
  · unfold Rpt at q4 ⊢; rw [A.z]; exact q4
  · unfold Rbr at b1 ⊢; rw [A.z, A.I 8 (by decide)]; exact b1
  · unfold Rvr at b2 ⊢; rw [A.I 6 (by decide), A.I 7 (by decide)]; exact b2
  · obtain ⟨n, c1, c2, c3, c4, c5, c6, c7, c8, c9⟩ := b3
    refine ⟨n, c1, c2, by rw [A.z]; exact c3, c4, c5, c6, c7, c8, fun i hi => ?_⟩
    obtain ⟨d1, d2, d3, d4, d5, ⟨ct, d6, d7⟩, ct', d8, d9⟩ := c9 i hi
    refine ⟨d1, d2, fun j hj => ?_, ?_, ?_, ⟨ct, d6, ?_⟩, ct', d8, ?_⟩
    · have z := d3 j hj
      have hj' : j = 0 ∨ j = 1 ∨ j = 2 ∨ j = 3 := by omega
      rcases hj' with e | e | e | e <;> subst e
      · exact z.trans (congrFun (A.I 46 (by decide)) i).symm
      · exact z.trans (congrFun (A.I 47 (by decide)) i).symm
      · exact z.trans (congrFun (A.I 48 (by decide)) i).symm
      · exact z.trans (congrFun (A.I 51 (by decide)) i).symm
    · rw [A.I 46 (by decide), A.I 47 (by decide), A.I 48 (by decide), A.I 51 (by decide)]; exact d4
    · rw [A.I 52 (by decide)]; exact d5
    · rw [A.I 49 (by decide)]; exact d7.ag A
    · rw [A.I 50 (by decide)]; exact d9.ag A
  · unfold Rdf at b4 ⊢; rw [A.z, A.I 54 (by decide), A.I 55 (by decide), A.I 56 (by decide)]; exact b4
  · rw [A.I 32 (by decide)] at z
    exact VC.ag (q8 k hk z c hc) A
  · rw [A.z] at z
    obtain ⟨V, v1, v2⟩ := q10 z
    exact ⟨V, v1, fun c hc => VC.ag (v2 c hc) A⟩
/-- the class's half moves: only ints and longs of the reference, and of the cell for answers, are written -/
theorem Rl.clk {P : Nat → Nat → Prop} (R : Rl x h t nv pa un fs Gs g own rt σ τ) (tg : ∀ a, h ≤ a → a ≤ h + 57 → mT σ a = 10 ∨ (100 ≤ mT σ a ∧ mT σ a ≤ 103)) (th : mT σ h = 10) (e : Ex P σ σ') (hP : ∀ a k, P a k → h ≤ a ∧ a ≤ h + 57) : Rl x h t nv pa un fs Gs g own rt σ' τ := by
  have l := R.1.1
  have hh := R.1.2.1.1
  have lx : x < mZ σ := gOk_lt l.ok (by rw [l.1.1]; decide)
  have K : Kz (fun a => h ≤ a ∧ a ≤ h + 57) σ σ' := e.kp l.ok hP
  have w0 : ¬ (h ≤ 0 ∧ 0 ≤ h + 57) := by omega
  have xI : mI σ' x = mI σ x := funext fun j => (K.2.2.2 x lx (by omega) j).1
  have wn : WN σ (fun a => h ≤ a ∧ a ≤ h + 57) := ⟨w0, fun a w => by
    have z := tg a w.1 w.2
    refine ⟨by omega, by omega, fun e2 => ?_⟩
    by_cases c : a = h
    · rw [c, th] at e2; cases e2
    · have := tg (a - 1) (by omega) (by omega); omega⟩
  have ly : LYc x σ' := l.kp K w0 (fun a w => by have := tg a w.1 w.2; omega) (fun a j _ _ => by rw [e.rR]) (fun q hq ht => by
    exfalso
    rw [e.rT] at ht
    rcases hq with hq | hq
    · rw [l.ok q hq] at ht; cases ht
    · have := tg q hq.1 hq.2; omega)
  obtain ⟨V, hV⟩ := R.1.2.2.2.2.2.2
  refine R.upd K wn (fun a w o => by unfold OutS at o; omega) (by omega) ly (by rw [e.rR]) (fun j _ => by rw [xI]) ⟨V, hV.kp K l.ok (fun i hi => by omega)⟩ (R.2.2.2.2.1.kp K l.ok (fun i hi => by omega) (by rw [xI])) (Ex.rf (P := fun _ _ => False)) (fun _ _ f => f.elim) ?_ ?_
  · obtain ⟨n, a1, a2, a3, a4⟩ := R.2.2.1.1
    exact ⟨n, a1, by rw [xI]; exact a2, a3, fun j hj => by rw [K.rI l.ok (by rw [(l.T (1, 102, 400) (by decide)).1]; decide) (by omega)]; exact a4 j hj⟩
  · have := R.2.2.1.2.1
    unfold Rfl at this ⊢
    rw [xI]; exact this
end State46
