/-! ===== PHASE 2: the act enter ===== -/
section State59
variable {N x h u nv nv' pa un fs i t t' q n fi la p k : Nat} {σ σ' τ τ' r s f m b : gMem} {P : Nat → Nat → Prop} {W : Nat → Prop} {own rt : Nat → Nat} {S S' : Sh} {Gs : Nat → Sh} {g : Nat → Nat → Vl} {v w v1 v2 v4 v5 c' : Int} {ct : Ct} {a A : Nat} {bA : Nat → Int}
theorem thrN {β : Type} {X : Option gR} {Y : Option β} {Ψ : gR → β → Prop} (h : E2 X Y Ψ) (k : ∀ a b, Ψ a b → a.1 = .inl none ∨ ∃ E, a.1 = .inr E) : E2 (X.bind (fun p => gThrV p (fun s => some ((.inl none, s) : gR)))) Y Ψ := by
  obtain ⟨a, b, e1, e2, p⟩ := h
  refine ⟨a, b, ?_, e2, p⟩
  rw [e1]
  obtain ⟨a1, a2⟩ := a
  rcases k _ _ p with e | ⟨E, e⟩
  · have e : a1 = .inl none := e
    subst e; rfl
  · have e : a1 = .inr E := e
    subst e; rfl
/-- what is entered is read on both sides -/
theorem en_rd {F : gR → Option gR} {Φ : gR → Int × gMem → Prop} (hN : 500 ≤ N) (R1 : Rl x h t nv pa un fs Gs g own rt s r) (ht : t ≤ 150) (tx : TxB bA n n) (tpC : ∀ k, k < n → mI s (x + 1) k = sby (bA k)) (tpT : ∀ k, k < n → mI r (h + 27) k = bA k) (f3 : mR s (x + 1429) 3 = x + 1) (f2 : mR s (x + 1429) 2 = rt 0) (j4 : mI s (x + 1429) 4 = n) (j5 : mI s (x + 1429) 5 = n) (j1 : mI s (x + 1429) 1 = nv) (f16 : mR s (x + 1429) 16 = 0) (i43 : mI r h 43 = fi) (i44 : mI r h 44 = la) (i45 : mI r h 45 = n) (h1 : fi ≤ la) (h2 : la ≤ n) (lo : ∀ k, k < fi → bA k = 32) (hi' : ∀ k, la ≤ k → k < n → bA k = 32) (i41 : mI r h 41 = 0)
    (hG : ∀ (m b : gMem) (ct : Ct) (v4 v5 : Int), EnF x h s r m b → mI b h 41 = 0 → mI b h 42 = mI r h 42 → mI b h 56 = ((ct.2.length : Nat) : Int) → ct.2.length ≤ 60 → CtC m (mR m (x + 1429) 16) ct → ((v4 = 0 ∧ CtB b h nv v5 ct ∧ ct.2 = []) ∨ (v4 = 1 ∧ ct.1 = vE ∧ RwT b h (mI r h 25).toNat nv ct.2 ∧ pK (lab ct.2) ≠ 6)) → E2 (F (.inl none, m)) (tw_enter_j193 N h v1 v2 v4 v5 b) Φ)
    (hW : ∀ (m b : gMem) (v4 v5 : Int), EnF x h s r m b → mI b h 41 = mI m (x + 1429) 12 → mI b h 42 = mI m (x + 1429) 13 → 0 < mI b h 41 → E2 (F (.inr "SheetBranches$Wrong", m)) (tw_enter_j193 N h v1 v2 v4 v5 b) Φ) :
    E2 ((x6_read_j93 N (x + 1429) (x + 1) fi la s).bind F) (tw_enter_j135 N h v1 v2 r) Φ := by
  have l := R1.1.1
  have hh := R1.1.2.1.1
  have n4 := tx.2.2.2
  have T1 := l.T (1, 102, 400) (by decide)
  (try dsimp only at T1)
  have bd := R1.2.1.2.2.2.1
  obtain ⟨r', hr'⟩ : ∃ r', r' = wI r h 56 0 := ⟨_, rfl⟩
  have Y0 : Ex (fun a k => a = h ∧ k = 56) r r' := by rw [hr']; exact Ex.rf.I ⟨rfl, rfl⟩
  have j56 : mI r' h 56 = 0 := by rw [hr', mIwI2 ⟨rfl, rfl⟩, w32_i (by omega) (by omega)]
  have R2 : Rl x h t nv pa un fs Gs g own rt s r' := R1.tsc Y0 (fun a k p => Or.inl ⟨p.1, by omega⟩)
  have jj : ∀ j, j ≠ 56 → mI r' h j = mI r h j := fun j hj => Y0.rI (by omega)
  have tpT' : ∀ k, k < n → mI r' (h + 27) k = bA k := fun k hk => by rw [Y0.rI (by omega)]; exact tpT k hk
  have Y1 : Ex (EnA r h) r r' := Y0.mono (fun a k p => ⟨Or.inl (by omega), fun z => by rcases z with ⟨o, o1, o2, o3, o4⟩ | z | ⟨o, o1, o2, o3, o4⟩ <;> omega⟩)
  have cr := R2.cr tx tpC f3 f2 j4 j5 j1
  have td : TR h la n nv (mI r h 25).toNat (cutB la bA) (frV Gs) r' := by
    have := R2.trd tx tpT' (by rw [jj 44 (by decide)]; exact i44) (by rw [jj 45 (by decide)]; exact i45) h2
    rw [jj 25 (by decide)] at this; exact this
  have lu0 : (mI r h 19).toNat ≤ 80000 := by omega
  unfold x6_read_j93 tw_enter_j135
  rw [i43, i44]
  -- no formula
  have PL : (fi = la ∨ (fi < la ∧ bA fi ≠ 61)) → E2 ((if (fi : Int) ≠ la then (x6_plain N (x + 1429) fi la s).bind (fun p => gThrV p (fun s31 => some ((.inl none, s31) : gR))) else some ((.inl none, s) : gR)).bind F) (tw_enter_j164 N h v1 v2 r) Φ := by
    intro c
    unfold tw_enter_j164 tw_enter_j165
    refine E2.rl ?_
    rw [← hr']
    refine E2.rg rfl ?_
    rcases c with c | ⟨c, c2⟩
    · subst c
      rw [if_neg (by omega)]
      have e1 : ∀ K, tw_plainEntered_l5 N h K N (fi : Int) r' = K r' := fun K => t_pl_l (g := bA) (la := fi) (by rw [jj 44 (by decide)]; exact i44) (by omega) (fun k hk => tpT' k (by omega)) 0 fi N (by omega) (by omega) (fun k k1 k2 => by omega)
      have e2 : tw_plainEntered N h r' = some (0, r') := by
        unfold tw_plainEntered
        rw [jj 43 (by decide), i43, e1, jj 41 (by decide), i41, if_neg (by decide), jj 44 (by decide), jj 43 (by decide), i43, i44, show w32 ((fi : Int) - fi) = 0 by rw [w32_i (by omega) (by omega)]; omega, if_neg (by decide)]
      refine E2.le rfl (E2.re e2 ?_)
      refine hG s r' (vE, []) 0 0 ⟨⟨Kz.rf l.ok, fun j _ => rfl, by omega, by omega, fun q hq ht => l.np q ht⟩, Y1, fun z => z.ex Y0 (fun k p => by omega), ⟨by rw [jj 25 (by decide)]; exact Int.le_refl _, by rw [jj 19 (by decide)]; exact Int.le_refl _, by rw [jj 24 (by decide)]; exact Int.le_refl _⟩, by rw [jj 19 (by decide)]; omega, by rw [jj 24 (by decide)]; omega, jj 25 (by decide), jj 0 (by decide), jj 40 (by decide)⟩ (by rw [jj 41 (by decide)]; exact i41) (jj 42 (by decide)) j56 (by decide) (Or.inl ⟨f16, rfl⟩) (Or.inl ⟨rfl, Or.inl ⟨rfl, rfl⟩, rfl⟩)
    · rw [if_pos (by omega)]
      have rp := rd_plain (N := N) (lu := (mI r h 19).toNat) (q := (mI r h 24).toNat) (fi := fi) (la := la) hN cr td.1 td.2.1 h2 c lo hi' (by rw [jj 43 (by decide)]; exact i43) (by rw [jj 41 (by decide)]; exact i41) (by rw [jj 19 (by decide)]; omega) lu0 (by rw [jj 24 (by decide)]; omega) (by omega)
      refine E2.cc (thrN rp (fun a b z => by rcases z.2.2 with z | z; exact Or.inl z.1; exact Or.inr ⟨_, z.1⟩)) (fun a b z => ?_)
      obtain ⟨y1, ⟨y2, y3, y4, y5, y6, y7⟩, y8⟩ := z
      obtain ⟨a1, m⟩ := a
      have nE : ∀ j, j ≠ 19 → j ≠ 24 → j ≠ 41 → j ≠ 42 → mI b.2 h j = mI r' h j := fun j a1 a2 a3 a4 => y2.rI (fun p => by rcases p with p | ⟨o, p1, p2, p3, p4⟩ | p <;> omega)
      have Y2 : Ex (EnA r h) r' b.2 := y2.mono (fun a j p => by
        rcases p with p | ⟨o, p1, p2, p3, p4⟩ | p
        · exact ⟨Or.inl (by omega), fun z => by rcases z with ⟨o, o1, o2, o3, o4⟩ | z | ⟨o, o1, o2, o3, o4⟩ <;> omega⟩
        · exact ⟨Or.inr (by omega), fun z => by rcases z with ⟨o, o1, o2, o3, o4⟩ | z | ⟨o, o1, o2, o3, o4⟩ <;> omega⟩
        · exact ⟨Or.inr (by omega), fun z => by rcases z with ⟨o, o1, o2, o3, o4⟩ | z | ⟨o, o1, o2, o3, o4⟩ <;> omega⟩)
      have EF : EnF x h s r m b.2 := ⟨y1, Y1.tr Y2, fun z => y7 (z.ex Y0 (fun k p => by omega)), ⟨by rw [nE 25 (by decide) (by decide) (by decide) (by decide), jj 25 (by decide)]; exact Int.le_refl _, by omega, by omega⟩, by omega, by omega, by rw [nE 25 (by decide) (by decide) (by decide) (by decide), jj 25 (by decide)], by rw [nE 0 (by decide) (by decide) (by decide) (by decide), jj 0 (by decide)], by rw [nE 40 (by decide) (by decide) (by decide) (by decide), jj 40 (by decide)]⟩
      rcases y8 with ⟨u1, ⟨u2, u2'⟩, ct, u3, u4, u5, u6, u7, u8⟩ | ⟨u1, u2, u3, u4⟩
      · have u1 : a1 = .inl none := u1
        subst u1
        have l0 : ct.2.length = 0 := by rw [u3]; rfl
        exact hG m b.2 ct 0 b.1 EF u2 (by rw [u2', jj 42 (by decide)]) (by rw [nE 56 (by decide) (by decide) (by decide) (by decide), j56, l0]; rfl) (by omega) u4 (Or.inl ⟨rfl, CtT.toB u5 u7 u3 (by omega) u8, u3⟩)
      · have u1 : a1 = .inr "SheetBranches$Wrong" := u1
        subst u1
        exact hW m b.2 0 b.1 EF u2 u3 u4
  by_cases c : fi = la
  · have e : ¬ (fi : Int) ≠ (la : Int) := fun z => z (by omega)
    have := PL (Or.inl c)
    rw [if_neg e] at this ⊢
    exact E2.rg (by omega) this
  · have e : (fi : Int) ≠ (la : Int) := by omega
    have b := tx.1 fi (by omega)
    rw [if_pos e, if_pos T1.1, if_pos (by rw [T1.2]; omega), tn, tpC fi (by omega), tpT fi (by omega)]
    by_cases c61 : bA fi = 61
    · rw [if_neg (fun z => z ((sby_lo b.1 b.2 (by decide) (by decide)).mpr c61)), if_pos l.2.2.1.1, inc32 (by omega)]
      refine E2.rf (by omega) (E2.rg (by omega) (E2.rf (fun z => z c61) ?_))
      unfold tw_enter_j165
      refine E2.rl ?_
      rw [← hr']
      refine E2.rf (by decide) ?_
      have rf := rd_formula (N := N) (lu0 := (mI r h 19).toNat) (fi := fi) (la := la) hN R1.fn cr td h2 (by omega) (by rw [jj 43 (by decide)]; exact i43) j56 (by rw [jj 41 (by decide)]; exact i41) (by rw [jj 19 (by decide)]; omega) (by rw [jj 19 (by decide)]; omega) lu0
      rw [jj 19 (by decide)] at rf
      refine E2.cc (thrN rf (fun a b z => by rcases z.2.2 with z | z; exact Or.inl z.1; exact Or.inr ⟨_, z.1⟩)) (fun a b z => ?_)
      obtain ⟨y1, ⟨y2, y3, y4, y5, y6, y7⟩, y8⟩ := z
      obtain ⟨a1, m⟩ := a
      obtain ⟨z1, z2, z3, z4, z5⟩ := y1
      have z3 : mZ m ≤ mZ s + 3 * (n + 3) := z3
      have z4 : mS m ≤ mS s + 40 * (n + 3) := z4
      rw [jj 19 (by decide)] at y2 y4 y5
      have nE : ∀ j, j ≠ 19 → j ≠ 41 → j ≠ 42 → (j < 46 ∨ 59 < j) → mI b h j = mI r' h j := fun j a1 a2 a3 a4 => y2.rI (fun p => by rcases p with p | ⟨o, p1, p2, p3, p4⟩ | p <;> omega)
      have Y2 : Ex (EnA r h) r' b := y2.mono (fun a j p => by
        rcases p with p | ⟨o, p1, p2, p3, p4⟩ | p
        · exact ⟨Or.inl (by omega), fun z => by rcases z with ⟨o, o1, o2, o3, o4⟩ | z | ⟨o, o1, o2, o3, o4⟩ <;> omega⟩
        · exact ⟨Or.inr (by omega), fun z => by rcases z with ⟨o, o1, o2, o3, o4⟩ | z | ⟨o, o1, o2, o3, o4⟩ <;> omega⟩
        · exact ⟨Or.inr (by omega), fun z => by rcases z with ⟨o, o1, o2, o3, o4⟩ | z | ⟨o, o1, o2, o3, o4⟩ <;> omega⟩)
      have e24 : mI b h 24 = mI r h 24 := by rw [nE 24 (by decide) (by decide) (by decide) (by decide), jj 24 (by decide)]
      have e25 : mI b h 25 = mI r h 25 := by rw [nE 25 (by decide) (by decide) (by decide) (by decide), jj 25 (by decide)]
      have EF : EnF x h s r m b := ⟨⟨z1, z2, by omega, by omega, z5⟩, Y1.tr Y2, fun z => y6 (z.ex Y0 (fun k p => by omega)), ⟨by omega, by omega, by omega⟩, by omega, by omega, e25, by rw [nE 0 (by decide) (by decide) (by decide) (by decide), jj 0 (by decide)], by rw [nE 40 (by decide) (by decide) (by decide) (by decide), jj 40 (by decide)]⟩
      rcases y8 with ⟨u1, u2, lf, u3, u4, u5, u6, u7, u8⟩ | ⟨u1, u2, u3, u4⟩
      · have u1 : a1 = .inl none := u1
        subst u1
        exact hG m b (vE, lf) 1 0 EF u2 (by rw [(y7 u2).2, jj 42 (by decide)]) u3 u6 u4 (Or.inr ⟨rfl, rfl, u7, u8⟩)
      · have u1 : a1 = .inr "SheetBranches$Wrong" := u1
        subst u1
        exact hW m b 1 0 EF u2 u3 u4
    · rw [if_pos (fun z => c61 ((sby_lo b.1 b.2 (by decide) (by decide)).mp z)), if_pos l.2.2.1.1]
      have := PL (Or.inr ⟨by omega, c61⟩)
      rw [if_pos e] at this
      exact E2.rf (by omega) (E2.rg (by omega) (E2.rg c61 this))
theorem op_enter {v1 v2 : Int} (hN : 2000 ≤ N) (ht : t ≤ 150) (R : RL x h t σ τ) (g1 : g32 v1) (g2 : g32 v2) : E2 (x1_enter N x v1 v2 σ) (tw_enter N h v1 v2 τ) (OpO x h t cdEn σ τ) := by
  obtain ⟨nv, pa, un, fs, Gs, g, own, rt, R⟩ := R
  have l := R.1.1
  have hh := R.1.2.1.1
  have Rt := R.t0 (v := 0)
  obtain ⟨e8, c⟩ := R.c0
  obtain ⟨n, n4, t1, t2, tb⟩ := R.2.2.1.1
  have e24 : mR σ x 24 = x + 1429 := l.R (24, 1429) (by decide)
  have e0 : mR σ x 0 = x + 1 := l.R (0, 1) (by decide)
  have x0 : x ≠ 0 := fun e => by have a := l.1.1; rw [e, l.z0] at a; cases a
  unfold x1_enter tw_enter
  refine E2.lg l.1.1 (E2.lg (by rw [e8]; exact c.1.1) (E2.rl ?_))
  rw [e8]
  refine E2.le (c_hasS c g1 g2) (E2.re (t_cell40 Rt.s0) ?_)
  by_cases hin : inS (Gs 0) v1 v2
  · rw [if_pos hin]
    refine E2.lg (by decide) (E2.rg (by decide) (E2.ll (E2.ll (E2.ll ?_))))
    rw [mIwI1 (show ¬ (h = h ∧ 40 = 0) by omega), t2]
    refine E2.rl (E2.rl (E2.rl (E2.rl (E2.rl (E2.rl ?_)))))
    obtain ⟨s0, hs0⟩ : ∃ s0, s0 = wI (wI (wI σ x 1 0) x 2 0) x 3 (-1) := ⟨_, rfl⟩
    have X0 : Ex (fun a k => a = x ∧ (k = 1 ∨ k = 2 ∨ k = 3)) σ s0 := by rw [hs0]; exact ((Ex.rf.I (by omega)).I (by omega)).I (by omega)
    have a1 : mI s0 x 1 = 0 := by rw [hs0]; simp (disch := omega) only [mIwI1, mIwI2, w32_i]
    have a2 : mI s0 x 2 = 0 := by rw [hs0]; simp (disch := omega) only [mIwI1, mIwI2, w32_i]
    have a3 : mI s0 x 3 = -1 := by rw [hs0]; simp (disch := omega) only [mIwI1, mIwI2, w32_i]
    rw [← hs0]
    obtain ⟨r0, hr0⟩ : ∃ r0, r0 = wI (wI (wI (wI (wI (wI (wI τ h 0 0) h 40 0) h 41 0) h 42 (-1)) h 43 0) h 44 (n : Int)) h 45 (n : Int) := ⟨_, rfl⟩
    have Y0 : Ex (fun a k => a = h ∧ (k = 0 ∨ (40 ≤ k ∧ k ≤ 45))) τ r0 := by rw [hr0]; exact ((((((Ex.rf.I (by omega)).I (by omega)).I (by omega)).I (by omega)).I (by omega)).I (by omega)).I (by omega)
    have b0 : mI r0 h 0 = 0 := by rw [hr0]; simp (disch := omega) only [mIwI1, mIwI2, w32_i]
    have b40 : mI r0 h 40 = 0 := by rw [hr0]; simp (disch := omega) only [mIwI1, mIwI2, w32_i]
    have b41 : mI r0 h 41 = 0 := by rw [hr0]; simp (disch := omega) only [mIwI1, mIwI2, w32_i]
    have b42 : mI r0 h 42 = -1 := by rw [hr0]; simp (disch := omega) only [mIwI1, mIwI2, w32_i]
    have b43 : mI r0 h 43 = ((0 : Nat) : Int) := by rw [hr0]; simp (disch := omega) only [mIwI1, mIwI2, w32_i]; rfl
    have b44 : mI r0 h 44 = n := by rw [hr0]; simp (disch := omega) only [mIwI1, mIwI2, w32_i]
    have b45 : mI r0 h 45 = n := by rw [hr0]; simp (disch := omega) only [mIwI1, mIwI2, w32_i]
    rw [← hr0]
    rw [X0.rR, X0.rT, e24, e0, e8, t1, X0.rI (show ¬ (x = x ∧ (5 = 1 ∨ 5 = 2 ∨ 5 = 3)) by omega), R.c5.1]
    refine E2.lg l.2.2.1.1 ?_
    unfold x6_read
    rw [X0.rT, if_pos l.2.2.1.1]
    obtain ⟨s1, hs1⟩ : ∃ s1, s1 = wR (wI (wI (wI (wR (wI (wI (wR s0 (x + 1429) 3 (x + 1)) (x + 1429) 4 (n : Int)) (x + 1429) 5 (n : Int)) (x + 1429) 2 (rt 0)) (x + 1429) 1 (nv : Int)) (x + 1429) 12 0) (x + 1429) 13 (-1)) (x + 1429) 16 0 := ⟨_, rfl⟩
    have K1 : Kz (EnW x) σ s1 := by
      have K0 : Kz (EnW x) σ s0 := X0.kp l.ok (fun a k p => Or.inl p.1)
      have w : mZ σ ≤ x + 1429 ∨ EnW x (x + 1429) := Or.inr (Or.inr (Or.inl rfl))
      rw [hs1]
      exact (((((((K0.wR w).wI w).wI w).wR w).wI w).wI w).wI w).wR w
    have u3 : mR s1 (x + 1429) 3 = x + 1 := by rw [hs1]; simp (disch := omega) only [mR_wR, mR_wI, if_neg, if_pos, and_self, if_true]
    have u2 : mR s1 (x + 1429) 2 = rt 0 := by rw [hs1]; simp (disch := omega) only [mR_wR, mR_wI, if_neg, if_pos, and_self, if_true]
    have u16 : mR s1 (x + 1429) 16 = 0 := by rw [hs1]; simp (disch := omega) only [mR_wR, mR_wI, if_neg, if_pos, and_self, if_true]
    have u4 : mI s1 (x + 1429) 4 = n := by rw [hs1]; simp (disch := omega) only [mI_wR, mIwI1, mIwI2, w32_i]
    have u5 : mI s1 (x + 1429) 5 = n := by rw [hs1]; simp (disch := omega) only [mI_wR, mIwI1, mIwI2, w32_i]
    have nv4 := R.c5
    have u1 : mI s1 (x + 1429) 1 = nv := by rw [hs1]; simp (disch := omega) only [mI_wR, mIwI1, mIwI2, w32_i]
    have vR : ∀ a j, (a ≠ x + 1429 ∨ (j ≠ 3 ∧ j ≠ 2 ∧ j ≠ 16)) → mR s1 a j = mR s0 a j := fun a j hj => by
      rw [hs1, mR_wR, if_neg (by omega), mR_wI, mR_wI, mR_wI, mR_wR, if_neg (by omega), mR_wI, mR_wI, mR_wR, if_neg (by omega)]
    have vI' : ∀ a j, a ≠ x + 1429 → mI s1 a j = mI s0 a j := fun a j hj => by
      rw [hs1, mI_wR, mIwI1 (by omega), mIwI1 (by omega), mIwI1 (by omega), mI_wR, mIwI1 (by omega), mIwI1 (by omega), mI_wR]
    have vT : mT s1 = mT s0 := by rw [hs1]; rfl
    have vN : mN s1 = mN s0 := by rw [hs1]; rfl
    have vZ : mZ s1 = mZ s0 ∧ mS s1 = mS s0 := by rw [hs1]; exact ⟨rfl, rfl⟩
    show E2 ((x6_read_l47 N (x + 1429) (x + 1) n (fun y20 s21 => x6_read_l69 N (x + 1429) (x + 1) y20 (fun y24 s25 => x6_read_j93 N (x + 1429) (x + 1) y20 y24 s25) N n s21) N 0 (wR (wI (wI (wI (wR (wI (wI (wR s0 (x + 1429) 3 (x + 1)) (x + 1429) 4 (n : Int)) (x + 1429) 5 (n : Int)) (x + 1429) 2 (rt 0)) (x + 1429) 1 (nv : Int)) (x + 1429) 12 0) (x + 1429) 13 (-1)) (x + 1429) 16 0)).bind _) _ _
    rw [← hs1]
    have T1 := l.T (1, 102, 400) (by decide)
    (try dsimp only at T1)
    have tx := tpA_tx (τ := τ) (h := h) n4 (fun k hk => ⟨(tb k hk).1, (tb k hk).2.1⟩)
    have tpC : ∀ k, k < n → mI s1 (x + 1) k = sby (tpA τ h n k) := fun k hk => by
      rw [vI' _ _ (by omega), X0.rI (by omega), (tb k hk).2.2]; unfold tpA; rw [if_pos hk]
    have tpT0 : ∀ k, k < n → mI r0 (h + 27) k = tpA τ h n k := fun k hk => by
      rw [Y0.rI (by omega)]; unfold tpA; rw [if_pos hk]
    obtain ⟨fi, fi1, fi2, fi3⟩ := trim_f (tpA τ h n) n
    obtain ⟨la, la1, la2, la3, la4⟩ := trim_b (tpA τ h n) fi (n - fi)
    have la3' : ∀ k, la ≤ k → k < n → tpA τ h n k = 32 := fun k k1 k2 => la3 k k1 (by omega)
    have C1 := c_l47 (N := N) (x := x) (K := fun y20 s21 => x6_read_l69 N (x + 1429) (x + 1) y20 (fun y24 s25 => x6_read_j93 N (x + 1429) (x + 1) y20 y24 s25) N n s21) (by rw [vT, X0.rT]; exact T1.1) (by rw [vN, X0.rN]; exact T1.2) n4 tx tpC fi1 fi2 fi3 fi 0 N (by omega) (by omega)
    have C2 := c_l69 (N := N) (x := x) (K := fun y24 s25 => x6_read_j93 N (x + 1429) (x + 1) (fi : Int) y24 s25) (by rw [vT, X0.rT]; exact T1.1) (by rw [vN, X0.rN]; exact T1.2) n4 tx tpC la1 la3' la4 (n - la) N (by omega) (by omega)
    rw [show la + (n - la) = n by omega] at C2
    (try dsimp only at C1 C2)
    rw [show ((0 : Nat) : Int) = 0 from rfl] at C1
    rw [C1, C2]
    obtain ⟨r1, D1, D2, D3⟩ := t_l57 (N := N) (v := v1) (w := v2) (fi := fi) n4 tpT0 b44 fi1 fi2 fi3 fi 0 N r0 (by omega) (by omega) Ex.rf b43
    obtain ⟨r2, F1, F2, F3⟩ := t_l95 (N := N) (v := v1) (w := v2) (la := la) n4 (τ := r1) (fun k hk => by rw [D1.rI (by omega)]; exact tpT0 k hk) D2 (by omega) la1 la3' la4 (n - la) N r1 (by omega) (by omega) Ex.rf (by rw [D1.rI (by omega), b44, show la + (n - la) = n by omega])
    rw [D3]
    (try dsimp only)
    rw [F3]
    have Y2 : Ex (fun a k => a = h ∧ (k = 0 ∨ (40 ≤ k ∧ k ≤ 45))) τ r2 := (Y0.tr (D1.mono (fun a k p => by omega))).tr (F1.mono (fun a k p => by omega))
    have c2 : ∀ j, j ≠ 43 → j ≠ 44 → mI r2 h j = mI r0 h j := fun j j1 j2 => by rw [F1.rI (by omega), D1.rI (by omega)]
    have bd := R.2.1.2.2.2.1
    have nE : ∀ j, j ≠ 0 → (j < 40 ∨ 45 < j) → mI r2 h j = mI τ h j := fun j j1 j2 => Y2.rI (by omega)
    have R1 : Rl x h t nv pa un fs Gs g own rt s1 r2 := by
      refine R.en (t' := t) K1 (by funext j; rw [vR x j (by omega), X0.rR]) (fun j j1 j2 j3 j4 => by rw [vI' x j (by omega), X0.rI (by omega)]) (fun j hj => by rw [vR _ j (by omega), X0.rR]) (fun q hq ht => by
        rw [vT, X0.rT, l.ok q hq] at ht; cases ht) Y2 (fun a k p => ⟨Or.inl (by omega), fun z => by rcases z with ⟨o, o1, o2, o3, o4⟩ | z | ⟨o, o1, o2, o3, o4⟩ <;> omega⟩) (fun z => z.ex Y2 (fun k p => by omega)) ⟨by rw [nE 25 (by decide) (by decide)]; exact Int.le_refl _, by rw [nE 19 (by decide) (by decide)]; exact Int.le_refl _, by rw [nE 24 (by decide) (by decide)]; exact Int.le_refl _⟩ (by rw [nE 25 (by decide) (by decide)]; omega) (Nat.le_refl _) (by rw [nE 19 (by decide) (by decide)]; omega) (by rw [nE 24 (by decide) (by decide)]; omega) ⟨0, by omega, by rw [vI' _ _ (by omega)]; exact a1, by rw [c2 40 (by decide) (by decide)]; exact b40, fun k hk => absurd hk (Nat.not_lt_zero _)⟩ ⟨by rw [vI' _ _ (by omega), a2, c2 41 (by decide) (by decide), b41], by rw [vI' _ _ (by omega), a3, c2 42 (by decide) (by decide), b42]⟩ ?_
      unfold Rpt
      rw [vI' _ _ (by omega), X0.rI (by omega), nE 25 (by decide) (by decide)]
      exact R.2.2.1.2.2.2.1
    have B : EnB x h σ τ s1 r2 := by
      refine ⟨⟨K1.mono (fun a w => by unfold EnW at w; unfold NoT; omega), by rw [vZ.1, X0.rZ], by rw [vZ.2, X0.rS], by rw [vI' _ _ (by omega), X0.rI (by omega)], Y2.mono (fun a k p => by unfold TwA; omega)⟩, by rw [vI' _ _ (by omega)]; exact a1, by rw [vI' _ _ (by omega)]; exact a2, by rw [vI' _ _ (by omega)]; exact a3, by rw [c2 40 (by decide) (by decide)]; exact b40, by rw [c2 42 (by decide) (by decide)]; exact b42, by rw [c2 0 (by decide) (by decide)]; exact b0⟩
    refine en_rd (n := n) (fi := fi) (la := la) (by omega) R1 ht tx tpC (fun k hk => by rw [F1.rI (by omega), D1.rI (by omega)]; exact tpT0 k hk) u3 u2 u4 u5 u1 u16 (by rw [F1.rI (by omega)]; exact D2) F2 (by rw [c2 45 (by decide) (by decide)]; exact b45) la1 (by omega) fi2 la3' (by rw [c2 41 (by decide) (by decide)]; exact b41) (fun m b ct v4 v5 E i41 i42 i56 l60 kA hC => ?_) (fun m b v4 v5 E i41 i42 i0 => ?_)
    · obtain ⟨e1, e2, e3, e4, e5⟩ := en_x R1 E.1
      show E2 (if mT m (mR m x 24) = 6 then _ else none) _ _
      rw [e5]
      refine E2.lg e4 ?_
      have z0 : mT m 0 = 0 := by rw [(E.1.1.2.2.1 0 R1.1.1.z).1]; exact R1.1.1.z0
      by_cases cA : mR m (x + 1429) 16 ≠ 0
      · refine E2.lg cA (E2.le (c_parts kA cA) ?_)
        exact en_good (by omega) R1 B hin E i41 i42 i56 l60 kA hC
      · refine E2.lf cA ?_
        have cA' : mR m (x + 1429) 16 = 0 := Classical.not_not.mp cA
        have c0 := (kA.nul z0).mp cA'
        have G := en_good (N := N) (by omega) R1 B hin E i41 i42 i56 l60 kA hC
        rw [show ((ct.2.length : Nat) : Int) = 0 by rw [c0]; rfl] at G
        exact G
    · show E2 (if "SheetBranches$Wrong" = "SheetBranches$Wrong" then _ else none) _ _
      exact E2.lg rfl (en_bad R1 B E i41 i42 i0)
  · rw [if_neg hin]
    exact E2.lf (by decide) (E2.rf (by decide) (E2.r (OpO.ex R (by decide) (by decide))))
end State59
