/-! ===== PHASE 2: reading: areas ===== -/
section Read17
variable {N x h hi all nv sh M lu0 b b' p q op pa pi : Nat} {bA : Nat → Int} {f : Int → List Int × List Int} {σ σ' σ'' τ τ' τ'' s r σ0 τ0 σ1 τ2 : gMem} {p0 pa0 nd k lu : Nat}
theorem fx_or : ∀ a : Nat, a < 4 → ∀ b : Nat, b < 4 → bOr (a : Int) (bShl (b : Int) 2) = ((a + 4 * b : Nat) : Int) := by decide
theorem tw_lineAt_rng {a b c u : Int} (e : tw_lineAt h a b c τ = some u) : -2147483648 ≤ u ∧ u ≤ 2147483647 := by
  unfold tw_lineAt at e
  split at e
  · split at e
    · rw [← Option.some.inj e]; exact mI_rng _ _ _
    · cases e
  · split at e
    · rw [← Option.some.inj e]; exact mI_rng _ _ _
    · cases e
/-- a corner's node is kept -/
theorem CorN.cf {a fx : Nat} {u v : Int} (c : CR x hi all nv sh bA f s) (n : CorN s a u v fx) (e : CF x s r k) : CorN r a u v fx := by
  obtain ⟨g1, g2, g3, g4, g5, g6⟩ := n
  have ok := c.2.2.2.2.1
  have w : ¬ RdW x a := c.nd ⟨by omega, by omega⟩
  have J : ∀ j, mI r a j = mI s a j := fun j => e.1.rI ok (by omega) w j
  refine ⟨by rw [e.1.tag ok (by omega)]; exact g1, by rw [J]; exact g2, by rw [J]; exact g3, ?_, by rw [J]; exact g5, by rw [J]; exact g6⟩
  unfold cfx; rw [J, J]; exact g4
theorem rd_area (hN : 500 ≤ N) (fn : FN nv f) (S : S2 x h hi all nv sh M lu0 bA f σ τ q q op pa pi) (kk : tkK bA q = 3) (hc : isC bA q = true) (h58 : bA (ck3 bA q) = 58) : E2 (x6_area N (x + 1429) σ) (tw_readArea N h τ) (OutN x h hi all nv sh M lu0 bA f σ τ q op pa pi True) := by
  have S0 := S
  obtain ⟨c, t, ⟨s1, s2, s3, s4⟩, ⟨t1, t2, t3, t4, t5⟩, ⟨l1, l2, l3⟩, b1, b2, b3, b4, b5, b6, b7⟩ := S
  have tx := c.1.2.2.2.2.2.2.2
  have h4 : hi ≤ 400 := by have := tx.2.2.1; have := tx.2.2.2; omega
  have lt := c.lt
  obtain ⟨k1, k2⟩ := isC_k hc tx
  obtain ⟨d1, d2, d3, d4⟩ := isC_dig hc
  have d5 := cCol_b hc
  have m60 := t.2.2.2.2.2
  have qh : q < hi := by omega
  have k3 : ck3 bA q < hi := tx.lt (fun z => by rw [z] at h58; cases h58)
  have q1 : bA q ≠ -1 := fun z => by have := (tx.1 q qh).1; omega
  obtain ⟨e49, e52, e53, e54⟩ := t2.2.2.2.2.2.2.2.1 kk
  have e48 : mI τ h 48 = q := by rw [t2.2.1, if_neg q1]
  obtain ⟨q2, hq2⟩ : ∃ q2, q2 = ck3 bA q + 1 := ⟨_, rfl⟩
  unfold x6_area tw_readArea
  rw [s1, e49, e48, e52, e53, e54, inc32 (by omega), ← hq2]
  refine E2.lg c.1.1 (E2.le (c_corner c.1 (by omega)) (E2.ll ?_))
  rw [if_pos hc]
  have w1 : w32 ((q : Int) + ((ck3 bA q - q : Nat) : Int)) = ((ck3 bA q : Nat) : Int) := by rw [w32_i (by omega) (by omega)]; omega
  rw [w1, inc32 (by omega), ← hq2]
  have X7 : Ex (Rq x 6) σ (wI σ (x + 1429) 6 (q2 : Int)) := Ex.rf.I ⟨rfl, rfl⟩
  have g7 : mI (wI σ (x + 1429) 6 (q2 : Int)) (x + 1429) 6 = (q2 : Int) := by rw [mI_wI, if_pos ⟨rfl, rfl⟩, w32_i (by omega) (by omega)]
  generalize wI σ (x + 1429) 6 (q2 : Int) = s7 at X7 g7 ⊢
  have cf7 := Rq.cf c X7 (by omega)
  have c7 := c.cf cf7
  rw [g7]
  refine E2.rc (t_corner (p := q2) hN t.1 (by omega)) (fun x6 z => ?_)
  obtain ⟨X6, z2, z3⟩ := z
  have n6 : ∀ j, (j < 52 ∨ 55 < j) → mI x6.2 h j = mI τ h j := fun j hj => X6.rI (fun y => by omega)
  have tf6 : TF (lu0 + hi) h τ x6.2 (M + pa) := TF.ex X6 b5 (fun a j y => Or.inl ⟨y.1, by omega⟩)
  have tr6 := t.tf tf6
  refine E2.le (c_corner c7.1 (by omega)) ?_
  by_cases hd : isC bA q2 = true
  case neg =>
    rw [if_neg hd, z2, if_neg hd]
    refine E2.lf (fun z => z rfl) (E2.rf (fun z => z rfl) ?_)
    refine E2.vv (c_throwJ c7 (k := 1) (w := (q2 : Int)) (by decide) (by omega)) (Ev.c (t_fail (lu0 := lu0) (hi := hi) (b := M + pa) (k := 1) (w := (q2 : Int)) (by rw [n6 19 (by decide)]; exact b5) (by rw [n6 41 (by decide)]; exact t5) (by decide) (by omega)) (fun r _ z => Ev.r z)) (fun a r2 y z => OutN.fault y.1 y.2.1 y.2.2.1 ((cf7.tr y.2.2.2).mono (by omega)) (by decide) z.1 z.2.1 (tf6.tr z.2.2.1 (Nat.le_refl _)))
  obtain ⟨f52, f53, f54, f55⟩ := z3 hd
  obtain ⟨j1, j2⟩ := isC_k hd tx
  obtain ⟨d1', d2', d3', d4'⟩ := isC_dig hd
  have d5' := cCol_b hd
  rw [if_pos hd, z2, if_pos hd, f52, f53, f54, f55]
  refine E2.lg (by omega) (E2.rg (by decide) (E2.le (c_corner c7.1 (by omega)) (E2.ll ?_)))
  rw [if_pos hd]
  have w2 : w32 ((q2 : Int) + ((ck3 bA q2 - q2 : Nat) : Int)) = ((ck3 bA q2 : Nat) : Int) := by rw [w32_i (by omega) (by omega)]; omega
  rw [w2]
  have X16 : Ex (Rq x 6) s7 (wI s7 (x + 1429) 6 ((ck3 bA q2 : Nat) : Int)) := Ex.rf.I ⟨rfl, rfl⟩
  have g16 : mI (wI s7 (x + 1429) 6 ((ck3 bA q2 : Nat) : Int)) (x + 1429) 6 = ((ck3 bA q2 : Nat) : Int) := by rw [mI_wI, if_pos ⟨rfl, rfl⟩, w32_i (by omega) (by omega)]
  generalize wI s7 (x + 1429) 6 ((ck3 bA q2 : Nat) : Int) = s16 at X16 g16 ⊢
  have cf16 : CF x σ s16 0 := Rq.cf c (X7.tr X16) (by omega)
  have c16 := c.cf cf16
  refine E2.cc (rd_version (lu0 := lu0) (b := M + pa) hN c16 tr6 g16 j2 (by rw [n6 41 (by decide)]; exact t5) (by rw [n6 19 (by decide)]; exact b5)) (fun a y z => ?_)
  obtain ⟨a1, s12⟩ := a
  obtain ⟨y1, τ1⟩ := y
  rcases z with ⟨v, e, z1, z2, z3, z4, z5, z6, z7, z8, z9, z10⟩ | ⟨w, z1, z2, z3, z4, z5, z6, z7⟩
  · have za : a1 = .inl (some (vI v)) := z1
    have zy : y1 = v := z2
    subst za
    subst zy
    rw [thrI]
    have X12 : Ex (Rq x 6) σ s12 := (X7.tr X16).tr z7
    have cf12 : CF x σ s12 0 := Rq.cf c X12 (by omega)
    have c12 := c.cf cf12
    have X1 : Ex (fun a k => a = h ∧ k = 46) x6.2 τ1 := z9
    have tf1 : TF (lu0 + hi) h τ τ1 (M + pa) := tf6.tr (TF.ex (b := M + pa) X1 (by rw [n6 19 (by decide)]; exact b5) (fun a j y => Or.inl ⟨y.1, by omega⟩)) (Nat.le_refl _)
    have tr1 := t.tf tf1
    have n1 : ∀ j, j ≠ 46 → (j < 52 ∨ 55 < j) → mI τ1 h j = mI τ h j := fun j hj j2 => by rw [X1.rI (fun y => hj y.2)]; exact n6 j j2
    obtain ⟨a, ea, ea1, ea2⟩ := c_sheetOfR c12 (v := y1) z3
    have a0 : ∀ {a : Nat} {s : gMem}, CR x hi all nv sh bA f s → ((nv : Int) ≤ y1 → a = 0) → (y1 < nv → ShL s a (f y1).1 (f y1).2) → (a ≠ 0 ↔ y1 < nv) := by
      intro a s cs u1 u2
      constructor
      · intro u
        exact Classical.byContradiction (fun z => u (u1 (by omega)))
      · intro u z
        have := (u2 u).1
        rw [z, cs.2.2.2.2.2.2.1] at this
        cases this
    have A0 := a0 c12 ea1 ea2
    refine E2.rg (by show mI τ1 h 41 ≤ 0; rw [n1 41 (by decide) (by decide), t5]; exact Int.le_refl _) (E2.le ea ?_)
    have TW := t_part (k := 6) (ms := []) hN tr1.2.2.2.2.1 tr1.2.2.2.2.2 (by rw [n1 56 (by decide) (by decide)]; exact t4) (by omega) (by rw [n1 41 (by decide) (by decide)]; exact t5) (by decide) (by decide) trivial
    refine E2.rc TW (fun x11 z => ?_)
    obtain ⟨p1, p2, p3, p4⟩ := z
    have n2 : ∀ j, j ≠ 56 → mI x11.2 h j = mI τ1 h j := fun j hj => p2.rI (fun y => by rcases y with y | ⟨o, o1, o2, o3, o4⟩ <;> omega)
    have tf2 : TF (lu0 + hi) h τ x11.2 (M + pa) := tf1.tr (TF.ex (b := M + pa) p2 (by rw [n1 19 (by decide) (by decide)]; exact b5) (fun a j y => by
      rcases y with y | ⟨o, o1, o2, o3, o4⟩
      · exact Or.inl ⟨y.1, by omega⟩
      · exact Or.inr ⟨o, o1, o2, o3, by omega⟩)) (Nat.le_refl _)
    have tr2 := t.tf tf2
    have n3 : ∀ j, j ≠ 46 → j ≠ 56 → (j < 52 ∨ 55 < j) → mI x11.2 h j = mI τ h j := fun j j1 j2 j3 => by rw [n2 j j2, n1 j j1 j3]
    have f46 : mI x11.2 h 46 = e := by rw [n2 46 (by decide)]; exact z10
    -- the two corners
    refine E2.lc (c_cornerOf (R := (f y1).1) (C := (f y1).2) hN c12 hc k2 (fun u => ea2 (A0.mp u))) (fun y z => ?_)
    obtain ⟨yc, yi, yr⟩ := z
    have cfy : CF x σ y.2 1 := (cf12.tr yc).mono (by omega)
    have cy := c.cf cfy
    obtain ⟨a', ea', ea1', ea2'⟩ := c_sheetOfR cy (v := y1) z3
    have A1 := a0 cy ea1' ea2'
    refine E2.le ea' (E2.lc (c_cornerOf (R := (f y1).1) (C := (f y1).2) hN cy hd j2 (fun u => ea2' (A1.mp u))) (fun y' z => ?_))
    obtain ⟨yc', yi', yr'⟩ := z
    have cfy' : CF x σ y'.2 2 := (cfy.tr yc').mono (by omega)
    have cy' := c.cf cfy'
    have yI : ∀ j, j ≠ 6 → mI y'.2 (x + 1429) j = mI σ (x + 1429) j := fun j hj => by rw [yi', yi, X12.rI (fun y => hj y.2)]
    have y6 : mI y'.2 (x + 1429) 6 = e := by rw [yi', yi]; exact z8
    refine E2.ll ?_
    rw [yI 8 (by decide), s3, inc32 (by omega)]
    have X17 : Ex (Rq x 8) y'.2 (wI y'.2 (x + 1429) 8 ((pa + 1 : Nat) : Int)) := Ex.rf.I ⟨rfl, rfl⟩
    have g17 : mI (wI y'.2 (x + 1429) 8 ((pa + 1 : Nat) : Int)) (x + 1429) 8 = ((pa + 1 : Nat) : Int) := by rw [mI_wI, if_pos ⟨rfl, rfl⟩, w32_i (by omega) (by omega)]
    generalize wI y'.2 (x + 1429) 8 ((pa + 1 : Nat) : Int) = s17 at X17 g17 ⊢
    have cfx17 := Rq.cf cy' X17 (by omega)
    have cf17 : CF x σ s17 2 := (cfy'.tr cfx17).mono (by omega)
    have c17 := c.cf cf17
    have I17 : ∀ j, j ≠ 6 → j ≠ 8 → mI s17 (x + 1429) j = mI σ (x + 1429) j := fun j j1 j2 => by rw [X17.rI (fun y => j2 y.2), yI j j1]
    have i6 : mI s17 (x + 1429) 6 = e := by rw [X17.rI (fun y => by unfold Rq at y; omega)]; exact y6
    have lt17 := c17.lt
    -- the new cell
    have CELL : ∀ s', Ex (fun a j => a = x + 1429 ∧ (j = 14 ∨ j = 15)) s17 s' → (mI s' (x + 1429) 15 = mI s17 (x + 1429) 15 ∨ mI s' (x + 1429) 15 < mI s17 (x + 1429) 5) → ∃ σ1, x6_area_j128 N y1 y.1 y'.1 s' = some (.inl (some (vR (mZ s'))), σ1) ∧ CF x σ σ1 3 ∧ CF x s' σ1 1 ∧ (∀ j, mI σ1 (x + 1429) j = mI s' (x + 1429) j) ∧ mT σ1 (mZ s') = 17 ∧ mR σ1 (mZ s') 0 = y.1 ∧ mR σ1 (mZ s') 1 = y'.1 ∧ mI σ1 (mZ s') 2 = y1 := by
      intro s' X x15
      have cfs : CF x s17 s' 0 := CF.ex X c17.2.2.2.2.1 lt17 (fun a j z => ⟨z.1, by omega⟩) x15
      have cf' : CF x σ s' 2 := (cf17.tr cfs).mono (by omega)
      have c' := c.cf cf'
      have lt' : x + 1430 < mZ s' := c'.lt
      have tt : mT (wN s' 17 3) (mZ s') = 17 := by rw [mT_wN, if_pos rfl]
      have ttR : mT (wR (wN s' 17 3) (mZ s') 0 y.1) (mZ s') = 17 := by rw [mT_wR]; exact tt
      have C1 : CF x s' (wI (wR (wR (wN s' 17 3) (mZ s') 0 y.1) (mZ s') 1 y'.1) (mZ s') 2 y1) 1 := (((CF.rf c').wN' (t := 17) (n := 3) (Or.inr trivial) (fun z => by cases z) (by decide)).wR' (Nat.le_refl _) (fun z => by rw [tt] at z; cases z)).wR' (Nat.le_refl _) (fun z => by rw [ttR] at z; cases z) |>.wI' (Nat.le_refl _)
      refine ⟨wI (wR (wR (wN s' 17 3) (mZ s') 0 y.1) (mZ s') 1 y'.1) (mZ s') 2 y1, ?_, (cf'.tr C1).mono (by omega), C1, fun j => ?_, ?_, ?_, ?_, ?_⟩
      · unfold x6_area_j128 x19_init
        simp only [gLet]
        rw [if_pos tt]; rfl
      · rw [mIwI1 (by omega), mI_wR, mI_wR, mI_wN, if_neg (by omega)]
      · rw [mT_wI, mT_wR, mT_wR]; exact tt
      · rw [mR_wI, mR_wR, if_neg (by omega), mR_wR, if_pos ⟨rfl, rfl⟩]
      · rw [mR_wI, mR_wR, if_pos ⟨rfl, rfl⟩]
      · rw [mIwI2 ⟨rfl, rfl⟩, w32_i (by omega) (by omega)]
    -- one is not there
    have MISS : (y.1 = 0 ∨ y'.1 = 0) → E2 (x6_area_j122 N (x + 1429) (q : Int) y1 y.1 y'.1 s17) (tw_readArea_j185 N h (q : Int) x11.2) (OutN x h hi all nv sh M lu0 bA f σ τ q op pa pi True) := by
      intro _
      unfold x6_area_j122 tw_readArea_j185
      refine E2.rc (t_later (k := 3) (w := (q : Int)) (lp := mI σ (x + 1429) 15) (by rw [n3 58 (by decide) (by decide) (by decide), n3 59 (by decide) (by decide) (by decide), l1]; exact l2) (by decide) (by omega)) (fun τ3 u => ?_)
      obtain ⟨u1, u2, u3⟩ := u
      rw [n3 58 (by decide) (by decide) (by decide), l1] at u2 u3
      refine E2.lg c17.1.1 (E2.lc (c_late (k := 3) (w := (q : Int)) c17.1.1 (by decide) (by omega)) (fun s24 w => ?_))
      obtain ⟨w1, w2, w3⟩ := w
      rw [I17 14 (by decide) (by decide), I17 15 (by decide) (by decide)] at w2 w3
      obtain ⟨σ1, e1, v1, v1', v2, v3, v4, v5, v6⟩ := CELL s24 w1 (by rw [w3, I17 15 (by decide) (by decide), c17.1.2.1]; exact lt15 (by omega))
      have nz : 0 < (ltF (mI σ (x + 1429) 14) (mI σ (x + 1429) 15) 3 (q : Int)).1 := by
        unfold ltF
        split
        · exact (by decide : (0 : Int) < 3)
        · rename_i hh
          have : mI σ (x + 1429) 14 ≠ 0 := fun z => hh (Or.inl z)
          show 0 < mI σ (x + 1429) 14
          omega
      have n4 : ∀ j, j ≠ 58 → j ≠ 59 → mI τ3 h j = mI x11.2 h j := fun j j1 j2 => u1.rI (fun y => by omega)
      have tf3 : TF (lu0 + hi) h τ τ3 (M + pa) := tf2.tr (TF.ex (b := M + pa) u1 (by rw [n3 19 (by decide) (by decide) (by decide)]; exact b5) (fun a j y => Or.inl ⟨y.1, by omega⟩)) (Nat.le_refl _)
      have J24 : ∀ j, j ≠ 14 → j ≠ 15 → mI σ1 (x + 1429) j = mI s17 (x + 1429) j := fun j j1 j2 => by rw [v2]; exact w1.rI (fun y => by omega)
      have aP : ∀ o, 14 ≤ o → o ≤ 25 → mI τ3 (h + o) (M + pa) = mI x11.2 (h + o) (M + pa) := fun o o1 o2 => u1.rI (fun y => by omega)
      obtain ⟨P1, P2, P3, P4, P5, P6, P7, P8, P9, P10, P11, P12⟩ := p4
      have k5 : mI τ3 (h + 14) (M + pa) = 6 := by rw [aP 14 (by decide) (by decide)]; exact P1
      refine E2.lv e1 ?_
      refine Ev.c (leaf_fin (p1 := e) (nd := mZ s24) hN S0 (by omega) z6 (v1.mono (by omega)) (by rw [J24 6 (by decide) (by decide)]; exact i6) (by rw [J24 7 (by decide) (by decide)]; exact I17 7 (by decide) (by decide)) (by rw [J24 8 (by decide) (by decide)]; exact g17) (by rw [J24 11 (by decide) (by decide)]; exact I17 11 (by decide) (by decide)) tf3 (by rw [n4 46 (by decide) (by decide)]; exact f46) (by rw [n4 56 (by decide) (by decide)]; exact p3) (by rw [n4 57 (by decide) (by decide)]; exact n3 57 (by decide) (by decide) (by decide)) (by rw [n4 41 (by decide) (by decide), n3 41 (by decide) (by decide) (by decide)]; exact t5) (by rw [n4 19 (by decide) (by decide), n3 19 (by decide) (by decide) (by decide)]; omega)
        ⟨by rw [u2, v2, w2], fun _ => by rw [u3, v2, w3], by rw [v2, w2]; omega⟩ (fun w => by rw [v2, w2] at w; omega) (by rw [aP 16 (by decide) (by decide)]; exact P3) ⟨by rw [v3]; decide, by rw [v3, k5]; decide, by rw [v3, k5]; decide, by rw [v3, k5]; decide⟩ (ar := True) (fun _ => trivial) (fun w => by rw [v2, w2] at w; omega)) (fun τ4 _ z => ?_)
      obtain ⟨q1', o⟩ := z
      exact Ev.r (OutN.ok o)
    rw [p1]
    refine E2.re (t_isThere tr2 z3) ?_
    by_cases th : y1 < nv ∧ 1 ≤ cRow bA q ∧ cRow bA q ≤ (f y1).1.length ∧ 1 ≤ cCol bA q ∧ cCol bA q ≤ (f y1).2.length
    case neg =>
      rw [if_neg th]
      rcases yr with ⟨-, yr⟩ | ⟨yr, -⟩
      case inr => exact absurd ⟨A0.mp yr.1, yr.2⟩ th
      exact E2.rg rfl (E2.lg yr (MISS (Or.inl yr)))
    rw [if_pos th]
    rcases yr with ⟨yr, -⟩ | ⟨-, yr1, yr2, yr3⟩
    · exact absurd ⟨A0.mpr th.1, th.2⟩ yr
    refine E2.rf (by decide) (E2.re (t_isThere tr2 z3) (E2.lf yr1 ?_))
    by_cases th' : y1 < nv ∧ 1 ≤ cRow bA q2 ∧ cRow bA q2 ≤ (f y1).1.length ∧ 1 ≤ cCol bA q2 ∧ cCol bA q2 ≤ (f y1).2.length
    case neg =>
      rw [if_neg th']
      rcases yr' with ⟨-, yr'⟩ | ⟨yr', -⟩
      case inr => exact absurd ⟨A1.mp yr'.1, yr'.2⟩ th'
      exact E2.rg rfl (E2.lf (fun z => z yr') (MISS (Or.inr yr')))
    rw [if_pos th']
    rcases yr' with ⟨yr', -⟩ | ⟨-, ys1, ys2, ys3⟩
    · exact absurd ⟨A1.mpr th'.1, th'.2⟩ yr'
    have fnv := fn y1 z3 th.1
    have fx := cFix_lt bA q
    have fx' := cFix_lt bA q2
    rw [fx_or _ fx _ fx']
    refine E2.rf (by decide) (E2.rc (t_meanOne tr2 z3 th.1 ⟨th.2.1, th.2.2.1⟩ ⟨th.2.2.2.1, th.2.2.2.2⟩ (by omega) (by omega)) (fun τ3 u => ?_))
    obtain ⟨u1, u2, u3, u4, u5⟩ := u
    have n4 : ∀ j, mI τ3 h j = mI x11.2 h j := fun j => u1.rI (fun y => by unfold MnP at y; omega)
    have tf3 : TF (lu0 + hi) h τ τ3 (M + pa) := tf2.tr (TF.ex (b := M + pa) u1 (by rw [n3 19 (by decide) (by decide) (by decide)]; exact b5) (fun a j y => by
      obtain ⟨v1, v2⟩ := y
      refine Or.inr ?_
      rcases v1 with v1 | v1 | v1 | v1
      · exact ⟨20, by omega, by omega, v1, by omega⟩
      · exact ⟨21, by omega, by omega, v1, by omega⟩
      · exact ⟨24, by omega, by omega, v1, by omega⟩
      · exact ⟨25, by omega, by omega, v1, by omega⟩)) (Nat.le_refl _)
    obtain ⟨σ1, e1, v1, v1', v2, v3, v4, v5, v6⟩ := CELL s17 Ex.rf (Or.inl rfl)
    have tr3 := t.tf tf3
    have wr : w32 (cRow bA q2 - 1) = (((cRow bA q2 - 1).toNat : Nat) : Int) := by rw [w32_i (by omega) (by omega)]; omega
    have wc : w32 (cCol bA q2 - 1) = (((cCol bA q2 - 1).toNat : Nat) : Int) := by rw [w32_i (by omega) (by omega)]; omega
    have J144 : ∀ t0 : Int, t0 = ((shn 40 y1 : Nat) : Int) → E2 (if y'.1 ≠ 0 then x6_area_j128 N y1 y.1 y'.1 s17 else x6_area_j122 N (x + 1429) (q : Int) y1 y.1 y'.1 s17) (tw_readArea_j144 N h (cRow bA q2) (cCol bA q2) ((M + pa : Nat) : Int) t0 τ3) (OutN x h hi all nv sh M lu0 bA f σ τ q op pa pi True) := by
      intro t0 ht0
      subst ht0
      unfold tw_readArea_j144
      rw [wr, wc, tn]
      refine E2.lg ys1 (E2.lv e1 ?_)
      refine Ev.e (t_line tr3 z3 th.1 (ax := 0) (Or.inl rfl) (by rw [if_pos rfl]; omega)) (Ev.g (by omega) (Ev.l ?_))
      rw [if_pos rfl]
      have bR : mI (wI τ3 (h + 22) (M + pa) (gl (f y1).1 (cRow bA q2 - 1).toNat)) (h + 22) (M + pa) = gl (f y1).1 (cRow bA q2 - 1).toNat := by
        rw [mIwI2 ⟨rfl, rfl⟩]
        have e3 : tw_lineAt h ((shn 40 y1 : Nat) : Int) 0 (((cRow bA q2 - 1).toNat : Nat) : Int) τ3 = some (gl (f y1).1 (cRow bA q2 - 1).toNat) := by
          have := t_line tr3 z3 th.1 (ax := 0) (Or.inl rfl) (k := (cRow bA q2 - 1).toNat) (by rw [if_pos rfl]; omega)
          rw [if_pos rfl] at this; exact this
        have e4 := tw_lineAt_rng e3
        exact w32_i e4.1 e4.2
      have XA : Ex (fun a j => a = h + 22 ∧ j = M + pa) τ3 (wI τ3 (h + 22) (M + pa) (gl (f y1).1 (cRow bA q2 - 1).toNat)) := Ex.rf.I ⟨rfl, rfl⟩
      generalize wI τ3 (h + 22) (M + pa) (gl (f y1).1 (cRow bA q2 - 1).toNat) = τ4 at bR XA ⊢
      have g19 : 0 ≤ mI τ3 h 19 := by rw [n4, n3 19 (by decide) (by decide) (by decide)]; exact b5
      have tf4 : TF (lu0 + hi) h τ τ4 (M + pa) := tf3.tr (TF.ex (b := M + pa) XA g19 (fun a j y => Or.inr ⟨22, by omega, by omega, y.1, by omega⟩)) (Nat.le_refl _)
      have tr4 := t.tf tf4
      refine Ev.e (t_line tr4 z3 th.1 (ax := 1) (Or.inr rfl) (by rw [if_neg (by decide)]; omega)) (Ev.g (by omega) (Ev.l ?_))
      rw [if_neg (by decide)]
      have bC : mI (wI τ4 (h + 23) (M + pa) (gl (f y1).2 (cCol bA q2 - 1).toNat)) (h + 23) (M + pa) = gl (f y1).2 (cCol bA q2 - 1).toNat := by
        rw [mIwI2 ⟨rfl, rfl⟩]
        have e3 : tw_lineAt h ((shn 40 y1 : Nat) : Int) 1 (((cCol bA q2 - 1).toNat : Nat) : Int) τ4 = some (gl (f y1).2 (cCol bA q2 - 1).toNat) := by
          have := t_line tr4 z3 th.1 (ax := 1) (Or.inr rfl) (k := (cCol bA q2 - 1).toNat) (by rw [if_neg (by decide)]; omega)
          rw [if_neg (by decide)] at this; exact this
        have e4 := tw_lineAt_rng e3
        exact w32_i e4.1 e4.2
      have XB : Ex (fun a j => a = h + 23 ∧ j = M + pa) τ4 (wI τ4 (h + 23) (M + pa) (gl (f y1).2 (cCol bA q2 - 1).toNat)) := Ex.rf.I ⟨rfl, rfl⟩
      generalize wI τ4 (h + 23) (M + pa) (gl (f y1).2 (cCol bA q2 - 1).toNat) = τ5 at bC XB ⊢
      have tf5 : TF (lu0 + hi) h τ τ5 (M + pa) := tf4.tr (TF.ex (b := M + pa) XB (by rw [XA.rI (fun y => by omega)]; exact g19) (fun a j y => Or.inr ⟨23, by omega, by omega, y.1, by omega⟩)) (Nat.le_refl _)
      have n5 : ∀ j, mI τ5 h j = mI x11.2 h j := fun j => by rw [XB.rI (fun y => by omega), XA.rI (fun y => by omega)]; exact n4 j
      have m5 : ∀ o, o ≠ 22 → o ≠ 23 → mI τ5 (h + o) (M + pa) = mI τ3 (h + o) (M + pa) := fun o o1 o2 => by rw [XB.rI (fun y => by omega), XA.rI (fun y => by omega)]
      have aP : ∀ o, 14 ≤ o → o ≤ 25 → o ≠ 20 → o ≠ 21 → o ≠ 24 → o ≠ 25 → o ≠ 22 → o ≠ 23 → mI τ5 (h + o) (M + pa) = mI x11.2 (h + o) (M + pa) := fun o o1 o2 o3 o4 o5 o6 o7 o8 => by rw [m5 o o7 o8]; exact u1.rI (fun y => by unfold MnP at y; omega)
      obtain ⟨P1, P2, P3, P4, P5, P6, P7, P8, P9, P10, P11, P12⟩ := p4
      have k5 : mI τ5 (h + 14) (M + pa) = 6 := by rw [aP 14 (by decide) (by decide) (by decide) (by decide) (by decide) (by decide) (by decide) (by decide)]; exact P1
      obtain ⟨pt, hpt⟩ : ∃ pt, pt = mkA (gl (f y1).1 (cRow bA q - 1).toNat) (gl (f y1).2 (cCol bA q - 1).toNat) (gl (f y1).1 (cRow bA q2 - 1).toNat) (gl (f y1).2 (cCol bA q2 - 1).toNat) (cFix bA q + 4 * cFix bA q2) y1 := ⟨_, rfl⟩
      have po : PtOk pt := Or.inr (Or.inr (Or.inr (Or.inr (Or.inr (Or.inl ⟨_, _, _, _, _, _, hpt, fnv.1 _, fnv.2 _, fnv.1 _, fnv.2 _, by omega, z3, by have := t.2.2.2.1.2.1; omega⟩)))))
      have L : LabT τ5 h (M + pa) pt := by
        rw [hpt]
        exact ⟨by omega, k5, by rw [aP 15 (by decide) (by decide) (by decide) (by decide) (by decide) (by decide) (by decide) (by decide)]; exact P2, by rw [XB.rL (fun y => by omega), XA.rL (fun y => by omega), u1.rL (fun y => by unfold MnP at y; omega)]; exact P4, ⟨0, by rw [aP 18 (by decide) (by decide) (by decide) (by decide) (by decide) (by decide) (by decide) (by decide)]; exact P5, Nat.zero_le _, fun i hi => absurd hi (Nat.not_lt_zero _)⟩, by rw [aP 19 (by decide) (by decide) (by decide) (by decide) (by decide) (by decide) (by decide) (by decide)]; exact P6, by rw [m5 20 (by decide) (by decide)]; exact u2, by rw [m5 21 (by decide) (by decide)]; exact u3, by rw [XB.rI (fun y => by omega)]; exact bR, bC, Or.inl (by rw [m5 24 (by decide) (by decide)]; exact u4), by rw [m5 25 (by decide) (by decide)]; exact u5⟩
      have R1 : RwT τ5 h (M + pa) nv [pt] := RwT.one L ⟨0, by rw [aP 18 (by decide) (by decide) (by decide) (by decide) (by decide) (by decide) (by decide) (by decide)]; exact P5, by have := tf5.2.1; have := tf5.2.2; rw [hpt]; show ((0 + 0 : Nat) : Int) ≤ _; omega⟩ po (by rw [m5 24 (by decide) (by decide), hpt]; exact u4) (by rw [hpt]; show cFix bA q + 4 * cFix bA q2 < 16; omega) (by rw [hpt]; exact th.1) (by rw [aP 16 (by decide) (by decide) (by decide) (by decide) (by decide) (by decide) (by decide) (by decide)]; exact P3) (by rw [hpt]; rfl) (by rw [hpt]; exact (by decide : 6 ≤ 6))
      have N1 : CorN σ1 y.1 (gl (f y1).1 (cRow bA q - 1).toNat) (gl (f y1).2 (cCol bA q - 1).toNat) (cFix bA q) := CorN.cf c17 (CorN.cf cy' (CorN.cf cy yr3 yc') cfx17) v1'
      have N2 : CorN σ1 y'.1 (gl (f y1).1 (cRow bA q2 - 1).toNat) (gl (f y1).2 (cCol bA q2 - 1).toNat) (cFix bA q2) := CorN.cf c17 (CorN.cf cy' ys3 cfx17) v1'
      obtain ⟨g1, g2, g3, g4, gB⟩ := N1
      obtain ⟨i1, i2, i3, i4, iB⟩ := N2
      have LC : LabC σ1 (mZ s17) pt := by
        refine Or.inr (Or.inr (Or.inr (Or.inr (Or.inr (Or.inl ⟨v3, by rw [v4]; exact g1, by rw [v5]; exact i1, ?_, by rw [v4]; exact gB, by rw [v5]; exact iB⟩)))))
        rw [hpt, v4, v5, g2, g3, g4, i2, i3, i4, v6]
      refine Ev.c (leaf_fin (p1 := e) (nd := mZ s17) hN S0 (by omega) z6 (v1.mono (by omega)) (by rw [v2]; exact i6) (by rw [v2]; exact I17 7 (by decide) (by decide)) (by rw [v2]; exact g17) (by rw [v2]; exact I17 11 (by decide) (by decide)) tf5 (by rw [n5]; exact f46) (by rw [n5]; exact p3) (by rw [n5]; exact n3 57 (by decide) (by decide) (by decide)) (by rw [n5, n3 41 (by decide) (by decide) (by decide)]; exact t5) (by rw [n5, n3 19 (by decide) (by decide) (by decide)]; omega)
        ⟨by rw [n5, n3 58 (by decide) (by decide) (by decide), v2, I17 14 (by decide) (by decide)]; exact l1, by rw [n5, n3 59 (by decide) (by decide) (by decide), v2, v2, I17 14 (by decide) (by decide), I17 15 (by decide) (by decide)]; exact l2, by rw [v2, I17 14 (by decide) (by decide)]; exact l3⟩ (fun w => by rw [v2, I17 14 (by decide) (by decide)] at w; exact w) (by rw [aP 16 (by decide) (by decide) (by decide) (by decide) (by decide) (by decide) (by decide) (by decide)]; exact P3) ⟨by rw [v3]; decide, by rw [v3, k5]; decide, by rw [v3, k5]; decide, by rw [v3, k5]; decide⟩ (ar := True) (fun _ => trivial) (fun _ => ⟨_, IsP.one LC po (by rw [hpt]; rfl) (by rw [hpt]; exact (by decide : 6 ≤ 6)), R1⟩)) (fun τ4 _ z => ?_)
      obtain ⟨q1', o⟩ := z
      exact Ev.r (OutN.ok o)
    by_cases e0 : 0 ≤ y1
    · exact E2.rg e0 (J144 _ (by unfold shn; rw [if_neg (by omega)]; omega))
    · exact E2.rf e0 (J144 _ (by unfold shn; rw [if_pos (by omega)]; rfl))
  · have za : a1 = .inr "SheetBranches$Wrong" := z1
    subst za
    rw [thrE]
    have z5' : mI τ1 h 41 = 1 := z5
    refine E2.rf (by show ¬ mI τ1 h 41 ≤ 0; rw [z5']; decide) (E2.r (OutN.fault (k := 1) (w := w) rfl z2 z3 ((cf16.tr z4).mono (by omega)) (by decide) z5 z6 (tf6.tr z7 (Nat.le_refl _))))
end Read17
