/-! ===== PHASE 2: reading: places ===== -/
section Read16
variable {N x h hi all nv sh M lu0 b b' p q op pa pi : Nat} {bA : Nat → Int} {f : Int → List Int × List Int} {σ σ' σ'' τ τ' τ'' s r σ0 τ0 σ1 τ2 : gMem} {p0 pa0 nd k lu : Nat}
/-- marks of lines are not negative -/
def FN (nv : Nat) (f : Int → List Int × List Int) : Prop := ∀ v : Int, -1 ≤ v → v < nv → (∀ i, 0 ≤ gl (f v).1 i) ∧ ∀ i, 0 ≤ gl (f v).2 i
theorem thrI {v : Int} {s : gMem} {k : Int → gMem → Option gR} : gThrI ((.inl (some (vI v)), s) : gR) k = k v s := rfl
theorem thrE {E : String} {s : gMem} {k : Int → gMem → Option gR} : gThrI ((.inr E, s) : gR) k = some (.inr E, s) := rfl
theorem isC_k (hc : isC bA q = true) (tx : TxB bA hi all) : q + 2 ≤ ck3 bA q ∧ ck3 bA q ≤ hi := by
  have L := ck_le bA q
  obtain ⟨i1, i2, i3, i4⟩ := isC_inv hc
  obtain ⟨d1, d2, d3, d4⟩ := isC_dig hc
  have hd := d1 (ck3 bA q - 1) (by omega) (by omega)
  have := tx.lt (k := ck3 bA q - 1) (fun z => by rw [z] at hd; cases hd)
  omega
theorem cFix_lt (bA : Nat → Int) (q : Nat) : cFix bA q < 4 := by unfold cFix; split <;> split <;> omega
theorem cCol_b (hc : isC bA q = true) : 1 ≤ cCol bA q ∧ cCol bA q ≤ 10 := by
  obtain ⟨i1, -⟩ := isC_inv hc
  unfold cCol; omega
theorem rd_spot (hN : 500 ≤ N) (fn : FN nv f) (S : S2 x h hi all nv sh M lu0 bA f σ τ q q op pa pi) (kk : tkK bA q = 3) (hc : isC bA q = true) : E2 (x6_spot N (x + 1429) σ) (tw_readSpot N h τ) (Out2 x h hi all nv sh M lu0 bA f σ τ q op pa pi) := by
  have S0 := S
  obtain ⟨c, t, ⟨s1, s2, s3, s4⟩, ⟨t1, t2, t3, t4, t5⟩, ⟨l1, l2, l3⟩, b1, b2, b3, b4, b5, b6, b7⟩ := S
  have tx := c.1.2.2.2.2.2.2.2
  have h4 : hi ≤ 400 := by have := tx.2.2.1; have := tx.2.2.2; omega
  have lt := c.lt
  obtain ⟨k1, k2⟩ := isC_k hc tx
  obtain ⟨d1, d2, d3, d4⟩ := isC_dig hc
  have d5 := cCol_b hc
  have m60 := t.2.2.2.2.2
  have qh : q < hi := by omega
  have q1 : bA q ≠ -1 := fun z => by have := (tx.1 q qh).1; omega
  obtain ⟨e49, e52, e53, e54⟩ := t2.2.2.2.2.2.2.2.1 kk
  have e48 : mI τ h 48 = q := by rw [t2.2.1, if_neg q1]
  unfold x6_spot tw_readSpot
  rw [s1, e49, e48, e52, e53, e54]
  refine E2.lg c.1.1 (E2.le (c_corner c.1 (by omega)) (E2.ll ?_))
  rw [if_pos hc]
  have w1 : w32 ((q : Int) + ((ck3 bA q - q : Nat) : Int)) = ((ck3 bA q : Nat) : Int) := by rw [w32_i (by omega) (by omega)]; omega
  rw [w1]
  have X7 : Ex (Rq x 6) σ (wI σ (x + 1429) 6 ((ck3 bA q : Nat) : Int)) := Ex.rf.I ⟨rfl, rfl⟩
  have g7 : mI (wI σ (x + 1429) 6 ((ck3 bA q : Nat) : Int)) (x + 1429) 6 = ((ck3 bA q : Nat) : Int) := by rw [mI_wI, if_pos ⟨rfl, rfl⟩, w32_i (by omega) (by omega)]
  generalize wI σ (x + 1429) 6 ((ck3 bA q : Nat) : Int) = s7 at X7 g7 ⊢
  have cf7 := Rq.cf c X7 (by omega)
  have c7 := c.cf cf7
  refine E2.cc (rd_version (lu0 := lu0) (b := M + pa) hN c7 t g7 k2 t5 b5) (fun a y z => ?_)
  obtain ⟨a1, s12⟩ := a
  obtain ⟨y1, τ1⟩ := y
  rcases z with ⟨v, e, z1, z2, z3, z4, z5, z6, z7, z8, z9, z10⟩ | ⟨w, z1, z2, z3, z4, z5, z6, z7⟩
  · have za : a1 = .inl (some (vI v)) := z1
    have zy : y1 = v := z2
    subst za
    subst zy
    rw [thrI]
    have X12 : Ex (Rq x 6) σ s12 := X7.tr z7
    have cf12 : CF x σ s12 0 := Rq.cf c X12 (by omega)
    have c12 := c.cf cf12
    have X1 : Ex (fun a k => a = h ∧ k = 46) τ τ1 := z9
    have tf1 : TF (lu0 + hi) h τ τ1 (M + pa) := TF.ex X1 b5 (fun a j y => Or.inl ⟨y.1, by omega⟩)
    have tr1 := t.tf tf1
    have n1 : ∀ j, j ≠ 46 → mI τ1 h j = mI τ h j := fun j hj => X1.rI (fun y => hj y.2)
    obtain ⟨a, ea, ea1, ea2⟩ := c_sheetOfR c12 (v := y1) z3
    have a0 : a ≠ 0 ↔ y1 < nv := by
      constructor
      · intro u
        exact Classical.byContradiction (fun z => u (ea1 (by omega)))
      · intro u z
        have := (ea2 u).1
        rw [z, c12.2.2.2.2.2.2.1] at this
        cases this
    refine E2.rg (by show mI τ1 h 41 ≤ 0; rw [n1 41 (by decide), t5]; exact Int.le_refl _) (E2.le ea ?_)
    have TW := t_part (k := 5) (ms := []) hN tr1.2.2.2.2.1 tr1.2.2.2.2.2 (by rw [n1 56 (by decide)]; exact t4) (by omega) (by rw [n1 41 (by decide)]; exact t5) (by decide) (by decide) trivial
    refine E2.rc TW (fun x11 z => ?_)
    obtain ⟨p1, p2, p3, p4⟩ := z
    have n2 : ∀ j, j ≠ 56 → mI x11.2 h j = mI τ1 h j := fun j hj => p2.rI (fun y => by rcases y with y | ⟨o, o1, o2, o3, o4⟩ <;> omega)
    have tf2 : TF (lu0 + hi) h τ x11.2 (M + pa) := tf1.tr (TF.ex (b := M + pa) p2 (by rw [n1 19 (by decide)]; exact b5) (fun a j y => by
      rcases y with y | ⟨o, o1, o2, o3, o4⟩
      · exact Or.inl ⟨y.1, by omega⟩
      · exact Or.inr ⟨o, o1, o2, o3, by omega⟩)) (Nat.le_refl _)
    have tr2 := t.tf tf2
    have n3 : ∀ j, j ≠ 46 → j ≠ 56 → mI x11.2 h j = mI τ h j := fun j j1 j2 => by rw [n2 j j2, n1 j j1]
    have f46 : mI x11.2 h 46 = e := by rw [n2 46 (by decide)]; exact z10
    refine E2.lc (c_cornerOf (R := (f y1).1) (C := (f y1).2) hN c12 hc k2 (fun u => ea2 (a0.mp u))) (fun y z => ?_)
    obtain ⟨yc, yi, yr⟩ := z
    have cfy : CF x σ y.2 1 := (cf12.tr yc).mono (by omega)
    have cy := c.cf cfy
    have yI : ∀ j, j ≠ 6 → mI y.2 (x + 1429) j = mI σ (x + 1429) j := fun j hj => by rw [yi, X12.rI (fun y => hj y.2)]
    have y6 : mI y.2 (x + 1429) 6 = e := by rw [yi]; exact z8
    refine E2.ll ?_
    rw [yI 8 (by decide), s3, inc32 (by omega)]
    have X17 : Ex (Rq x 8) y.2 (wI y.2 (x + 1429) 8 ((pa + 1 : Nat) : Int)) := Ex.rf.I ⟨rfl, rfl⟩
    have g17 : mI (wI y.2 (x + 1429) 8 ((pa + 1 : Nat) : Int)) (x + 1429) 8 = ((pa + 1 : Nat) : Int) := by rw [mI_wI, if_pos ⟨rfl, rfl⟩, w32_i (by omega) (by omega)]
    generalize wI y.2 (x + 1429) 8 ((pa + 1 : Nat) : Int) = s17 at X17 g17 ⊢
    have cf17 : CF x σ s17 1 := (cfy.tr (Rq.cf cy X17 (by omega))).mono (by omega)
    have c17 := c.cf cf17
    have I17 : ∀ j, j ≠ 6 → j ≠ 8 → mI s17 (x + 1429) j = mI σ (x + 1429) j := fun j j1 j2 => by rw [X17.rI (fun y => j2 y.2), yI j j1]
    have i6 : mI s17 (x + 1429) 6 = e := by rw [X17.rI (fun y => by unfold Rq at y; omega)]; exact y6
    have lt17 := c17.lt
    -- the new cell
    have CELL : ∀ s', Ex (fun a j => a = x + 1429 ∧ (j = 14 ∨ j = 15)) s17 s' → (mI s' (x + 1429) 15 = mI s17 (x + 1429) 15 ∨ mI s' (x + 1429) 15 < mI s17 (x + 1429) 5) → ∃ σ1, (x17_init (mZ s') y.1 y1 (wN s' 15 2)) = some σ1 ∧ CF x σ σ1 2 ∧ (∀ j, mI σ1 (x + 1429) j = mI s' (x + 1429) j) ∧ mT σ1 (mZ s') = 15 ∧ mR σ1 (mZ s') 0 = y.1 ∧ mI σ1 (mZ s') 1 = y1 ∧ (∀ a, a < mZ s' → mT σ1 a = mT s' a ∧ ∀ j, mI σ1 a j = mI s' a j) := by
      intro s' X x15
      have cf' : CF x σ s' 1 := (cf17.tr (CF.ex X c17.2.2.2.2.1 lt17 (fun a j z => ⟨z.1, by omega⟩) x15)).mono (by omega)
      have lt' : x + 1430 < mZ s' := (c.cf cf').lt
      have zz : mZ σ ≤ mZ s' := cf'.1.1
      have tt : mT (wN s' 15 2) (mZ s') = 15 := by rw [mT_wN, if_pos rfl]
      refine ⟨wI (wR (wN s' 15 2) (mZ s') 0 y.1) (mZ s') 1 y1, ?_, ?_, fun j => ?_, ?_, ?_, ?_, fun a ha => ⟨?_, fun j => ?_⟩⟩
      · unfold x17_init
        rw [if_pos tt]; rfl
      · exact ((cf'.wN' (t := 15) (n := 2) (Or.inr trivial) (fun z => by cases z) (by decide)).wR' zz (fun z => by rw [tt] at z; cases z)).wI' zz
      · rw [mIwI1 (by omega), mI_wR, mI_wN, if_neg (by omega)]
      · rw [mT_wI, mT_wR]; exact tt
      · rw [mR_wI, mR_wR, if_pos ⟨rfl, rfl⟩]
      · rw [mIwI2 ⟨rfl, rfl⟩, w32_i (by omega) (by omega)]
      · rw [mT_wI, mT_wR, mT_wN, if_neg (by omega)]
      · rw [mIwI1 (by omega), mI_wR, mI_wN, if_neg (by omega)]
    rw [p1]
    refine E2.re (t_isThere tr2 z3) ?_
    by_cases th : y1 < nv ∧ 1 ≤ cRow bA q ∧ cRow bA q ≤ (f y1).1.length ∧ 1 ≤ cCol bA q ∧ cCol bA q ≤ (f y1).2.length
    · rw [if_pos th]
      rcases yr with ⟨yr, -⟩ | ⟨-, yr1, yr2, yr3⟩
      · exact absurd ⟨a0.mpr th.1, th.2⟩ yr
      have fnv := fn y1 z3 th.1
      refine E2.rf (by decide) (E2.rc (t_meanOne tr2 z3 th.1 ⟨th.2.1, th.2.2.1⟩ ⟨th.2.2.2.1, th.2.2.2.2⟩ (by omega) (by have := cFix_lt bA q; omega)) (fun τ3 u => ?_))
      obtain ⟨u1, u2, u3, u4, u5⟩ := u
      have n4 : ∀ j, mI τ3 h j = mI x11.2 h j := fun j => u1.rI (fun y => by unfold MnP at y; omega)
      have tf3 : TF (lu0 + hi) h τ τ3 (M + pa) := tf2.tr (TF.ex (b := M + pa) u1 (by rw [n3 19 (by decide) (by decide)]; exact b5) (fun a j y => by
        obtain ⟨v1, v2⟩ := y
        refine Or.inr ?_
        rcases v1 with v1 | v1 | v1 | v1
        · exact ⟨20, by omega, by omega, v1, by omega⟩
        · exact ⟨21, by omega, by omega, v1, by omega⟩
        · exact ⟨24, by omega, by omega, v1, by omega⟩
        · exact ⟨25, by omega, by omega, v1, by omega⟩)) (Nat.le_refl _)
      obtain ⟨σ1, e1, v1, v2, v3, v4, v5, v6⟩ := CELL s17 Ex.rf (Or.inl rfl)
      have ly : y.1 < mZ y.2 := gOk_lt cy.2.2.2.2.1 (by rw [yr3.1]; decide)
      have ly' : y.1 < mZ s17 := by rw [X17.rZ]; exact ly
      have nr : y.1 ≠ x + 1429 := by
        intro z
        have := yr3.1
        rw [z, cy.1.1] at this
        cases this
      have yT : mT σ1 y.1 = 14 := by rw [(v6 _ ly').1, X17.rT]; exact yr3.1
      have yJ : ∀ j, mI σ1 y.1 j = mI y.2 y.1 j := fun j => by rw [(v6 _ ly').2, X17.rI (fun z => nr z.1)]
      refine E2.lg yr1 (E2.ll (E2.le e1 (E2.lv rfl ?_)))
      obtain ⟨g1, g2, g3, g4, g5, g6⟩ := yr3
      have aP : ∀ o, 14 ≤ o → o ≤ 25 → o ≠ 20 → o ≠ 21 → o ≠ 24 → o ≠ 25 → mI τ3 (h + o) (M + pa) = mI x11.2 (h + o) (M + pa) := fun o o1 o2 o3 o4 o5 o6 => u1.rI (fun y => by unfold MnP at y; omega)
      obtain ⟨P1, P2, P3, P4, P5, P6, P7, P8, P9, P10, P11, P12⟩ := p4
      have k5 : mI τ3 (h + 14) (M + pa) = 5 := by rw [aP 14 (by decide) (by decide) (by decide) (by decide) (by decide) (by decide)]; exact P1
      have fx := cFix_lt bA q
      have po : PtOk (mkS (gl (f y1).1 (cRow bA q - 1).toNat) (gl (f y1).2 (cCol bA q - 1).toNat) (cFix bA q) y1) := Or.inr (Or.inr (Or.inr (Or.inr (Or.inl ⟨_, _, _, _, rfl, fnv.1 _, fnv.2 _, fx, z3, by have := t.2.2.2.1.2.1; omega⟩))))
      have L : LabT τ3 h (M + pa) (mkS (gl (f y1).1 (cRow bA q - 1).toNat) (gl (f y1).2 (cCol bA q - 1).toNat) (cFix bA q) y1) :=
        ⟨by omega, k5, by rw [aP 15 (by decide) (by decide) (by decide) (by decide) (by decide) (by decide)]; exact P2, by rw [u1.rL (fun y => by unfold MnP at y; omega)]; exact P4, ⟨0, by rw [aP 18 (by decide) (by decide) (by decide) (by decide) (by decide) (by decide)]; exact P5, Nat.zero_le _, fun i hi => absurd hi (Nat.not_lt_zero _)⟩, by rw [aP 19 (by decide) (by decide) (by decide) (by decide) (by decide) (by decide)]; exact P6, u2, u3, by rw [aP 22 (by decide) (by decide) (by decide) (by decide) (by decide) (by decide)]; exact P9, by rw [aP 23 (by decide) (by decide) (by decide) (by decide) (by decide) (by decide)]; exact P10, Or.inl u4, u5⟩
      have R1 : RwT τ3 h (M + pa) nv [mkS (gl (f y1).1 (cRow bA q - 1).toNat) (gl (f y1).2 (cCol bA q - 1).toNat) (cFix bA q) y1] := RwT.one L ⟨0, by rw [aP 18 (by decide) (by decide) (by decide) (by decide) (by decide) (by decide)]; exact P5, by have := tf3.2.1; have := tf3.2.2; show ((0 + 0 : Nat) : Int) ≤ _; omega⟩ po u4 (by show cFix bA q < 16; omega) th.1 (by rw [aP 16 (by decide) (by decide) (by decide) (by decide) (by decide) (by decide)]; exact P3) rfl (show 5 ≤ 6 by decide)
      have LC : LabC σ1 (mZ s17) (mkS (gl (f y1).1 (cRow bA q - 1).toNat) (gl (f y1).2 (cCol bA q - 1).toNat) (cFix bA q) y1) := by
        refine Or.inr (Or.inr (Or.inr (Or.inr (Or.inl ⟨v3, by rw [v4]; exact yT, ?_, by rw [v4, yJ]; exact g5, by rw [v4, yJ]; exact g6⟩))))
        have fe : cfx σ1 y.1 = cFix bA q := by unfold cfx; rw [yJ, yJ]; exact g4
        rw [v4, v5, yJ, yJ, g2, g3, fe]
      refine Ev.c (leaf_fin (p1 := e) (nd := mZ s17) hN S0 (by omega) z6 (v1.mono (by omega)) (by rw [v2]; exact i6) (by rw [v2]; exact I17 7 (by decide) (by decide)) (by rw [v2]; exact g17) (by rw [v2]; exact I17 11 (by decide) (by decide)) tf3 (by rw [n4]; exact f46) (by rw [n4]; exact p3) (by rw [n4]; exact n3 57 (by decide) (by decide)) (by rw [n4, n3 41 (by decide) (by decide)]; exact t5) (by rw [n4, n3 19 (by decide) (by decide)]; omega)
        ⟨by rw [n4, n3 58 (by decide) (by decide), v2, I17 14 (by decide) (by decide)]; exact l1, by rw [n4, n3 59 (by decide) (by decide), v2, v2, I17 14 (by decide) (by decide), I17 15 (by decide) (by decide)]; exact l2, by rw [v2, I17 14 (by decide) (by decide)]; exact l3⟩ (fun w => by rw [v2, I17 14 (by decide) (by decide)] at w; exact w) (by rw [aP 16 (by decide) (by decide) (by decide) (by decide) (by decide) (by decide)]; exact P3) ⟨by rw [v3]; decide, by rw [v3, k5]; decide, by rw [v3, k5]; decide, by rw [v3, k5]; decide⟩ (ar := False) (fun w => by rw [k5] at w; cases w) (fun _ => ⟨_, IsP.one LC po rfl (show 5 ≤ 6 by decide), R1⟩)) (fun τ4 _ z => ?_)
      obtain ⟨q1', o⟩ := z
      exact Ev.r (OutN.ok o)
    · rw [if_neg th]
      rcases yr with ⟨-, yr⟩ | ⟨yr, -⟩
      case inr => exact absurd ⟨a0.mp yr.1, yr.2⟩ th
      refine E2.rg rfl (E2.rc (t_later (k := 3) (w := (q : Int)) (lp := mI σ (x + 1429) 15) (by rw [n3 58 (by decide) (by decide), n3 59 (by decide) (by decide), l1]; exact l2) (by decide) (by omega)) (fun τ3 u => ?_))
      obtain ⟨u1, u2, u3⟩ := u
      rw [n3 58 (by decide) (by decide), l1] at u2 u3
      refine E2.lf (fun z => z yr) (E2.lc (c_late (k := 3) (w := (q : Int)) c17.1.1 (by decide) (by omega)) (fun s24 w => ?_))
      obtain ⟨w1, w2, w3⟩ := w
      rw [I17 14 (by decide) (by decide), I17 15 (by decide) (by decide)] at w2 w3
      obtain ⟨σ1, e1, v1, v2, v3, v4, v5, v6⟩ := CELL s24 w1 (by rw [w3, I17 15 (by decide) (by decide), c17.1.2.1]; exact lt15 (by omega))
      have nz : 0 < (ltF (mI σ (x + 1429) 14) (mI σ (x + 1429) 15) 3 (q : Int)).1 := by
        unfold ltF
        split
        · exact (by decide : (0 : Int) < 3)
        · rename_i hh
          have : mI σ (x + 1429) 14 ≠ 0 := fun z => hh (Or.inl z)
          show 0 < mI σ (x + 1429) 14
          omega
      have n4 : ∀ j, j ≠ 58 → j ≠ 59 → mI τ3 h j = mI x11.2 h j := fun j j1 j2 => u1.rI (fun y => by omega)
      have tf3 : TF (lu0 + hi) h τ τ3 (M + pa) := tf2.tr (TF.ex (b := M + pa) u1 (by rw [n3 19 (by decide) (by decide)]; exact b5) (fun a j y => Or.inl ⟨y.1, by omega⟩)) (Nat.le_refl _)
      have J24 : ∀ j, j ≠ 14 → j ≠ 15 → mI σ1 (x + 1429) j = mI s17 (x + 1429) j := fun j j1 j2 => by rw [v2]; exact w1.rI (fun y => by omega)
      have aP : ∀ o, 14 ≤ o → o ≤ 25 → mI τ3 (h + o) (M + pa) = mI x11.2 (h + o) (M + pa) := fun o o1 o2 => u1.rI (fun y => by omega)
      obtain ⟨P1, P2, P3, P4, P5, P6, P7, P8, P9, P10, P11, P12⟩ := p4
      have k5 : mI τ3 (h + 14) (M + pa) = 5 := by rw [aP 14 (by decide) (by decide)]; exact P1
      refine E2.ll (E2.le e1 (E2.lv rfl ?_))
      refine Ev.c (leaf_fin (p1 := e) (nd := mZ s24) hN S0 (by omega) z6 (v1.mono (by omega)) (by rw [J24 6 (by decide) (by decide)]; exact i6) (by rw [J24 7 (by decide) (by decide)]; exact I17 7 (by decide) (by decide)) (by rw [J24 8 (by decide) (by decide)]; exact g17) (by rw [J24 11 (by decide) (by decide)]; exact I17 11 (by decide) (by decide)) tf3 (by rw [n4 46 (by decide) (by decide)]; exact f46) (by rw [n4 56 (by decide) (by decide)]; exact p3) (by rw [n4 57 (by decide) (by decide)]; exact n3 57 (by decide) (by decide)) (by rw [n4 41 (by decide) (by decide), n3 41 (by decide) (by decide)]; exact t5) (by rw [n4 19 (by decide) (by decide), n3 19 (by decide) (by decide)]; omega)
        ⟨by rw [u2, v2, w2], fun _ => by rw [u3, v2, w3], by rw [v2, w2]; omega⟩ (fun w => by rw [v2, w2] at w; omega) (by rw [aP 16 (by decide) (by decide)]; exact P3) ⟨by rw [v3]; decide, by rw [v3, k5]; decide, by rw [v3, k5]; decide, by rw [v3, k5]; decide⟩ (ar := False) (fun w => by rw [k5] at w; cases w) (fun w => by rw [v2, w2] at w; omega)) (fun τ4 _ z => ?_)
      obtain ⟨q1', o⟩ := z
      exact Ev.r (OutN.ok o)
  · have za : a1 = .inr "SheetBranches$Wrong" := z1
    subst za
    rw [thrE]
    have z5' : mI τ1 h 41 = 1 := z5
    refine E2.rf (by show ¬ mI τ1 h 41 ≤ 0; rw [z5']; decide) (E2.r (OutN.fault (k := 1) (w := w) rfl z2 z3 ((cf7.tr z4).mono (by omega)) (by decide) z5 z6 z7))
end Read16
