/-! ===== PHASE 2: two sheets come together: what is asked ===== -/
section State70
variable {N x h u nv pa un fs i t k n wv B T S1 S2 : Nat} {σ τ s r : gMem} {own rt : Nat → Nat} {S : Sh} {Gs : Nat → Sh} {g : Nat → Nat → Vl} {v w p rm cm m ax : Int} {ct ct' : Ct}
/-- what both answer alike: yes or no -/
def YN (a b : Int) : Prop := a = b ∧ (a = 0 ∨ a = 1)
/-- the weaver's sheets -/
def WvC (s : gMem) (wv : Nat) (rt : Nat → Nat) (B T : Nat) : Prop := mT s wv = 23 ∧ mR s wv 0 = rt B ∧ mR s wv 1 = rt 0 ∧ mR s wv 2 = rt T
theorem Is01.yn {a b : Int} {P : Prop} (h : Is01 a P) (h' : Is01 b P) : YN a b := by
  rcases h with ⟨h1, h2⟩ | ⟨h1, h2⟩ <;> rcases h' with ⟨h3, h4⟩ | ⟨h3, h4⟩
  · exact ⟨by omega, Or.inr h1⟩
  · exact absurd h2 h4
  · exact absurd h4 h2
  · exact ⟨by omega, Or.inl h1⟩
theorem both_alike {a b : Nat} {c c' : Int} (hN : 2000 ≤ N) (R : Rl x h t nv pa un fs Gs g own rt s r) (k : CtC s a ct) (k' : CtC s b ct') (q : CtB r h nv c ct) (q' : CtB r h nv c' ct') : E2 (x1_isAlike N a b s) (tw_alike N h c c' r) YN := by
  obtain ⟨v, e, z⟩ := c_alikeC (N := N) (by omega) R.1.1.kc R.1.1.z0 k k'
  obtain ⟨v', e', z'⟩ := t_alike (N := N) (by omega) R.2.1.2.2.2.1.2.1 q q'
  exact ⟨v, v', e, e', z.yn z'⟩
/-- a content's number at two marks, -1 if there is no such cell -/
def coT (r : gMem) (h u : Nat) (S : Sh) (rm cm : Int) : Int := if pl S.1.1 rm < 0 ∨ pl S.1.2 cm < 0 then -1 else mI r (h + 5) (320 * u + (10 * (pl S.1.1 rm).toNat + (pl S.1.2 cm).toNat))
theorem t_contentOf (hN : 40 ≤ N) (kS : ShT r h nv u S) (hu : u < 122) (n1 : S.1.1.length ≤ 32) (n2 : S.1.2.length ≤ 10) (rm cm : Int) : tw_contentOf N h u rm cm r = some (coT r h u S rm cm) := by
  have b1 := pl_ge S.1.1 rm
  have b2 := pl_ge S.1.2 cm
  have p1 := t_axp (ax := 0) kS (Or.inl rfl) hu hN n1 n2 rm
  have p2 := t_axp (ax := 1) kS (Or.inr rfl) hu hN n1 n2 cm
  rw [show axL S 0 = S.1.1 from if_neg (fun z => z rfl)] at p1
  rw [show axL S 1 = S.1.2 from if_pos (by decide)] at p2
  unfold tw_contentOf coT
  rw [p1, Option.bind_some, p2, Option.bind_some]
  by_cases c1 : pl S.1.1 rm < 0
  · rw [if_pos c1, if_pos (Or.inl c1)]
  · rw [if_neg c1]
    by_cases c2 : pl S.1.2 cm < 0
    · rw [if_neg (by omega), if_pos (Or.inr c2)]
    · rw [if_pos (by omega), if_pos (by omega), if_neg (by omega)]
      exact congrArg some (congrArg (mI r (h + 5)) (by omega))
theorem coT_b (kS : ShT r h nv u S) (n10 : S.1.2.length ≤ 10) (h1 : 0 ≤ pl S.1.1 rm) (h2 : 0 ≤ pl S.1.2 cm) : CtB r h nv (coT r h u S rm cm) (atS S rm cm) ∧ 0 ≤ coT r h u S rm cm := by
  have b1 := pl_ge S.1.1 rm
  have b2 := pl_ge S.1.2 cm
  have K := kS.2.2.2.2 (10 * (pl S.1.1 rm).toNat + (pl S.1.2 cm).toNat) (by unfold inB; omega)
  unfold coT atS
  rw [if_neg (by omega), if_neg (by omega)]
  exact ⟨K, K.rng.1⟩
/-- the marks of a cell, by the axis that is gone along -/
def axR (ax m j : Int) : Int := if ax ≠ 0 then j else m
def axC (ax m j : Int) : Int := if ax ≠ 0 then m else j
theorem pl_ax (ha : ax = 0 ∨ ax = 1) (m j : Int) : (pl S.1.1 (axR ax m j) < 0 ∨ pl S.1.2 (axC ax m j) < 0) ↔ (pl (axL S ax) m < 0 ∨ pl (axL S (1 - ax)) j < 0) := by
  unfold axR axC axL
  rcases ha with e | e
  · subst e
    rw [if_neg (by decide), if_neg (by decide), if_neg (by decide), if_pos (by decide)]
  · subst e
    rw [if_pos (by decide), if_pos (by decide), if_pos (by decide), if_neg (by decide)]
    exact Or.comm
theorem c_ofX {a : Nat} (hN : 40 ≤ N) (c : ShC s a S) (m j : Int) : x25_of N a ax m j s = some (adS s a S (axR ax m j) (axC ax m j)) := by
  unfold x25_of axR axC
  by_cases e : ax ≠ 0
  · rw [if_pos e, if_pos e, if_pos e, if_pos c.1.1, c_of hN c, Option.bind_some]
  · rw [if_neg e, if_neg e, if_neg e, if_pos c.1.1, c_of hN c, Option.bind_some]
theorem c_hasX {a : Nat} (hN : 40 ≤ N) (c : ShC s a S) (m : Int) : x25_has N a ax m s = some (if pl (axL S ax) m = -1 then 0 else 1) := by
  unfold x25_has
  rw [if_pos c.1.1, c_mk9 c, Option.bind_some, c_placeOf hN (axA_ls c), Option.bind_some]
  by_cases e : pl (axL S ax) m = -1
  · rw [if_pos e, if_pos e]
  · rw [if_neg e, if_neg e]
theorem b1x (ha : ax = 0 ∨ ax = 1) : w32 (1 - ax) = 1 - ax ∧ (1 - ax = 0 ∨ 1 - ax = 1) := ⟨w32_i (by omega) (by omega), by omega⟩
/-- whether a line is changed against the base -/
theorem both_chg (hN : 2000 ≤ N) (R : Rl x h t nv pa un fs Gs g own rt s r) (ha : ax = 0 ∨ ax = 1) (hw : WvC s wv rt B T) (hB : rtV nv pa un B) (hi : rtV nv pa un i) (m1 : 0 ≤ pl (axL (Gs i) ax) m) (m2 : 0 ≤ pl (axL (Gs B) ax) m) : E2 (x25_isChanged N wv (rt i) ax m s) (tw_isChanged N h (tsN fs i) ax m (tsN fs B) r) YN := by
  obtain ⟨-, n1, n4, -, -, p4, u4⟩ := R.c5
  obtain ⟨bx1, bx2⟩ := b1x ha
  have ci := R.shC hi
  have cB := R.shC hB
  have ti := R.shT hi
  have tB := R.shT hB
  have li := tsN_lt (fs := fs) hi n4 p4 u4
  have lB := tsN_lt (fs := fs) hB n4 p4 u4
  have lei := R.2.1.len hi
  have leB := R.2.1.len hB
  have L := axA_ls (ax := 1 - ax) ci
  have alm := axL_le (ax := 1 - ax) lei.1 lei.2
  have n32 := L.2.2.1
  have GO : ∀ (c k fu fv : Nat), k + c = (axL (Gs i) (1 - ax)).length → c < fu → c < fv → E2 (x25_isChanged_l12 N s wv (rt i) ax m (axA s (rt i) (1 - ax)) (some 0) fu (k : Int)) (tw_isChanged_l3 N h r (tsN fs i) ax m (tsN fs B) (some 0) fv (k : Int)) YN := by
    intro c
    induction c with
    | zero =>
      intro k fu fv h1 h2 h3
      obtain ⟨fu, rfl⟩ : ∃ j, fu = j + 1 := ⟨fu - 1, by omega⟩
      obtain ⟨fv, rfl⟩ : ∃ j, fv = j + 1 := ⟨fv - 1, by omega⟩
      unfold x25_isChanged_l12 tw_isChanged_l3
      rw [L.2.1, w32_i (by omega) (by omega), bx1]
      exact E2.lg L.1 (E2.lg (by omega) (E2.re (ti.axn (by omega)) (E2.rg (by omega) (E2.r ⟨rfl, Or.inl rfl⟩))))
    | succ c ih =>
      intro k fu fv h1 h2 h3
      obtain ⟨fu, rfl⟩ : ∃ j, fu = j + 1 := ⟨fu - 1, by omega⟩
      obtain ⟨fv, rfl⟩ : ∃ j, fv = j + 1 := ⟨fv - 1, by omega⟩
      have hk : k < (axL (Gs i) (1 - ax)).length := by omega
      obtain ⟨jm, hjm⟩ : ∃ jm, jm = gl (axL (Gs i) (1 - ax)) k := ⟨_, rfl⟩
      have j0 : 0 ≤ pl (axL (Gs i) (1 - ax)) jm := by
        rcases pl_spec (axL (Gs i) (1 - ax)) jm with ⟨-, z⟩ | ⟨q, q1, q2, -⟩
        · exact absurd (by rw [hjm]; exact gl_mem hk) z
        · omega
      have bB := pl_ge (axL (Gs B) (1 - ax)) jm
      have pi := (pl_ax (S := Gs i) ha m jm)
      have pB := (pl_ax (S := Gs B) ha m jm)
      have nx := ih (k + 1) fu fv (by omega) (by omega) (by omega)
      have tci : ∀ j, tw_contentOf N h (tsN fs i) (axR ax m j) (axC ax m j) r = some (coT r h (tsN fs i) (Gs i) (axR ax m j) (axC ax m j)) := fun j => t_contentOf (by omega) ti (by omega) lei.1 lei.2 _ _
      have tcB : ∀ j, tw_contentOf N h (tsN fs B) (axR ax m j) (axC ax m j) r = some (coT r h (tsN fs B) (Gs B) (axR ax m j) (axC ax m j)) := fun j => t_contentOf (by omega) tB (by omega) leB.1 leB.2 _ _
      obtain ⟨i1, i2⟩ := coT_b ti lei.2 (rm := axR ax m jm) (cm := axC ax m jm) (by omega) (by omega)
      have ciA := adS_ct ci (axR ax m jm) (axC ax m jm)
      have Z0 : adS s (rt i) (Gs i) (axR ax m jm) (axC ax m jm) = 0 ↔ coT r h (tsN fs i) (Gs i) (axR ax m jm) (axC ax m jm) = 0 := (ciA.nul R.1.1.z0).trans i1.nul.symm
      -- the class's half behind the first content
      unfold x25_isChanged_l12 tw_isChanged_l3
      rw [L.2.1, w32_i (x := ((axL (Gs i) (1 - ax)).length : Int)) (by omega) (by omega), bx1, tn, L.2.2.2 k hk, ← hjm]
      refine E2.lg L.1 (E2.lf (by omega) (E2.lg (by omega) (E2.le (c_ofX (by omega) ci m jm) (E2.lg hw.1 ?_))))
      rw [hw.2.1]
      refine E2.lg (by omega) (E2.le (c_hasX (by omega) cB jm) (E2.re (ti.axn (by omega)) (E2.rf (by omega) (E2.re (t_lineAt (by omega) (by omega)) ?_))))
      rw [ti.axl hk, ← hjm]
      have TW : E2 (if (if pl (axL (Gs B) (1 - ax)) jm = -1 then (0 : Int) else 1) = 0 then if adS s (rt i) (Gs i) (axR ax m jm) (axC ax m jm) = 0 then x25_isChanged_l12_j87 N s wv (rt i) ax m (axA s (rt i) (1 - ax)) (k : Int) (x25_isChanged_l12 N s wv (rt i) ax m (axA s (rt i) (1 - ax)) (some 0) fu) (some 0) else some 1 else if 0 ≤ (k : Int) ∧ (k : Int) < (((axL (Gs i) (1 - ax)).length : Nat) : Int) then (x25_of N (rt B) ax m jm s).bind (fun x11 => (x1_isAlike N (adS s (rt i) (Gs i) (axR ax m jm) (axC ax m jm)) x11 s).bind (fun x12 => if x12 ≠ 0 then x25_isChanged_l12_j87 N s wv (rt i) ax m (axA s (rt i) (1 - ax)) (k : Int) (x25_isChanged_l12 N s wv (rt i) ax m (axA s (rt i) (1 - ax)) (some 0) fu) (some 0) else some 1)) else none) (tw_isChanged_l3_j78 N h r (tsN fs i) ax m (tsN fs B) (k : Int) (coT r h (tsN fs i) (Gs i) (axR ax m jm) (axC ax m jm)) (coT r h (tsN fs B) (Gs B) (axR ax m jm) (axC ax m jm)) (tw_isChanged_l3 N h r (tsN fs i) ax m (tsN fs B) (some 0) fv) (some 0)) YN := by
        unfold x25_isChanged_l12_j87 tw_isChanged_l3_j78 tw_isChanged_l3_j106
        rw [inc32 (by omega)]
        by_cases cB0 : pl (axL (Gs B) (1 - ax)) jm = -1
        · rw [if_pos cB0]
          have co : coT r h (tsN fs B) (Gs B) (axR ax m jm) (axC ax m jm) = -1 := by
            unfold coT; rw [if_pos (pB.mpr (by omega))]
          rw [co]
          refine E2.lg rfl (E2.rf (by decide) ?_)
          by_cases z : adS s (rt i) (Gs i) (axR ax m jm) (axC ax m jm) = 0
          · exact E2.lg z (E2.rg (Z0.mp z) nx)
          · exact E2.lf z (E2.rf (fun y => z (Z0.mpr y)) (E2.r ⟨rfl, Or.inr rfl⟩))
        · rw [if_neg cB0]
          have y1 : 0 ≤ pl (Gs B).1.1 (axR ax m jm) ∧ 0 ≤ pl (Gs B).1.2 (axC ax m jm) := by
            have : ¬ (pl (Gs B).1.1 (axR ax m jm) < 0 ∨ pl (Gs B).1.2 (axC ax m jm) < 0) := fun z => by have := pB.mp z; omega
            omega
          obtain ⟨b1, b2⟩ := coT_b tB leB.2 (rm := axR ax m jm) (cm := axC ax m jm) y1.1 y1.2
          refine E2.lf (by decide) (E2.lg (by omega) (E2.le (c_ofX (by omega) cB m jm) (E2.rg b2 (E2.cc (both_alike hN R ciA (adS_ct cB _ _) i1 b1) (fun a b z => ?_)))))
          obtain ⟨z1, z2⟩ := z
          subst z1
          by_cases e : a ≠ 0
          · exact E2.lg e (E2.rg e nx)
          · exact E2.lf e (E2.rf e (E2.r ⟨rfl, Or.inr rfl⟩))
      unfold tw_isChanged_l3_j51
      by_cases e : ax ≠ 0
      · have er : ∀ j, axR ax m j = j := fun j => if_pos e
        have ec : ∀ j, axC ax m j = m := fun j => if_pos e
        have t1 := tci jm
        have t2 := tcB jm
        rw [er, ec] at t1 t2
        rw [er, ec] at TW ⊢
        exact E2.rg e (E2.re t1 (E2.rg e (E2.re t2 TW)))
      · have er : ∀ j, axR ax m j = m := fun j => if_neg e
        have ec : ∀ j, axC ax m j = j := fun j => if_neg e
        have t1 := tci jm
        have t2 := tcB jm
        rw [er, ec] at t1 t2
        rw [er, ec] at TW ⊢
        exact E2.rf e (E2.re t1 (E2.rf e (E2.re t2 TW)))
  unfold x25_isChanged tw_isChanged
  rw [bx1]
  refine E2.lg ci.1.1 (E2.le (c_mk9 ci) ?_)
  exact GO (axL (Gs i) (1 - ax)).length 0 N N (by omega) (by omega) (by omega)
/-- whether a line stays -/
theorem both_isIn (hN : 2000 ≤ N) (R : Rl x h t nv pa un fs Gs g own rt s r) (ha : ax = 0 ∨ ax = 1) (hw : WvC s wv rt B T) (hB : rtV nv pa un B) (hT : rtV nv pa un T) (h12 : (S1 = 0 ∧ S2 = T) ∨ (S1 = T ∧ S2 = 0)) (m1 : 0 ≤ pl (axL (Gs S1) ax) m) : E2 (x25_isIn N wv ax m s) (tw_isIn N h (tsN fs S1) (tsN fs S2) ax m (tsN fs B) r) YN := by
  obtain ⟨-, n1, n4, -, -, p4, u4⟩ := R.c5
  have h0 : rtV nv pa un 0 := Or.inl rfl
  have hS2 : rtV nv pa un S2 := by rcases h12 with ⟨-, e⟩ | ⟨-, e⟩ <;> rw [e] <;> assumption
  have hS1 : rtV nv pa un S1 := by rcases h12 with ⟨e, -⟩ | ⟨e, -⟩ <;> rw [e] <;> assumption
  have l2 := tsN_lt (fs := fs) hS2 n4 p4 u4
  have lB := tsN_lt (fs := fs) hB n4 p4 u4
  have le2 := R.2.1.len hS2
  have leB := R.2.1.len hB
  have b2 := pl_ge (axL (Gs S2) ax) m
  have bB := pl_ge (axL (Gs B) ax) m
  have c0 := R.shC h0
  have cT := R.shC hT
  have cB := R.shC hB
  unfold x25_isIn tw_isIn
  rw [hw.2.2.1, hw.2.2.2]
  refine E2.lg hw.1 (E2.le (c_hasX (by omega) c0 m) (E2.le (c_hasX (by omega) cT m) (E2.re (t_axp (R.shT hS2) ha (by omega) (by omega) le2.1 le2.2 m) ?_)))
  -- both have it
  by_cases c2 : 0 ≤ pl (axL (Gs S2) ax) m
  · have e0 : pl (axL (Gs 0) ax) m ≠ -1 := by rcases h12 with ⟨e, e'⟩ | ⟨e, e'⟩ <;> subst e e' <;> omega
    have eT : pl (axL (Gs T) ax) m ≠ -1 := by rcases h12 with ⟨e, e'⟩ | ⟨e, e'⟩ <;> subst e e' <;> omega
    rw [if_neg e0, if_neg eT]
    exact E2.lf (by decide) (E2.lf (by decide) (E2.rg c2 (E2.r ⟨rfl, Or.inr rfl⟩)))
  · refine E2.rf c2 (E2.re (t_axp (R.shT hB) ha (by omega) (by omega) leB.1 leB.2 m) ?_)
    -- one alone has it
    have J71 : E2 (x25_isIn_j71 N s ax m (rt S1) wv) ((tw_isChanged N h (tsN fs S1) ax m (tsN fs B) r).bind (fun x5 => if x5 = 0 then some 0 else some 1)) YN ∨ pl (axL (Gs B) ax) m < 0 := by
      by_cases cb : pl (axL (Gs B) ax) m < 0
      · exact Or.inr cb
      · left
        unfold x25_isIn_j71
        refine E2.lg hw.1 (E2.cc (both_chg hN R ha hw hB hS1 m1 (by omega)) (fun a b z => ?_))
        obtain ⟨z1, z2⟩ := z
        subst z1
        by_cases e : a = 0
        · exact E2.lg e (E2.rg e (E2.r ⟨rfl, Or.inl rfl⟩))
        · exact E2.lf e (E2.rf e (E2.r ⟨rfl, Or.inr rfl⟩))
    have J43 : ∀ w : Int, (S1 = 0 ∧ w = 1) ∨ (S1 = T ∧ w = 0) → E2 (x25_isIn_j43 N s wv ax m w) (if pl (axL (Gs B) ax) m < 0 then some 1 else (tw_isChanged N h (tsN fs S1) ax m (tsN fs B) r).bind (fun x5 => if x5 = 0 then some 0 else some 1)) YN := by
      intro w hwS
      unfold x25_isIn_j43
      rw [hw.2.1]
      refine E2.lg hw.1 (E2.le (c_hasX (by omega) cB m) ?_)
      by_cases cb : pl (axL (Gs B) ax) m = -1
      · rw [if_pos cb]
        exact E2.lg rfl (E2.rg (by omega) (E2.r ⟨rfl, Or.inr rfl⟩))
      · rw [if_neg cb]
        refine E2.lf (by decide) (E2.rf (by omega) ?_)
        have G := J71.resolve_right (by omega)
        rcases hwS with ⟨e, e'⟩ | ⟨e, e'⟩
        · subst e e'
          rw [hw.2.2.1]
          exact E2.lf (by decide) G
        · subst e'
          rw [hw.2.2.2, ← e]
          exact E2.lg rfl G
    rcases h12 with ⟨e, e'⟩ | ⟨e, e'⟩
    · have x0 : pl (axL (Gs 0) ax) m ≠ -1 := by rw [e] at m1; omega
      have xT : pl (axL (Gs T) ax) m = -1 := by rw [e'] at c2 b2; omega
      rw [if_neg x0, if_pos xT]
      refine E2.lf (by decide) (E2.lg rfl ?_)
      unfold x25_isIn_j32
      exact E2.lg (by decide) (J43 1 (Or.inl ⟨e, rfl⟩))
    · have x0 : pl (axL (Gs 0) ax) m = -1 := by rw [e'] at c2 b2; omega
      have xT : pl (axL (Gs T) ax) m ≠ -1 := by rw [e] at m1; omega
      rw [if_pos x0, if_neg xT]
      refine E2.lg rfl ?_
      unfold x25_isIn_j32
      exact E2.lf (fun z => z rfl) (E2.lg (by decide) (J43 0 (Or.inr ⟨e, rfl⟩)))
/-- whether the working sheet's lines lie as in the base and the other -/
theorem both_inOrder (hN : 2000 ≤ N) (R : Rl x h t nv pa un fs Gs g own rt s r) (ha : ax = 0 ∨ ax = 1) (hw : WvC s wv rt B T) (hB : rtV nv pa un B) (hT : rtV nv pa un T) : E2 (x25_isInOrder N wv ax s) (tw_sameOrder N h 40 (tsN fs B) (tsN fs T) ax r) YN := by
  obtain ⟨-, n1, n4, -, -, p4, u4⟩ := R.c5
  have h0 : rtV nv pa un 0 := Or.inl rfl
  have lB := tsN_lt (fs := fs) hB n4 p4 u4
  have lT := tsN_lt (fs := fs) hT n4 p4 u4
  have le0 := R.2.1.len h0
  have leB := R.2.1.len hB
  have leT := R.2.1.len hT
  have c0 := R.shC h0
  have cT := R.shC hT
  have cB := R.shC hB
  have t0 := R.s0
  have tT := R.shT hT
  have tB := R.shT hB
  have L := axA_ls (ax := ax) c0
  have LB := axA_ls (ax := ax) cB
  have alm := axL_le (ax := ax) le0.1 le0.2
  have n32 := L.2.2.1
  have GO : ∀ (c k fu fv : Nat) (last : Int), k + c = (axL (Gs 0) ax).length → c < fu → c < fv → E2 (x25_isInOrder_l14 N s wv ax (axA s (rt 0) ax) (some 1) fu last (k : Int)) (tw_sameOrder_l6 N h r 40 (tsN fs B) (tsN fs T) ax (some 1) fv last (k : Int)) YN := by
    intro c
    induction c with
    | zero =>
      intro k fu fv last h1 h2 h3
      obtain ⟨fu, rfl⟩ : ∃ j, fu = j + 1 := ⟨fu - 1, by omega⟩
      obtain ⟨fv, rfl⟩ : ∃ j, fv = j + 1 := ⟨fv - 1, by omega⟩
      unfold x25_isInOrder_l14 tw_sameOrder_l6
      rw [L.2.1, w32_i (by omega) (by omega)]
      exact E2.lg L.1 (E2.lg (by omega) (E2.re (t0.axn (u := 40) (by decide)) (E2.rg (by omega) (E2.r ⟨rfl, Or.inr rfl⟩))))
    | succ c ih =>
      intro k fu fv last h1 h2 h3
      obtain ⟨fu, rfl⟩ : ∃ j, fu = j + 1 := ⟨fu - 1, by omega⟩
      obtain ⟨fv, rfl⟩ : ∃ j, fv = j + 1 := ⟨fv - 1, by omega⟩
      have hk : k < (axL (Gs 0) ax).length := by omega
      obtain ⟨m, hm⟩ : ∃ m, m = gl (axL (Gs 0) ax) k := ⟨_, rfl⟩
      have bT := pl_ge (axL (Gs T) ax) m
      have bB := pl_ge (axL (Gs B) ax) m
      have tl : tw_lineAt h 40 ax (k : Int) r = some (tLi r h 40 ax k) := t_lineAt (s := 40) (by decide) (by omega)
      unfold x25_isInOrder_l14 tw_sameOrder_l6
      rw [L.2.1, w32_i (x := ((axL (Gs 0) ax).length : Int)) (by omega) (by omega), tn, L.2.2.2 k hk, ← hm, hw.2.1, hw.2.2.2]
      refine E2.lg L.1 (E2.lf (by omega) (E2.lg hw.1 (E2.lg cB.1.1 (E2.le (c_mk9 cB) (E2.lg (by omega) (E2.le (c_placeOf (by omega) LB _) (E2.re (t0.axn (u := 40) (by decide)) (E2.rf (by omega) (E2.re tl ?_)))))))))
      rw [t0.axl hk, ← hm]
      refine E2.re (t_axp tT ha (by omega) (by omega) leT.1 leT.2 m) ?_
      have NX := fun last => ih (k + 1) fu fv last (by omega) (by omega) (by omega)
      unfold x25_isInOrder_l14_j73
      rw [inc32 (by omega)]
      by_cases cb : pl (axL (Gs B) ax) m = -1
      · refine E2.lg cb ?_
        have J : E2 (x25_isInOrder_l14 N s wv ax (axA s (rt 0) ax) (some 1) fu last ((k + 1 : Nat) : Int)) (tw_sameOrder_l6_j54 N h r 40 (tsN fs B) (tsN fs T) ax last (k : Int) (-1) (tw_sameOrder_l6 N h r 40 (tsN fs B) (tsN fs T) ax (some 1) fv) (some 1)) YN := by
          unfold tw_sameOrder_l6_j54 tw_sameOrder_l6_j70 tw_sameOrder_l6_j82
          rw [inc32 (by omega)]
          exact E2.rg (by decide) (E2.rg (by decide) (NX last))
        by_cases c1 : 0 ≤ pl (axL (Gs T) ax) m
        · refine E2.rg c1 (E2.re (t_axp tB ha (by omega) (by omega) leB.1 leB.2 m) ?_)
          rw [cb]; exact J
        · exact E2.rf c1 J
      · refine E2.lf cb (E2.lg (by omega) (E2.le (c_hasX (by omega) cT m) ?_))
        by_cases c1 : pl (axL (Gs T) ax) m = -1
        · rw [if_pos c1]
          refine E2.lf (by decide) (E2.rf (by omega) ?_)
          unfold tw_sameOrder_l6_j54 tw_sameOrder_l6_j70 tw_sameOrder_l6_j82
          rw [inc32 (by omega)]
          exact E2.rg (by decide) (E2.rg (by decide) (NX last))
        · rw [if_neg c1]
          refine E2.lg (by decide) (E2.rg (by omega) (E2.re (t_axp tB ha (by omega) (by omega) leB.1 leB.2 m) ?_))
          unfold tw_sameOrder_l6_j54 tw_sameOrder_l6_j70 tw_sameOrder_l6_j82
          rw [inc32 (by omega)]
          refine E2.rf (by omega) ?_
          by_cases c2 : last ≤ pl (axL (Gs B) ax) m
          · exact E2.lg c2 (E2.rg c2 (E2.rf (by omega) (NX _)))
          · exact E2.lf c2 (E2.rf c2 (E2.r ⟨rfl, Or.inl rfl⟩))
  unfold x25_isInOrder tw_sameOrder
  rw [hw.2.2.1]
  refine E2.lg hw.1 (E2.lg c0.1.1 (E2.le (c_mk9 c0) ?_))
  exact GO (axL (Gs 0) ax).length 0 N N (-1) (by omega) (by omega) (by omega)
end State70
