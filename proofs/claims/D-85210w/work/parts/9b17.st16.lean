/-! ===== PHASE 2: the acts: what is asked -/
section State16
variable {N x h u b nv nv' pa un fs i t q n : Nat} {σ σ' τ τ' τ'' r s : gMem} {P : Nat → Nat → Prop} {W : Nat → Prop} {own own' rt rt' : Nat → Nat} {S S' S0 : Sh} {Gs Gs' : Nat → Sh} {g : Nat → Nat → Vl} {ct : Ct} {a A : Nat}
theorem Rl.br (R : Rl x h t nv pa un fs Gs g own rt σ τ) : Rbr x h nv σ τ := R.2.2.1.2.2.2.2.1
theorem Rl.vr (R : Rl x h t nv pa un fs Gs g own rt σ τ) : Rvr x h nv σ τ := R.2.2.1.2.2.2.2.2.1
theorem Rl.cf (R : Rl x h t nv pa un fs Gs g own rt σ τ) : Rcf x h nv σ τ := R.2.2.1.2.2.2.2.2.2.1
theorem Rl.df (R : Rl x h t nv pa un fs Gs g own rt σ τ) : Rdf x h σ τ := R.2.2.1.2.2.2.2.2.2.2
theorem ShT.pl (k : ShT τ h nv i S) (hi : i < 122) (hN : 40 ≤ N) (n1 : S.1.1.length ≤ 32) (n2 : S.1.2.length ≤ 10) (m : Int) : tw_placeOf N h i 0 m τ = some (pl S.1.1 m) ∧ tw_placeOf N h i 1 m τ = some (pl S.1.2 m) := by
  obtain ⟨k1, k2, k3, k4, -⟩ := k
  have e0 : tLn τ h i 0 = S.1.1.length := by unfold tLn; rw [if_neg (by decide)]; exact k1
  have e1 : tLn τ h i 1 = S.1.2.length := by unfold tLn; rw [if_pos (by decide)]; exact k2
  have l0 : tLs τ h i 0 = S.1.1 := by
    unfold tLs
    rw [e0, tn]
    exact lst_eq_of rfl (fun j hj => by unfold tLi; rw [if_neg (by decide)]; exact k3 j hj)
  have l1 : tLs τ h i 1 = S.1.2 := by
    unfold tLs
    rw [e1, tn]
    exact lst_eq_of rfl (fun j hj => by unfold tLi; rw [if_pos (by decide)]; exact k4 j hj)
  have a0 : axM 0 = 32 := rfl
  have a1 : axM 1 = 10 := rfl
  have p0 := t_placeOf (σ := τ) (N := N) (h := h) (s := i) (ax := 0) (id := m) hi (by omega) (by omega) hN
  have p1 := t_placeOf (σ := τ) (N := N) (h := h) (s := i) (ax := 1) (id := m) hi (by omega) (by omega) hN
  rw [l0] at p0
  rw [l1] at p1
  exact ⟨p0, p1⟩
/-- the version that a branch is at -/
theorem Rl.head (R : Rl x h t nv pa un fs Gs g own rt σ τ) : ∃ hd : Nat, hd < nv ∧ x1_head x σ = some (hd : Int) ∧ tw_head h τ = some (hd : Int) := by
  have l := R.1.1
  obtain ⟨b1, ⟨br, b2, b3, b4, b5⟩, -⟩ := R.br
  obtain ⟨c1, c2, c3⟩ := b1 br b2
  have e6 := l.R (6, 3) (by decide)
  have t3 := l.T (3, 100, 6) (by decide)
  (try dsimp only at e6 t3)
  refine ⟨(mI τ (h + 8) br).toNat, by omega, ?_, ?_⟩
  · unfold x1_head
    rw [if_pos l.1.1, e6, if_pos t3.1, b3, t3.2, if_pos (by omega), tn, c1]
    exact congrArg some (by omega)
  · unfold tw_head
    rw [b4, if_pos (by omega), tn]
    exact congrArg some (by omega)
theorem uns_l (R : Rl x h t nv pa un fs Gs g own rt σ τ) {n : Nat} (hn : n ≤ 370) (c20 : mI σ x 20 = n) (c98 : mI τ h 98 = n) (t19 : mT σ (mR σ x 19) = 103) (n19 : n ≤ mN σ (mR σ x 19)) (ee : ∀ i, i < n → mI σ (mR σ x 19) i = mI τ (h + 52) i) : ∀ (m i fu v : Nat), i + m = n → m < fu → v + m ≤ 1000 → ∃ w : Nat, x1_unsettled_l4 N σ x (fun y => some y) fu v i = some (w : Int) ∧ tw_unsettled_l4 N h τ (fun y => some y) fu v i = some (w : Int) := by
  intro m
  induction m with
  | zero =>
    intro i fu v h1 h2 h3
    obtain ⟨fu, rfl⟩ : ∃ j, fu = j + 1 := ⟨fu - 1, by omega⟩
    refine ⟨v, ?_, ?_⟩
    · unfold x1_unsettled_l4
      rw [if_pos R.1.1.1.1, c20, if_pos (by omega)]
    · unfold tw_unsettled_l4
      rw [c98, if_pos (by omega)]
  | succ m ih =>
    intro i fu v h1 h2 h3
    obtain ⟨fu, rfl⟩ : ∃ j, fu = j + 1 := ⟨fu - 1, by omega⟩
    have J : ∀ d : Nat, d ≤ 1 → ∃ w : Nat, x1_unsettled_l4_j27 N σ x (i : Int) (d : Int) (v : Int) (x1_unsettled_l4 N σ x (fun y => some y) fu) (fun y => some y) = some (w : Int) ∧ tw_unsettled_l4_j27 N h τ (i : Int) (d : Int) (v : Int) (tw_unsettled_l4 N h τ (fun y => some y) fu) (fun y => some y) = some (w : Int) := by
      intro d hd
      unfold x1_unsettled_l4_j27 tw_unsettled_l4_j27
      rw [inc32 (by omega), show w32 ((v : Int) + (d : Int)) = ((v + d : Nat) : Int) by rw [w32_i (by omega) (by omega)]; omega]
      exact ih (i + 1) fu (v + d) (by omega) (by omega) (by omega)
    unfold x1_unsettled_l4 tw_unsettled_l4
    rw [if_pos R.1.1.1.1, c20, if_neg (by omega), if_pos t19, if_pos (by omega), c98, if_neg (show ¬((n : Int) ≤ (i : Int)) by omega), if_pos (show (0 : Int) ≤ (i : Int) ∧ (i : Int) < ((370 : Nat) : Int) by omega), tn, ee i (by omega)]
    by_cases e : mI τ (h + 52) i = 0
    · rw [if_pos e, if_pos e]; exact J 1 (by decide)
    · rw [if_neg e, if_neg e]; exact J 0 (by decide)
/-- how many conflicts are open -/
theorem Rl.uns (hN : 2000 ≤ N) (R : Rl x h t nv pa un fs Gs g own rt σ τ) : ∃ w : Nat, x1_unsettled N x σ = some (w : Int) ∧ tw_unsettled N h τ = some (w : Int) := by
  obtain ⟨n, c1, c2, c3, c4, c5, c6, c7, c8, c9⟩ := R.cf
  unfold x1_unsettled tw_unsettled
  exact uns_l R c1 c2 c3 c6 c7 (fun i hi => (c9 i hi).2.2.2.2.1.1) n 0 N 0 (by omega) (by omega) (by omega)
theorem uns_B (R : Rl x h t nv pa un fs Gs g own rt σ τ) {n : Nat} (hn : n ≤ 370) (c20 : mI σ x 20 = n) (t19 : mT σ (mR σ x 19) = 103) (n19 : n ≤ mN σ (mR σ x 19)) : ∀ (m i fu v : Nat) (w : Int), i + m = n → v + m ≤ 1000 → x1_unsettled_l4 N σ x (fun y => some y) fu v i = some w → g32 w := by
  intro m
  induction m with
  | zero =>
    intro i fu v w h1 h2 e
    cases fu with
    | zero => cases e
    | succ fu =>
      unfold x1_unsettled_l4 at e
      rw [if_pos R.1.1.1.1, c20, if_pos (by omega)] at e
      have := Option.some.inj e
      exact ⟨by omega, by omega⟩
  | succ m ih =>
    intro i fu v w h1 h2 e
    cases fu with
    | zero => cases e
    | succ fu =>
      unfold x1_unsettled_l4 x1_unsettled_l4_j27 at e
      rw [if_pos R.1.1.1.1, c20, if_neg (by omega), if_pos t19, if_pos (show (0 : Int) ≤ (i : Int) ∧ (i : Int) < ((mN σ (mR σ x 19) : Nat) : Int) by omega), show w32 ((i : Int) + 1) = ((i + 1 : Nat) : Int) from inc32 (by omega)] at e
      split at e
      · rw [show w32 ((v : Int) + 1) = ((v + 1 : Nat) : Int) from inc32 (by omega)] at e
        exact ih (i + 1) fu (v + 1) w (by omega) (by omega) e
      · rw [show w32 ((v : Int) + 0) = ((v : Nat) : Int) by rw [w32_i (by omega) (by omega)]; omega] at e
        exact ih (i + 1) fu v w (by omega) (by omega) e
theorem Rl.unsB {w : Int} (R : Rl x h t nv pa un fs Gs g own rt σ τ) (e : x1_unsettled N x σ = some w) : g32 w := by
  obtain ⟨n, c1, c2, c3, c4, c5, c6, c7, c8, c9⟩ := R.cf
  unfold x1_unsettled at e
  exact uns_B R c1 c2 c6 c7 n 0 N 0 w (by omega) (by omega) e
/-- the number of a sheet that is asked for -/
def rix (v : Int) : Nat := if v < 0 then 0 else 81 + v.toNat
theorem rix_v {v : Int} (h1 : -1 ≤ v) (h2 : v < nv) : rtV nv pa un (rix v) := by unfold rtV rix; split <;> omega
theorem rix_k (k : Nat) : rix (k : Int) = 81 + k := by unfold rix; rw [if_neg (by omega), tn]
theorem tsN_rix {v : Int} : ((tsN fs (rix v) : Nat) : Int) = if 0 ≤ v then v else 40 := by
  unfold tsN rix
  by_cases c : v < 0
  · rw [if_pos c, if_pos rfl, if_neg (by omega)]; rfl
  · rw [if_neg c, if_neg (by omega), if_neg (by omega), if_neg (by omega), if_pos (by omega)]; omega
theorem Rl.shC (R : Rl x h t nv pa un fs Gs g own rt σ τ) (hv : rtV nv pa un i) : ShC σ (rt i) (Gs i) := (R.1.2.2.2.1.1 i hv).1
theorem Rl.shT (R : Rl x h t nv pa un fs Gs g own rt σ τ) (hv : rtV nv pa un i) : ShT τ h nv (tsN fs i) (Gs i) := R.2.1.2.2.2.2.1 i hv
theorem Rl.shP (R : Rl x h t nv pa un fs Gs g own rt σ τ) (hv : rtV nv pa un i) : ShP (mI τ h 6) (mI τ h 7) (Vi nv i) (Gs i) := R.2.2.2.1 i hv
theorem Rl.rt0 (R : Rl x h t nv pa un fs Gs g own rt σ τ) (hv : rtV nv pa un i) : rt i ≠ 0 := fun e => by have := (R.shC hv).1.1; rw [e, R.1.1.z0] at this; cases this
theorem Rl.ver (R : Rl x h t nv pa un fs Gs g own rt σ τ) {k : Nat} (hk : k < nv) : mT σ (mR σ (x + 2) k) = 9 ∧ mR σ (mR σ (x + 2) k) 0 = rt (81 + k) := by
  refine ⟨(R.1.vo k hk).1, ?_⟩
  have e := R.1.2.2.2.2.1 (81 + k) (by unfold rtV; omega)
  unfold rtA at e
  rw [if_neg (by omega), if_neg (by omega), if_neg (by omega), show 81 + k - 81 = k by omega] at e; exact e
theorem Rl.c5 (R : Rl x h t nv pa un fs Gs g own rt σ τ) : mI σ x 5 = nv ∧ 1 ≤ nv ∧ nv ≤ 40 ∧ pa + un ≤ 40 ∧ mI τ h 8 = nv ∧ pa ≤ 40 ∧ un ≤ 40 := by
  obtain ⟨c5, -, -, n1, n4, pu⟩ := R.1.2.2.1
  exact ⟨c5, n1, n4, pu, R.2.1.2.1.1, by omega, by omega⟩
theorem Rl.sheetOf (R : Rl x h t nv pa un fs Gs g own rt σ τ) (v : Int) : x1_sheetOf x v σ = some (if -1 ≤ v ∧ v < nv then rt (rix v) else 0) := by
  have l := R.1.1
  have e4 := l.R (4, 2) (by decide)
  have t2 := l.T (2, 104, 40) (by decide)
  (try dsimp only at e4 t2)
  obtain ⟨c5, n1, n4, -⟩ := R.c5
  unfold x1_sheetOf
  by_cases c0 : v = -1
  · rw [if_neg (fun z => z c0), if_pos l.1.1, R.c0.1, if_pos (by omega), c0]; rfl
  · rw [if_pos c0]
    by_cases c1 : v < 0
    · rw [if_pos c1, if_neg (by omega)]
    · obtain ⟨k, rfl⟩ : ∃ k : Nat, v = (k : Int) := ⟨v.toNat, by omega⟩
      rw [if_neg c1, if_pos l.1.1, c5]
      by_cases c2 : nv ≤ k
      · rw [if_pos (by omega), if_neg (by omega)]
      · have w := R.ver (k := k) (by omega)
        rw [if_neg (by omega), e4, if_pos t2.1, t2.2, if_pos (by omega), tn, if_pos w.1, if_pos (by omega), w.2, rix_k]
theorem Rl.isSheet (R : Rl x h t nv pa un fs Gs g own rt σ τ) (v : Int) : tw_isSheet h v τ = some (if -1 ≤ v ∧ v < nv then 1 else 0) := by
  obtain ⟨-, n1, n4, -, e8, -⟩ := R.c5
  unfold tw_isSheet
  rw [e8, t_in, w32_i (by omega) (by omega), Option.bind_some, if_pos ite01]
  by_cases c : -1 ≤ v ∧ v < nv
  · rw [if_pos c, if_pos (by omega)]
  · rw [if_neg c, if_neg (by omega)]
theorem t_sheetAt (v : Int) : tw_sheetAt v τ = some ((tsN fs (rix v) : Nat) : Int) := by
  unfold tw_sheetAt
  rw [tsN_rix]
  by_cases c : 0 ≤ v
  · rw [if_pos c, if_pos c]
  · rw [if_neg c, if_neg c]
/-- sheet -/
theorem op_sheet {v w : Int} (R : RL x h t σ τ) : E2 (x1_sheet x v w σ) (tw_sheet h v w τ) (OpA x h t σ τ) := by
  obtain ⟨nv, pa, un, fs, Gs, g, own, rt, R⟩ := R
  have l := R.1.1
  have Rt := R.t0 (v := 0)
  have e4 := l.R (4, 2) (by decide)
  have t2 := l.T (2, 104, 40) (by decide)
  (try dsimp only at e4 t2)
  obtain ⟨c5, n1, n4, pu, c8, p4, u4⟩ := R.c5
  unfold x1_sheet tw_sheet
  refine E2.lg l.1.1 (E2.rl (E2.le (R.sheetOf v) (E2.re (Rt.isSheet v) ?_)))
  by_cases cv : -1 ≤ v ∧ v < nv
  · have hv := rix_v (pa := pa) (un := un) cv.1 cv.2
    have sC := R.shC hv
    have sT := Rt.shT hv
    have lt := tsN_lt (fs := fs) hv n4 p4 u4
    have len := R.2.1.len hv
    rw [if_pos cv, if_pos cv]
    refine E2.lg (R.rt0 hv) (E2.rg (by decide) ?_)
    by_cases w0 : w = 0
    · refine E2.lg w0 (E2.rg w0 (E2.lg sC.1.1 (E2.lg sC.1.2.1.1 (E2.re (t_sheetAt (fs := fs) v) (E2.rg (by omega) (E2.r ?_))))))
      rw [tn, sT.1, sC.1.2.1.2.1, w32_i (by omega) (by omega)]
      exact OpQ.same R
    · refine E2.lf w0 (E2.rf w0 ?_)
      by_cases w1 : w = 1
      · refine E2.lg w1 (E2.rg w1 (E2.lg sC.1.1 (E2.lg sC.1.2.2.1.1 (E2.re (t_sheetAt (fs := fs) v) (E2.rg (by omega) (E2.r ?_))))))
        rw [tn, sT.2.1, sC.1.2.2.1.2.1, w32_i (by omega) (by omega)]
        exact OpQ.same R
      · refine E2.lf w1 (E2.rf w1 ?_)
        by_cases w2 : w = 2
        · refine E2.lg w2 (E2.rg w2 ?_)
          by_cases c0 : v = -1
          · obtain ⟨hd, -, h1, h2⟩ := R.head
            obtain ⟨hd', -, h1', h2'⟩ := Rt.head
            rw [h1] at h1'
            refine E2.lf (fun z => z c0) (E2.rf (by omega) (E2.le h1 (E2.re h2' (E2.r ?_))))
            rw [← Option.some.inj h1']
            exact OpQ.same R
          · obtain ⟨k, rfl⟩ : ∃ k : Nat, v = (k : Int) := ⟨v.toNat, by omega⟩
            have w := R.ver (k := k) (by omega)
            refine E2.lg c0 (E2.rg (by omega) (E2.lg (by rw [e4]; exact t2.1) (E2.lg (by rw [e4, t2.2]; omega) (E2.lg (by rw [e4, tn]; exact w.1) (E2.rg (by omega) (E2.r ?_))))))
            rw [e4, tn, (Rt.vr k (by omega)).1]
            exact OpQ.same R
        · refine E2.lf w2 (E2.rf w2 ?_)
          by_cases w3 : w = 3
          · refine E2.lg w3 (E2.rg w3 ?_)
            by_cases c0 : v = -1
            · refine E2.lf (fun z => z c0) (E2.rf (by omega) (E2.r ?_))
              rw [Rt.br.2.2.1.1]
              exact OpQ.same R
            · obtain ⟨k, rfl⟩ : ∃ k : Nat, v = (k : Int) := ⟨v.toNat, by omega⟩
              have w := R.ver (k := k) (by omega)
              refine E2.lg c0 (E2.rg (by omega) (E2.lg (by rw [e4]; exact t2.1) (E2.lg (by rw [e4, t2.2]; omega) (E2.lg (by rw [e4, tn]; exact w.1) (E2.rg (by omega) (E2.r ?_))))))
              rw [e4, tn, (Rt.vr k (by omega)).2.1]
              exact OpQ.same R
          · exact E2.lf w3 (E2.rf w3 (E2.r (OpQ.same R)))
  · rw [if_neg cv, if_neg cv]
    exact E2.lf (fun z => z rfl) (E2.rf (fun z => z rfl) (E2.r (OpQ.same R)))
/-- difference -/
theorem op_difference {v w : Int} (R : RL x h t σ τ) : E2 (x1_difference x v w σ) (tw_difference h v w τ) (OpA x h t σ τ) := by
  obtain ⟨nv, pa, un, fs, Gs, g, own, rt, R⟩ := R
  have l := R.1.1
  have Rt := R.t0 (v := 0)
  have e26 := l.R (26, 1434) (by decide)
  have e27 := l.R (27, 1435) (by decide)
  have e28 := l.R (28, 1436) (by decide)
  have t26 := l.T (1434, 100, 500) (by decide)
  have t27 := l.T (1435, 100, 500) (by decide)
  have t28 := l.T (1436, 100, 500) (by decide)
  (try dsimp only at e26 e27 e28 t26 t27 t28)
  obtain ⟨n, d1, d2, d3, d4⟩ := Rt.df
  unfold x1_difference tw_difference
  refine E2.rl ?_
  rw [d3, t_in, w32_i (by omega) (by omega), Option.bind_some]
  by_cases c0 : v < 0
  · rw [if_neg (show ¬ (0 ≤ v ∧ v ≤ (n : Int) - 1) by omega)]
    exact E2.lg c0 (E2.rf (fun z => z rfl) (E2.r (OpQ.same R)))
  · refine E2.lf c0 (E2.lg l.1.1 ?_)
    rw [d2]
    by_cases c1 : v < n
    · rw [if_pos (show 0 ≤ v ∧ v ≤ (n : Int) - 1 by omega)]
      obtain ⟨k, rfl⟩ : ∃ k : Nat, v = (k : Int) := ⟨v.toNat, by omega⟩
      obtain ⟨f1, f2, f3⟩ := d4 k (by omega)
      refine E2.lg c1 (E2.rg (by decide) ?_)
      by_cases w0 : w = 0
      · refine E2.lf (fun z => z w0) (E2.rf (fun z => z w0) (E2.lg (by rw [e26]; exact t26.1) (E2.lg (by rw [e26, t26.2]; omega) (E2.rg (by omega) (E2.r ?_)))))
        rw [e26, tn, f1]; exact OpQ.same R
      · refine E2.lg w0 (E2.rg w0 ?_)
        by_cases w1 : w = 1
        · refine E2.lf (fun z => z w1) (E2.rf (fun z => z w1) (E2.lg (by rw [e27]; exact t27.1) (E2.lg (by rw [e27, t27.2]; omega) (E2.rg (by omega) (E2.r ?_)))))
          rw [e27, tn, f2]; exact OpQ.same R
        · refine E2.lg w1 (E2.rg w1 ?_)
          by_cases w2 : w = 2
          · refine E2.lf (fun z => z w2) (E2.rf (fun z => z w2) (E2.lg (by rw [e28]; exact t28.1) (E2.lg (by rw [e28, t28.2]; omega) (E2.rg (by omega) (E2.r ?_)))))
            rw [e28, tn, f3]; exact OpQ.same R
          · exact E2.lg w2 (E2.rg w2 (E2.r (OpQ.same R)))
    · rw [if_neg (show ¬ (0 ≤ v ∧ v ≤ (n : Int) - 1) by omega)]
      exact E2.lf c1 (E2.rf (fun z => z rfl) (E2.r (OpQ.same R)))
/-- conflict -/
theorem op_conflict {v w : Int} (hN : 2000 ≤ N) (R : RL x h t σ τ) : E2 (x1_conflict N x v w σ) (tw_conflict N h v w τ) (OpA x h t σ τ) := by
  obtain ⟨nv, pa, un, fs, Gs, g, own, rt, R⟩ := R
  have l := R.1.1
  have Rt := R.t0 (v := 0)
  obtain ⟨e8, c⟩ := R.c0
  have s0 := Rt.s0
  have n32 := c.1.2.1.2.2.1
  have m10 := c.1.2.2.2
  obtain ⟨n, c1, c2, c3, c4, c5, c6, c7, c8, c9⟩ := Rt.cf
  unfold x1_conflict tw_conflict
  refine E2.rl ?_
  rw [c3, t_in, w32_i (by omega) (by omega), Option.bind_some]
  by_cases c0 : v < 0
  · rw [if_neg (show ¬ (0 ≤ v ∧ v ≤ (n : Int) - 1) by omega)]
    exact E2.lg c0 (E2.rf (fun z => z rfl) (E2.r (OpQ.same R)))
  · refine E2.lf c0 (E2.lg l.1.1 ?_)
    rw [c2]
    by_cases cn : v < n
    · rw [if_pos (show 0 ≤ v ∧ v ≤ (n : Int) - 1 by omega)]
      obtain ⟨k, rfl⟩ : ∃ k : Nat, v = (k : Int) := ⟨v.toNat, by omega⟩
      obtain ⟨q1, q2, q3, q4, q5, -⟩ := c9 k (by omega)
      have q30 : mI σ (mR σ (mR σ x 18) k) 0 = mI (wI τ h 0 0) (h + 46) k := q3 0 (by decide)
      have q31 : mI σ (mR σ (mR σ x 18) k) 1 = mI (wI τ h 0 0) (h + 47) k := q3 1 (by decide)
      have q32 : mI σ (mR σ (mR σ x 18) k) 2 = mI (wI τ h 0 0) (h + 48) k := q3 2 (by decide)
      rw [tn]
      refine E2.lg cn (E2.rg (by decide) (E2.lg c4 (E2.lg (by omega) ?_)))
      by_cases w0 : w = 0
      · refine E2.lg w0 (E2.rg w0 (E2.lg q1 (E2.rg (by omega) (E2.r ?_))))
        rw [q30]; exact OpQ.same R
      · refine E2.lf w0 (E2.rf w0 ?_)
        by_cases w1 : w = 1
        · refine E2.lg w1 (E2.rg w1 (E2.lg q1 (E2.rg (by omega) ?_)))
          have p0 := (s0.pl (N := N) (by decide) (by omega) n32 m10 (mI (wI τ h 0 0) (h + 47) k)).1
          refine E2.re p0 ?_
          by_cases k2 : mI σ (mR σ (mR σ x 18) k) 0 = 2
          · refine E2.lf (fun z => z k2) (E2.r ?_)
            have z1 : mI (wI τ h 0 0) (h + 47) k = -1 := q4.2.2.2.2.2.1 (by rw [← q30]; exact k2)
            have ng : pl (Gs 0).1.1 (-1) = -1 := pl_m1.mpr (fun m => by have := (Rt.p0.2.2.1 _ m).1; omega)
            rw [z1, ng]
            exact OpQ.same R
          · refine E2.lg k2 (E2.lg (by rw [e8]; exact c.1.1) (E2.le (by rw [e8]; exact c_row (by omega) c.1 _) (E2.r ?_)))
            rw [q31]; exact OpQ.same R
        · refine E2.lf w1 (E2.rf w1 ?_)
          by_cases w2 : w = 2
          · refine E2.lg w2 (E2.rg w2 (E2.lg q1 (E2.rg (by omega) ?_)))
            have p1 := (s0.pl (N := N) (by decide) (by omega) n32 m10 (mI (wI τ h 0 0) (h + 48) k)).2
            refine E2.re p1 ?_
            by_cases k2 : mI σ (mR σ (mR σ x 18) k) 0 = 1
            · refine E2.lf (fun z => z k2) (E2.r ?_)
              have z1 : mI (wI τ h 0 0) (h + 48) k = -1 := q4.2.2.2.2.1 (by rw [← q30]; exact k2)
              have ng : pl (Gs 0).1.2 (-1) = -1 := pl_m1.mpr (fun m => by have := (Rt.p0.2.2.2.1 _ m).1; omega)
              rw [z1, ng]
              exact OpQ.same R
            · refine E2.lg k2 (E2.lg (by rw [e8]; exact c.1.1) (E2.le (by rw [e8]; exact c_column (by omega) c.1 _) (E2.r ?_)))
              rw [q32]; exact OpQ.same R
          · refine E2.lf w2 (E2.rf w2 ?_)
            by_cases w3 : w = 3
            · refine E2.lg w3 (E2.rg w3 (E2.lg c6 (E2.lg (by omega) (E2.rg (by omega) ?_))))
              rw [q5.1]
              by_cases z : mI (wI τ h 0 0) (h + 52) k = 0
              · exact E2.lg z (E2.rg z (E2.r (OpQ.same R)))
              · exact E2.lf z (E2.rf z (E2.r (OpQ.same R)))
            · exact E2.lf w3 (E2.rf w3 (E2.r (OpQ.same R)))
    · rw [if_neg (show ¬ (0 ≤ v ∧ v ≤ (n : Int) - 1) by omega)]
      exact E2.lf cn (E2.rf (fun z => z rfl) (E2.r (OpQ.same R)))
end State16
