/-! ===== PHASE 2: the act copy: counting, one cell ===== -/
section State66
variable {N x h u nv pa un fs i j t n q0 q1 C T k kp : Nat} {σ σ' τ τ' r s f m : gMem} {P : Nat → Nat → Prop} {W : Nat → Prop} {own rt : Nat → Nat} {S S' : Sh} {Gs : Nat → Sh} {g : Nat → Nat → Vl} {v w v5 v6 v7 c c' dr dc : Int} {ct : Ct} {a A : Nat} {fl : Int → List Int × List Int}
/-- the cell that is the e-th of an area, and all the parts of the first so many -/
def cpC (q0 q1 C e : Nat) : Nat := 10 * (q0 + e / C) + (q1 + e % C)
def cntS (S : Sh) (q0 q1 C : Nat) : Nat → Nat
  | 0 => 0
  | k + 1 => cntS S q0 q1 C k + (S.2 (cpC q0 q1 C k)).2.length
theorem cntS_le {d : Nat} : cntS S q0 q1 C k ≤ cntS S q0 q1 C (k + d) := by
  induction d with
  | zero => exact Nat.le_refl _
  | succ d ih => exact Nat.le_trans ih (Nat.le_add_right _ _)
theorem dm_C (hj : j < C) : (i * C + j) / C = i ∧ (i * C + j) % C = j := by
  have hC : 0 < C := by omega
  constructor
  · rw [Nat.mul_comm, Nat.mul_add_div hC, Nat.div_eq_of_lt hj, Nat.add_zero]
  · rw [Nat.mul_comm, Nat.mul_add_mod]; exact Nat.mod_eq_of_lt hj
theorem cpC_ij (hj : j < C) : cpC q0 q1 C (i * C + j) = 10 * (q0 + i) + (q1 + j) := by
  unfold cpC; rw [(dm_C hj).1, (dm_C hj).2]
theorem td_C (hj : j < C) : Int.tdiv (((i * C + j : Nat)) : Int) (C : Int) = (i : Int) ∧ Int.tmod (((i * C + j : Nat)) : Int) (C : Int) = (j : Int) := by
  constructor
  · show (((i * C + j) / C : Nat) : Int) = _; rw [(dm_C hj).1]
  · show (((i * C + j) % C : Nat) : Int) = _; rw [(dm_C hj).2]
theorem t_formC (k : CtB r h nv c ct) (m : mI r h 25 ≤ 60000) : (tw_isFormula c s = some 0 ∧ ct.2 = []) ∨ (tw_isFormula c s = some 1 ∧ ∃ q : Nat, c = ((q + 1 : Nat) : Int) ∧ q < 60420 ∧ ct.1 = vE ∧ ct.2.length ≤ 60 ∧ mI r (h + 26) q = ((ct.2.length : Nat) : Int) ∧ RwT r h q nv ct.2 ∧ pK (lab ct.2) ≠ 6 ∧ ((q + ct.2.length : Nat) : Int) ≤ mI r h 25 ∧ ct.2 ≠ []) := by
  unfold tw_isFormula
  rcases k with k | ⟨q, k1, k2, k3, k4, k5, k6, k7⟩ | ⟨q, k1, k2, k3, -⟩
  · left; rw [k.1, if_pos (by decide), k.2]; exact ⟨rfl, rfl⟩
  · right
    have := k5.2.1
    rw [if_neg (by omega), if_neg (by omega)]
    exact ⟨rfl, q, k1, by omega, k2, k3, k4, k5, k6, k7, fun e => by rw [e] at this; exact absurd this (by decide)⟩
  · left; rw [if_neg (by omega), if_pos (by omega)]; exact ⟨rfl, k2⟩
theorem CtC.l60 (k : CtC σ A ct) : ct.2.length ≤ 60 := by
  rcases k with k | k | k | k | k
  · rw [k.2]; decide
  · rw [k.2.1]; exact Nat.zero_le _
  · rw [k.2.2.2.1]; exact Nat.zero_le _
  · rw [k.2.1]; exact Nat.zero_le _
  · exact k.2.2.2.1
theorem cntS_60 (hk : ∀ e, e < k → ((S.2 (cpC q0 q1 C e)).2.length ≤ 60)) : cntS S q0 q1 C k ≤ 60 * k := by
  induction k with
  | zero => exact Nat.le_refl _
  | succ k ih =>
    have a := ih (fun e he => hk e (by omega))
    have b := hk k (by omega)
    show cntS S q0 q1 C k + _ ≤ _; omega
/-- the parts are counted: one row -/
theorem cp_n_in {Rr : Nat} {K : Int → gMem → Option gR} {Kt : Int → gMem → Option (Int × gMem)} {Φ : gR → Int × gMem → Prop} (R : Rl x h t nv pa un fs Gs g own rt s r) (hR : q0 + Rr ≤ (Gs 0).1.1.length) (hC : q1 + C ≤ (Gs 0).1.2.length) (hi : i < Rr) (hK : ∀ fu', (Rr - (i + 1)) * C < fu' → E2 (K (cntS (Gs 0) q0 q1 C ((i + 1) * C)) s) (tw_copy_l111 N h ((q0 + 1 : Nat) : Int) ((q1 + 1 : Nat) : Int) v5 v6 Rr C Kt fu' (cntS (Gs 0) q0 q1 C ((i + 1) * C)) (((i + 1) * C : Nat) : Int) r) Φ) : ∀ (m j fu fu' : Nat), j + m = C → m < fu → (Rr - (i + 1)) * C + m < fu' → E2 (x1_copy_l98 N x ((q0 + 1 : Nat) : Int) ((q1 + 1 : Nat) : Int) v5 v6 Rr C i K fu (cntS (Gs 0) q0 q1 C (i * C + j)) j s) (tw_copy_l111 N h ((q0 + 1 : Nat) : Int) ((q1 + 1 : Nat) : Int) v5 v6 Rr C Kt fu' (cntS (Gs 0) q0 q1 C (i * C + j)) ((i * C + j : Nat) : Int) r) Φ := by
  have l := R.1.1
  obtain ⟨e8, c0⟩ := R.c0
  have s0 := R.s0
  have n32 := c0.1.2.1.2.2.1
  have m10 := c0.1.2.2.2
  have bd := R.2.1.2.2.2.1
  have mul1 : (i + 1) * C = i * C + C := Nat.succ_mul i C
  have mul2 : (i + 1) * C ≤ Rr * C := Nat.mul_le_mul_right C (by omega)
  have mul3 : Rr * C ≤ 32 * 10 := Nat.mul_le_mul (by omega) (by omega)
  have mulI : ((Rr : Int) * (C : Int)) = ((Rr * C : Nat) : Int) := by push_cast; rfl
  intro m
  induction m with
  | zero =>
    intro j fu fu' h1 h2 h3
    obtain ⟨fu, rfl⟩ : ∃ j, fu = j + 1 := ⟨fu - 1, by omega⟩
    obtain rfl : j = C := by omega
    rw [← mul1]
    unfold x1_copy_l98
    exact E2.lg (Int.le_refl _) (hK fu' (by omega))
  | succ m ih =>
    intro j fu fu' h1 h2 h3
    obtain ⟨fu, rfl⟩ : ∃ j, fu = j + 1 := ⟨fu - 1, by omega⟩
    obtain ⟨fu', rfl⟩ : ∃ j, fu' = j + 1 := ⟨fu' - 1, by omega⟩
    have hj : j < C := by omega
    have rw0 := c0.2.2.2 (q0 + i) (by omega)
    have kA : CtC s (mR s (mR s (mR s (rt 0) 2) (q0 + i)) (q1 + j)) ((Gs 0).2 (10 * (q0 + i) + (q1 + j))) := rw0.2.2 (q1 + j) (by omega)
    have kB := s0.2.2.2.2 (10 * (q0 + i) + (q1 + j)) (by unfold inB; omega)
    have L60 := kA.l60
    have cn : cntS (Gs 0) q0 q1 C (i * C + (j + 1)) = cntS (Gs 0) q0 q1 C (i * C + j) + ((Gs 0).2 (10 * (q0 + i) + (q1 + j))).2.length := by
      show cntS (Gs 0) q0 q1 C (i * C + j) + ((Gs 0).2 (cpC q0 q1 C (i * C + j))).2.length = _
      rw [cpC_ij hj]
    have nx := ih (j + 1) fu fu' (by omega) (by omega) (by omega)
    rw [cn] at nx
    have ub : cntS (Gs 0) q0 q1 C (i * C + j) ≤ 60 * (i * C + j) := cntS_60 (fun e he => by
      have hC0 : 0 < C := by omega
      have d1 : e / C < Rr := Nat.div_lt_of_lt_mul (by rw [Nat.mul_comm]; omega)
      have d2 := Nat.mod_lt e hC0
      exact ((c0.2.2.2 (q0 + e / C) (by omega)).2.2 (q1 + e % C) (by omega)).l60)
    unfold x1_copy_l98 tw_copy_l111 tw_cellAt
    rw [mulI, w32_i (x := ((Rr * C : Nat) : Int)) (by omega) (by omega), (td_C hj).1, (td_C hj).2, show w32 (((q0 + 1 : Nat) : Int) + (i : Int)) = ((q0 + i + 1 : Nat) : Int) by rw [w32_i (by omega) (by omega)]; omega, show w32 (((q1 + 1 : Nat) : Int) + (j : Int)) = ((q1 + j + 1 : Nat) : Int) by rw [w32_i (by omega) (by omega)]; omega, e8, show (((q0 + 1 : Nat) : Int) - 1 + (i : Int)).toNat = q0 + i by omega, show (((q1 + 1 : Nat) : Int) - 1 + (j : Int)).toNat = q1 + j by omega]
    refine E2.lf (by omega) (E2.rf (by omega) (E2.rg (by omega) (E2.rg (by omega) ?_)))
    rw [show (320 * (40 : Int) + 10 * (((q0 + i + 1 : Nat) : Int) - 1) + ((q1 + j + 1 : Nat) : Int) - 1).toNat = 320 * 40 + (10 * (q0 + i) + (q1 + j)) by omega]
    rw [if_pos (show 0 ≤ 320 * (40 : Int) + 10 * (((q0 + i + 1 : Nat) : Int) - 1) + ((q1 + j + 1 : Nat) : Int) - 1 ∧ 320 * (40 : Int) + 10 * (((q0 + i + 1 : Nat) : Int) - 1) + ((q1 + j + 1 : Nat) : Int) - 1 < ((39040 : Nat) : Int) by omega), Option.bind_some]
    refine E2.lg l.1.1 (E2.lg c0.1.1 (E2.lg c0.2.1 (E2.lg (by rw [c0.2.2.1]; omega) (E2.lg rw0.1 (E2.lg (by rw [rw0.2.1]; omega) ?_)))))
    have FIN : ∀ d : Nat, d = ((Gs 0).2 (10 * (q0 + i) + (q1 + j))).2.length → E2 (x1_copy_l98_j146 N x ((q0 + 1 : Nat) : Int) ((q1 + 1 : Nat) : Int) v5 v6 Rr C i j (d : Int) (cntS (Gs 0) q0 q1 C (i * C + j)) (x1_copy_l98 N x ((q0 + 1 : Nat) : Int) ((q1 + 1 : Nat) : Int) v5 v6 Rr C i K fu) K s) (tw_copy_l111_j166 N h ((q0 + 1 : Nat) : Int) ((q1 + 1 : Nat) : Int) v5 v6 Rr C ((i * C + j : Nat) : Int) (d : Int) (cntS (Gs 0) q0 q1 C (i * C + j)) (tw_copy_l111 N h ((q0 + 1 : Nat) : Int) ((q1 + 1 : Nat) : Int) v5 v6 Rr C Kt fu') Kt r) Φ := by
      intro d hd
      unfold x1_copy_l98_j146 tw_copy_l111_j166
      rw [show w32 (((cntS (Gs 0) q0 q1 C (i * C + j) : Nat) : Int) + (d : Int)) = ((cntS (Gs 0) q0 q1 C (i * C + j) + ((Gs 0).2 (10 * (q0 + i) + (q1 + j))).2.length : Nat) : Int) by rw [w32_i (by omega) (by omega), hd]; omega, inc32 (by omega), inc32 (by omega)]
      exact nx
    have TW : ∀ X, E2 X (tw_copy_l111_j166 N h ((q0 + 1 : Nat) : Int) ((q1 + 1 : Nat) : Int) v5 v6 Rr C ((i * C + j : Nat) : Int) (((Gs 0).2 (10 * (q0 + i) + (q1 + j))).2.length : Int) (cntS (Gs 0) q0 q1 C (i * C + j)) (tw_copy_l111 N h ((q0 + 1 : Nat) : Int) ((q1 + 1 : Nat) : Int) v5 v6 Rr C Kt fu') Kt r) Φ → E2 X ((tw_isFormula (mI r (h + 5) (320 * 40 + (10 * (q0 + i) + (q1 + j)))) r).bind (fun x30 => if x30 = 0 then tw_copy_l111_j166 N h ((q0 + 1 : Nat) : Int) ((q1 + 1 : Nat) : Int) v5 v6 Rr C ((i * C + j : Nat) : Int) 0 (cntS (Gs 0) q0 q1 C (i * C + j)) (tw_copy_l111 N h ((q0 + 1 : Nat) : Int) ((q1 + 1 : Nat) : Int) v5 v6 Rr C Kt fu') Kt r else if 0 ≤ (mI r (h + 5) (320 * 40 + (10 * (q0 + i) + (q1 + j))) - 1) ∧ (mI r (h + 5) (320 * 40 + (10 * (q0 + i) + (q1 + j))) - 1) < ((60420 : Nat) : Int) then tw_copy_l111_j166 N h ((q0 + 1 : Nat) : Int) ((q1 + 1 : Nat) : Int) v5 v6 Rr C ((i * C + j : Nat) : Int) (mI r (h + 26) (mI r (h + 5) (320 * 40 + (10 * (q0 + i) + (q1 + j))) - 1).toNat) (cntS (Gs 0) q0 q1 C (i * C + j)) (tw_copy_l111 N h ((q0 + 1 : Nat) : Int) ((q1 + 1 : Nat) : Int) v5 v6 Rr C Kt fu') Kt r else none)) Φ := by
      intro X hX
      rcases t_formC (s := r) kB bd.2.1 with ⟨f1, f2⟩ | ⟨f1, q, f2, f3, f4, f5, f6, -⟩
      · rw [f2] at hX
        exact E2.re f1 (E2.rg rfl hX)
      · refine E2.re f1 (E2.rf (by decide) ?_)
        rw [f2, show (((q + 1 : Nat) : Int) - 1).toNat = q by omega, f6]
        exact E2.rg (by omega) hX
    refine TW _ ?_
    by_cases cA : mR s (mR s (mR s (rt 0) 2) (q0 + i)) (q1 + j) ≠ 0
    · exact E2.lg cA (E2.le (c_parts kA cA) (FIN _ rfl))
    · refine E2.lf cA ?_
      have e0 := (kA.nul l.z0).mp (Classical.not_not.mp cA)
      have := FIN 0 (by rw [e0]; rfl)
      rw [e0]
      exact this
/-- the parts are counted -/
theorem cp_n_out {Rr : Nat} {K : Int → gMem → Option gR} {Kt : Int → gMem → Option (Int × gMem)} {Φ : gR → Int × gMem → Prop} (hN : 400 ≤ N) (R : Rl x h t nv pa un fs Gs g own rt s r) (hR : q0 + Rr ≤ (Gs 0).1.1.length) (hC : q1 + C ≤ (Gs 0).1.2.length) (hK : E2 (K (cntS (Gs 0) q0 q1 C (Rr * C)) s) (Kt (cntS (Gs 0) q0 q1 C (Rr * C)) r) Φ) : ∀ (m i fu fu' : Nat), i + m = Rr → m < fu → m * C < fu' → E2 (x1_copy_l88 N x ((q0 + 1 : Nat) : Int) ((q1 + 1 : Nat) : Int) v5 v6 Rr C K fu (cntS (Gs 0) q0 q1 C (i * C)) i s) (tw_copy_l111 N h ((q0 + 1 : Nat) : Int) ((q1 + 1 : Nat) : Int) v5 v6 Rr C Kt fu' (cntS (Gs 0) q0 q1 C (i * C)) ((i * C : Nat) : Int) r) Φ := by
  have c0 := R.c0.2
  have n32 := c0.1.2.1.2.2.1
  have m10 := c0.1.2.2.2
  have mul3 : Rr * C ≤ 32 * 10 := Nat.mul_le_mul (by omega) (by omega)
  have mulI : ((Rr : Int) * (C : Int)) = ((Rr * C : Nat) : Int) := by push_cast; rfl
  intro m
  induction m with
  | zero =>
    intro i fu fu' h1 h2 h3
    obtain ⟨fu, rfl⟩ : ∃ j, fu = j + 1 := ⟨fu - 1, by omega⟩
    obtain ⟨fu', rfl⟩ : ∃ j, fu' = j + 1 := ⟨fu' - 1, by omega⟩
    obtain rfl : i = Rr := by omega
    unfold x1_copy_l88 tw_copy_l111
    rw [mulI, w32_i (x := ((i * C : Nat) : Int)) (by omega) (by omega)]
    exact E2.lg (Int.le_refl _) (E2.rg (Int.le_refl _) hK)
  | succ m ih =>
    intro i fu fu' h1 h2 h3
    obtain ⟨fu, rfl⟩ : ∃ j, fu = j + 1 := ⟨fu - 1, by omega⟩
    have mul4 : (m + 1) * C = m * C + C := Nat.succ_mul m C
    unfold x1_copy_l88
    refine E2.lf (by omega) ?_
    exact cp_n_in R hR hC (by omega) (fun fu'' hf => by
      rw [inc32 (by omega)]
      have e : Rr - (i + 1) = m := by omega
      rw [e] at hf
      exact ih (i + 1) fu fu'' (by omega) (by omega) hf) C 0 N fu' (by omega) (by omega) (by rw [show Rr - (i + 1) = m by omega]; omega)
/-- one cell of the working sheet, the sheets told -/
theorem both_cell2 {rr cc : Nat} (R : Rl x h t nv pa un fs Gs g own rt σ τ) (i10 : mI σ x 10 = 0) (h65 : mI τ h 65 = 0) (hr : rr < (Gs 0).1.1.length) (hc : cc < (Gs 0).1.2.length) (kA : CtC σ A ct) (kc : CtB τ h nv c' ct) : Rl x h t nv pa un fs (fun j => if j = 0 then setC (Gs 0) (10 * rr + cc) ct else Gs j) g own rt (wR σ (mR σ (mR σ (rt 0) 2) rr) cc A) (wI τ (h + 5) (12800 + 10 * rr + cc) c') := by
  have l := R.1.1
  obtain ⟨d1, d2, d3⟩ := R.1.2.2.2.1.1 0 (Or.inl rfl)
  have w := (Wk.rf R.c0.2 R.s0).set (rr := rr) (cc := cc) (A := A) (ct := ct) (c' := c') R.c0.2 l.ok l.z l.z0 d2.2.2.2 hr hc kA kc
  exact (w.fin R i10 h65 (R.p0.set (ct := ct) (j := 10 * rr + cc) (fun p hp => kc.pw p hp))).1
theorem kz_w17 {v v' : Int} (K : Kz (fun _ => False) s f) : Kz (EnW x) (wI s x 17 v) (wI f x 17 v') := by
  obtain ⟨k1, k2, k3, k4⟩ := K
  refine ⟨k1, k2, k3, fun a ha hw j => ?_⟩
  have nx : ¬ a = x := fun e => hw (Or.inl e)
  have := k4 a ha (fun f => f) j
  refine ⟨?_, this.2.1, this.2.2⟩
  rw [mIwI1 (fun z => nx z.1), mIwI1 (fun z => nx z.1)]; exact this.1
theorem MvC.kpW {k : Nat} (K : Kz W σ σ') (hw : ∀ a, W a → mT σ a = 110) (g : gOk σ) (m : MvC σ k nv fl dr dc) : MvC σ' k nv fl dr dc := by
  obtain ⟨m1, m2, m3, m4, m5, m6, m7, m8⟩ := m
  have nw : ∀ {a}, mT σ a ≠ 110 → ¬ W a := fun h w => h (hw _ w)
  have sl : ∀ {a R C}, ShL σ a R C → ShL σ' a R C := fun s => s.kp K g (nw (by rw [s.1]; decide)) (nw (by rw [s.2.1.1]; decide)) (nw (by rw [s.2.2.1.1]; decide))
  have r2 : mR σ' k 2 = mR σ k 2 := K.rR g (by omega) (nw (by omega)) 2
  have r3 : mR σ' k 3 = mR σ k 3 := K.rR g (by omega) (nw (by omega)) 3
  refine ⟨by rw [K.tag g (by omega)]; exact m1, by rw [K.rI g (by omega) (nw (by omega))]; exact m2, by rw [K.rI g (by omega) (nw (by omega))]; exact m3, by rw [r2]; exact sl m4, by rw [r3, K.tag g (by omega)]; exact m5, by rw [r3, K.len g (by omega)]; exact m6, m7, fun v hv => ?_⟩
  obtain ⟨v1, v2⟩ := m8 v hv
  rw [r3, K.rR g (by omega) (nw (by omega)) v, K.tag g (by omega), K.rR g (by omega) (nw (by omega)) 0]
  exact ⟨v1, sl v2⟩
theorem Rl.lnf (R : Rl x h t nv pa un fs Gs g own rt s r) : LnF r h nv (frV Gs) := by
  obtain ⟨⟨a1, a2, a3, a4⟩, ⟨r2, r3, r4, r5, r6, r7, r8⟩, r9, r10, r11, r12⟩ := R.2.1
  refine ⟨fun s hs => ?_, r7, fun v h1 h2 => ?_⟩
  · unfold tLn; rw [if_neg (by decide), if_pos (by decide)]; have := r9 s hs; omega
  · obtain ⟨v1, v2⟩ := rix_w R h1 h2
    have ls := (R.shT v1).ls
    rw [v2] at ls
    rw [ls.1, ls.2]; rfl
end State66
