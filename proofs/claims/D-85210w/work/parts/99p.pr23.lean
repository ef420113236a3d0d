/-! ===== PHASE 2: reading: words ===== -/
section Read23
variable {N x h hi all nv sh M lu0 b b' p q op pa pi : Nat} {bA : Nat → Int} {f : Int → List Int × List Int} {σ σ' σ'' τ τ' τ'' s r σ0 τ0 σ1 τ2 : gMem} {p0 pa0 nd k lu : Nat} {W : Nat → gMem → Option gR} {Wt : gMem → Option gMem}
theorem t_nm_hit {e n : Nat} {K : gMem → Option gMem} (hN : 500 ≤ N) (t : TSt τ h bA hi all) (kc : KC τ) (e48 : mI τ h 48 = q) (qn : q + n = e) (e4 : e ≤ 400) {i : Nat} (i3 : 3 ≤ i) (i21 : i < 21) (hit : WdA bA q e (gtx.getD i [])) : ∀ (m j fu : Nat), j + m = i → m < fu → 3 ≤ j → tw_readWord_l72 N Wt h n K fu ((j + 27 : Nat) : Int) τ = tw_readCall N Wt h ((i + 27 : Nat) : Int) τ := by
  intro m
  induction m with
  | zero =>
    intro j fu h1 h2 h3
    obtain ⟨fu, rfl⟩ : ∃ i, fu = i + 1 := ⟨fu - 1, by omega⟩
    obtain rfl : j = i := by omega
    have gb := gtx_low j i21
    obtain ⟨bb, y1, y2⟩ := t_isWord (p := q) (n := n) hN t (kc.1 j (by omega)) gb.1 (by omega) (by omega)
    have yb : bb = true := y2.mpr (by rw [qn]; exact hit)
    subst yb
    unfold tw_readWord_l72
    rw [if_neg (by omega), t_nameOf h3 i21, Option.bind_some, e48, y1, Option.bind_some, if_neg (by decide), bnd_id]
  | succ m ih =>
    intro j fu h1 h2 h3
    obtain ⟨fu, rfl⟩ : ∃ i, fu = i + 1 := ⟨fu - 1, by omega⟩
    have gb := gtx_low j (by omega)
    obtain ⟨bb, y1, y2⟩ := t_isWord (p := q) (n := n) hN t (kc.1 j (by omega)) gb.1 (by omega) (by omega)
    have yb : bb = false := by
      cases z : bb with
      | false => rfl
      | true =>
        have y3 := y2.mp z
        rw [qn] at y3
        have := WdA.uq (by omega) i21 y3 hit
        omega
    subst yb
    unfold tw_readWord_l72
    rw [if_neg (by omega), t_nameOf h3 (by omega), Option.bind_some, e48, y1, Option.bind_some, if_pos (by decide), inc32 (by omega), show j + 27 + 1 = j + 1 + 27 by omega]
    exact ih (j + 1) fu (by omega) (by omega) (by omega)
theorem t_nm_miss {e n : Nat} {K : gMem → Option gMem} (hN : 500 ≤ N) (t : TSt τ h bA hi all) (kc : KC τ) (e48 : mI τ h 48 = q) (qn : q + n = e) (e4 : e ≤ 400) (miss : ∀ i, 3 ≤ i → i < 21 → ¬ WdA bA q e (gtx.getD i [])) : ∀ (m j fu : Nat), j + m = 21 → m < fu → 3 ≤ j → tw_readWord_l72 N Wt h n K fu ((j + 27 : Nat) : Int) τ = K τ := by
  intro m
  induction m with
  | zero =>
    intro j fu h1 h2 h3
    obtain ⟨fu, rfl⟩ : ∃ i, fu = i + 1 := ⟨fu - 1, by omega⟩
    unfold tw_readWord_l72
    rw [if_pos (by omega)]
  | succ m ih =>
    intro j fu h1 h2 h3
    obtain ⟨fu, rfl⟩ : ∃ i, fu = i + 1 := ⟨fu - 1, by omega⟩
    have gb := gtx_low j (by omega)
    obtain ⟨bb, y1, y2⟩ := t_isWord (p := q) (n := n) hN t (kc.1 j (by omega)) gb.1 (by omega) (by omega)
    have yb : bb = false := by
      cases z : bb with
      | false => rfl
      | true =>
        have y3 := y2.mp z
        rw [qn] at y3
        exact absurd y3 (miss j h3 (by omega))
    subst yb
    unfold tw_readWord_l72
    rw [if_neg (by omega), t_nameOf h3 (by omega), Option.bind_some, e48, y1, Option.bind_some, if_pos (by decide), inc32 (by omega), show j + 27 + 1 = j + 1 + 27 by omega]
    exact ih (j + 1) fu (by omega) (by omega) (by omega)
theorem c_nm_hit0 {e v1 : Nat} {K : gMem → Option gR} (hN : 500 ≤ N) (c : CR x hi all nv sh bA f s) (g6 : mI s (x + 1429) 6 = e) (qe : v1 ≤ e) (eh : e ≤ hi) (hk : k < 18) (hit : WdA bA v1 e (gtx.getD (nmI k) [])) : x6_word_l83 N W (x + 1429) v1 K N 0 s = (x6_call N W (x + 1429) (mR s 0 k) v1 s).bind (fun p => gThrR p (fun x23 s25 => some ((.inl (some (vR x23)), s25) : gR))) := c_nm_hit hN c g6 qe eh hk hit k 0 N (by omega) (by omega)
theorem c_nm_miss0 {e v1 : Nat} {K : gMem → Option gR} (hN : 500 ≤ N) (c : CR x hi all nv sh bA f s) (g6 : mI s (x + 1429) 6 = e) (qe : v1 ≤ e) (eh : e ≤ hi) (miss : ∀ i, 3 ≤ i → i < 21 → ¬ WdA bA v1 e (gtx.getD i [])) : x6_word_l83 N W (x + 1429) v1 K N 0 s = K s := c_nm_miss hN c g6 qe eh miss 18 0 N (by omega) (by omega)
theorem t_nm_hit0 {e n : Nat} {K : gMem → Option gMem} (hN : 500 ≤ N) (t : TSt τ h bA hi all) (kc : KC τ) (e48 : mI τ h 48 = q) (qn : q + n = e) (e4 : e ≤ 400) {i : Nat} (i3 : 3 ≤ i) (i21 : i < 21) (hit : WdA bA q e (gtx.getD i [])) : tw_readWord_l72 N Wt h n K N 30 τ = tw_readCall N Wt h ((i + 27 : Nat) : Int) τ := t_nm_hit hN t kc e48 qn e4 i3 i21 hit (i - 3) 3 N (by omega) (by omega) (Nat.le_refl _)
theorem t_nm_miss0 {e n : Nat} {K : gMem → Option gMem} (hN : 500 ≤ N) (t : TSt τ h bA hi all) (kc : KC τ) (e48 : mI τ h 48 = q) (qn : q + n = e) (e4 : e ≤ 400) (miss : ∀ i, 3 ≤ i → i < 21 → ¬ WdA bA q e (gtx.getD i [])) : tw_readWord_l72 N Wt h n K N 30 τ = K τ := t_nm_miss hN t kc e48 qn e4 miss 18 3 N (by omega) (by omega) (Nat.le_refl _)
/-- a word: a truth, or a call, or a fault -/
theorem rd_word (hN : 500 ≤ N) (S : S2 x h hi all nv sh M lu0 bA f σ τ q q op pa pi) (k4 : tkK bA q = 4) (hl : isL (bA q) = true)
    (hCl : ∀ (k e : Nat) (s : gMem), k < 18 → Ex (Rq x 6) σ s → mI s (x + 1429) 6 = e → mI τ h 49 = e → q < e → e ≤ hi → WdA bA q e (gtx.getD (nmI k) []) → E2 (x6_call N W (x + 1429) (mR s 0 k) q s) (tw_readCall N Wt h (nmk k) τ) (Out2 x h hi all nv sh M lu0 bA f σ τ q op pa pi)) : E2 (x6_word N W (x + 1429) σ) (tw_readWord N Wt h τ) (Out2 x h hi all nv sh M lu0 bA f σ τ q op pa pi) := by
  have S0 := S
  obtain ⟨c, t, ⟨s1, s2, s3, s4⟩, ⟨t1, t2, t3, t4, t5⟩, ⟨l1, l2, l3⟩, b1, b2, b3, b4, b5, b6, b7⟩ := S
  have tx := c.1.2.2.2.2.2.2.2
  have h4 : hi ≤ 400 := by have := tx.2.2.1; have := tx.2.2.2; omega
  have Lr := of_decide_eq_true hl
  obtain ⟨e, F, e49⟩ := t2.2.2.2.2.2.2.1 k4
  have el := F.le tx rfl
  have q1 := F.1
  have qe : q < e := by
    have : q ≠ e := fun z => by have := F.2.2; rw [← z, hl] at this; cases this
    omega
  have eh : e ≤ hi := by omega
  have qh : q < hi := by omega
  have e48 : mI τ h 48 = q := by rw [t2.2.1, if_neg (by omega)]
  have e46 : mI τ h 46 = e := by rw [t2.2.2.1]; exact e49
  have wn : w32 ((e : Int) - (q : Int)) = ((e - q : Nat) : Int) := by rw [w32_i (by omega) (by omega)]; omega
  have kt := t.2.1
  have tt := t.1
  obtain ⟨s12, X, g6, eW⟩ := c_word_l (N := N) (W := W) (v1 := (q : Int)) (K := fun s12 => if mT s12 (x + 1429) = 6 then (x6_isTruth N (mR s12 (x + 1429) 3) (q : Int) (mI s12 (x + 1429) 6) s12).bind (fun x15 => if x15 = 0 then x6_word_l83 N W (x + 1429) (q : Int) (fun s26 => if mT s26 (x + 1429) = 6 then (x6_wrong (x + 1429) 1 (q : Int) s26).bind (fun x28 => if mT (x28.2) (x28.1) = 25 then some ((.inr "SheetBranches$Wrong", x28.2) : gR) else none) else none) N 0 s12 else gLet (wI s12 (x + 1429) 8 (w32 ((mI s12 (x + 1429) 8) + 1))) (fun s32 => gLet (wN s32 16 1) (fun s35 => if mT s35 (mR s35 (x + 1429) 3) = 102 then if 0 ≤ (q : Int) ∧ (q : Int) < (mN s35 (mR s35 (x + 1429) 3) : Int) then if mI s35 (mR s35 (x + 1429) 3) (q : Int).toNat ≠ 84 then (x18_init (mZ s32) 0 s35).bind (fun x39 => some ((.inl (some (vR (mZ s32))), x39) : gR)) else (x18_init (mZ s32) 1 s35).bind (fun x41 => some (.inl (some (vR (mZ s32))), x41)) else none else none))) else none) c.1 (e := e) (by omega) (e - q) q N σ (by omega) (by omega) F Ex.rf s1
  have cf12 := Rq.cf c X (by omega)
  have c12 := c.cf cf12
  have kc := c12.2.2.2.1
  obtain ⟨bT, u1, u2⟩ := c_spells (p := q) (q := e) hN c12.1 (kc.1 1 (by decide)) (by decide) (by decide) (by omega) eh
  obtain ⟨bF, v1, v2⟩ := c_spells (p := q) (q := e) hN c12.1 (kc.1 2 (by decide)) (by decide) (by decide) (by omega) eh
  obtain ⟨bT', u1', u2'⟩ := t_isWord (p := q) (n := e - q) hN tt (kt.1 1 (by decide)) (by decide) (by omega) (by omega)
  obtain ⟨bF', v1', v2'⟩ := t_isWord (p := q) (n := e - q) hN tt (kt.1 2 (by decide)) (by decide) (by omega) (by omega)
  rw [show q + (e - q) = e by omega] at u2' v2'
  have eT : bT' = bT := by
    cases z : bT <;> cases z' : bT'
    · rfl
    · exact absurd (u2.mpr (u2'.mp z')) (by rw [z]; decide)
    · exact absurd (u2'.mpr (u2.mp z)) (by rw [z']; decide)
    · rfl
  have eF : bF' = bF := by
    cases z : bF <;> cases z' : bF'
    · rfl
    · exact absurd (v2.mpr (v2'.mp z')) (by rw [z]; decide)
    · exact absurd (v2'.mpr (v2.mp z)) (by rw [z']; decide)
    · rfl
  rw [eT] at u1'
  rw [eF] at v1'
  unfold x6_word tw_readWord
  rw [s1, if_pos c.1.1, eW, e48, e49, wn]
  have iT : x6_isTruth N (x + 1) (q : Int) (e : Int) s12 = some (if bT || bF then 1 else 0) := by
    unfold x6_isTruth
    rw [u1, Option.bind_some]
    cases bT with
    | true => rfl
    | false =>
      rw [if_neg (by decide), v1, Option.bind_some]
      cases bF <;> rfl
  refine E2.lg c12.1.1 ?_
  rw [c12.1.2.2.2.1, g6, iT, Option.bind_some]
  refine E2.re u1' ?_
  by_cases hT : bT = true
  · have w := u2.mp hT
    have b0 : bA q = 84 := w.2 0 (by decide)
    rw [hT]
    exact E2.lf (by rw [Bool.true_or]; decide) (E2.rg (by decide) (rd_truth (bb := true) hN S0 X g6 qe eh e46 b0))
  have hT' : bT = false := by cases z : bT with
    | false => rfl
    | true => exact absurd z hT
  rw [hT']
  refine E2.rf (by decide) (E2.re v1' ?_)
  by_cases hF : bF = true
  · have w := v2.mp hF
    have b0 : bA q = 70 := w.2 0 (by decide)
    rw [hF]
    exact E2.lf (by decide) (E2.rf (by decide) (rd_truth (bb := false) hN S0 X g6 qe eh e46 b0))
  have hF' : bF = false := by cases z : bF with
    | false => rfl
    | true => exact absurd z hF
  rw [hF']
  refine E2.lg (by decide) (E2.rg (by decide) ?_)
  by_cases hit : ∃ k, k < 18 ∧ WdA bA q e (gtx.getD (nmI k) [])
  · obtain ⟨k, hk, w⟩ := hit
    have nb := nmI_b k hk
    rw [c_nm_hit0 (k := k) (e := e) (v1 := q) hN c12 g6 (by omega) eh hk w]
    rw [t_nm_hit0 (e := e) (n := e - q) hN tt kt e48 (by omega) (by omega) nb.1 (by omega) w, ← nb.2.2, ← bnd_id (y := tw_readCall N Wt h (nmk k) τ)]
    exact thr_id (hCl k e s12 hk X g6 e49 qe eh w)
  · have miss : ∀ i, 3 ≤ i → i < 21 → ¬ WdA bA q e (gtx.getD i []) := fun i i3 i21 w => by
      obtain ⟨k, hk, ek⟩ := nmI_on i i21 i3
      exact hit ⟨k, hk, by rw [ek]; exact w⟩
    rw [c_nm_miss0 (e := e) (v1 := q) hN c12 g6 (by omega) eh miss]
    rw [t_nm_miss0 (e := e) (n := e - q) hN tt kt e48 (by omega) (by omega) miss]
    rw [e48, bnd_id]
    refine E2.lg c12.1.1 (E2.vv (c_throw c12 (k := 1) (w := (q : Int)) (by decide) (by omega)) (t_fail (lu0 := lu0) (hi := hi) (b := M + pa) (k := 1) (w := (q : Int)) b5 t5 (by decide) (by omega)) (fun a r2 y z => ?_))
    exact OutN.fault y.1 y.2.1 (by rw [y.2.2.1, if_neg (by omega)]) ((cf12.tr y.2.2.2).mono (by omega)) (by decide) z.1 z.2.1 z.2.2.1
end Read23
