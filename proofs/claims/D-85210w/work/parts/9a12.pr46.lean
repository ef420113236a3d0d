/-! ===== PHASE 2: reading: what is no formula, both sides ===== -/
section Read46
variable {N x h hi all nv sh M lu0 b b' p q op pa pi n la fi lu : Nat} {bA bB g : Nat → Int} {f : Int → List Int × List Int} {σ σ' σ'' τ τ' τ'' s r σ0 τ0 σ1 τ2 : gMem}
theorem bnd_pr {α β : Type} {y : Option (α × β)} : y.bind (fun z => some (z.1, z.2)) = y := by cases y <;> rfl
def PlR (h q a j : Nat) : Prop := (a = h ∧ j = 24) ∨ ∃ o, 10 ≤ o ∧ o ≤ 13 ∧ a = h + o ∧ j = q
theorem t_plain {k v at' m : Int} (h24 : mI τ h 24 = q) (q4 : q < 4199) (hk : 0 ≤ k ∧ k ≤ 10) (hv : g64 v) (ha : 0 ≤ at' ∧ at' ≤ 90000) (hm : 0 ≤ m ∧ m ≤ 400) : Ev (tw_plain h k v at' m τ) (fun r => r.1 = ((100000 + q : Nat) : Int) ∧ Ex (PlR h q) τ r.2 ∧ mI r.2 h 24 = ((q + 1 : Nat) : Int) ∧ mI r.2 (h + 10) q = k ∧ mL r.2 (h + 11) q = v ∧ mI r.2 (h + 12) q = at' ∧ mI r.2 (h + 13) q = m) := by
  unfold tw_plain
  rw [h24, tn]
  refine Ev.g (by omega) (Ev.l ?_)
  have i1 : mI (wI τ (h + 10) q k) h 24 = q := by rw [mIwI1 (by omega)]; exact h24
  rw [i1, tn]
  refine Ev.g (by omega) (Ev.l ?_)
  have i2 : mI (wL (wI τ (h + 10) q k) (h + 11) q v) h 24 = q := i1
  rw [i2, tn]
  refine Ev.g (by omega) (Ev.l ?_)
  have i3 : mI (wI (wL (wI τ (h + 10) q k) (h + 11) q v) (h + 12) q at') h 24 = q := by rw [mIwI1 (by omega)]; exact i2
  rw [i3, tn]
  refine Ev.g (by omega) (Ev.l ?_)
  have i4 : mI (wI (wI (wL (wI τ (h + 10) q k) (h + 11) q v) (h + 12) q at') (h + 13) q m) h 24 = q := by rw [mIwI1 (by omega)]; exact i3
  rw [i4, inc32 (by omega)]
  refine Ev.l (Ev.r ⟨?_, ?_, ?_, ?_, ?_, ?_, ?_⟩)
  · have e1 : w32 ((q + 1 : Nat) : Int) = ((q + 1 : Nat) : Int) := w32_i (by omega) (by omega)
    rw [mIwI2 ⟨rfl, rfl⟩, e1, w32_i (by omega) (by omega)]; omega
  · exact ((((Ex.rf.I (Or.inr ⟨10, by omega, by omega, rfl, rfl⟩)).L (Or.inr ⟨11, by omega, by omega, rfl, rfl⟩)).I (Or.inr ⟨12, by omega, by omega, rfl, rfl⟩)).I (Or.inr ⟨13, by omega, by omega, rfl, rfl⟩)).I (Or.inl ⟨rfl, rfl⟩)
  · rw [mIwI2 ⟨rfl, rfl⟩, w32_i (by omega) (by omega)]
  · simp (disch := omega) only [mIwI1, mIwI2, w32_i, mI_wL]
  · simp only [mL_wI]
    rw [mL_wL, if_pos ⟨rfl, rfl⟩]; exact w64_id hv
  · simp (disch := omega) only [mIwI1, mIwI2, w32_i, mI_wL]
  · simp (disch := omega) only [mIwI1, mIwI2, w32_i, mI_wL]
theorem t_pl_l {K : gMem → Option (Int × gMem)} (h44 : mI τ h 44 = la) (la4 : la ≤ 400) (hg : ∀ k, k < la → mI τ (h + 27) k = g k) : ∀ (m i fu : Nat), i + m = la → m < fu → (∀ k, i ≤ k → k < la → isG (g k) = true) → tw_plainEntered_l5 N h K fu i τ = K τ := by
  intro m
  induction m with
  | zero =>
    intro i fu h1 h2 _
    obtain ⟨fu, rfl⟩ : ∃ j, fu = j + 1 := ⟨fu - 1, by omega⟩
    unfold tw_plainEntered_l5
    rw [h44, if_pos (by omega)]
  | succ m ih =>
    intro i fu h1 h2 g1
    obtain ⟨fu, rfl⟩ : ∃ j, fu = j + 1 := ⟨fu - 1, by omega⟩
    unfold tw_plainEntered_l5 tw_plainEntered_l5_j31
    rw [h44, if_neg (by omega), if_pos (by omega), tn, hg i (by omega), t_isSign, Option.bind_some, g1 i (Nat.le_refl _) (by omega), if_pos (by decide), inc32 (by omega)]
    exact ih (i + 1) fu (by omega) (by omega) (fun k h1 h2 => g1 k (by omega) h2)
/-- behind the first fault nothing more is told -/
theorem t_pl_f {K : gMem → Option (Int × gMem)} (h44 : mI τ h 44 = la) (la4 : la ≤ 400) (h41 : 0 < mI τ h 41) : ∀ (m i fu : Nat), i + m = la → m < fu → tw_plainEntered_l5 N h K fu i τ = K τ := by
  intro m
  induction m with
  | zero =>
    intro i fu h1 h2
    obtain ⟨fu, rfl⟩ : ∃ j, fu = j + 1 := ⟨fu - 1, by omega⟩
    unfold tw_plainEntered_l5
    rw [h44, if_pos (by omega)]
  | succ m ih =>
    intro i fu h1 h2
    obtain ⟨fu, rfl⟩ : ∃ j, fu = j + 1 := ⟨fu - 1, by omega⟩
    unfold tw_plainEntered_l5 tw_plainEntered_l5_j31
    rw [h44, if_neg (by omega), if_pos (by omega), tn, t_isSign, Option.bind_some]
    have ff : tw_fail h 1 (i : Int) τ = some τ := by unfold tw_fail; rw [if_pos (by omega)]
    cases isG (mI τ (h + 27) i) with
    | true => rw [if_pos (by decide), inc32 (by omega)]; exact ih (i + 1) fu (by omega) (by omega)
    | false => rw [if_neg (by decide), ff, Option.bind_some, inc32 (by omega)]; exact ih (i + 1) fu (by omega) (by omega)
theorem t_pl_w {K : gMem → Option (Int × gMem)} {w : Nat} (h44 : mI τ h 44 = la) (la4 : la ≤ 400) (h41 : mI τ h 41 = 0) (hw : w < la) (hg : ∀ k, k < la → mI τ (h + 27) k = g k) (ew : isG (g w) = false) : ∀ (m i fu : Nat), i + m = w → la - i < fu → (∀ k, i ≤ k → k < w → isG (g k) = true) → tw_plainEntered_l5 N h K fu i τ = K (wI (wI τ h 41 1) h 42 w) := by
  intro m
  induction m with
  | zero =>
    intro i fu h1 h2 _
    obtain ⟨fu, rfl⟩ : ∃ j, fu = j + 1 := ⟨fu - 1, by omega⟩
    obtain rfl : i = w := by omega
    unfold tw_plainEntered_l5 tw_plainEntered_l5_j31
    have ff : tw_fail h 1 (i : Int) τ = some (wI (wI τ h 41 1) h 42 i) := by unfold tw_fail; rw [if_neg (by omega)]; rfl
    rw [h44, if_neg (by omega), if_pos (by omega), tn, hg i (by omega), t_isSign, Option.bind_some, ew, if_neg (by decide), ff, Option.bind_some, inc32 (by omega)]
    exact t_pl_f (by rw [mIwI1 (by omega), mIwI1 (by omega)]; exact h44) la4 (by rw [mIwI1 (by omega), mIwI2 ⟨rfl, rfl⟩, w32_i (by omega) (by omega)]; decide) (la - (i + 1)) (i + 1) fu (by omega) (by omega)
  | succ m ih =>
    intro i fu h1 h2 g1
    obtain ⟨fu, rfl⟩ : ∃ j, fu = j + 1 := ⟨fu - 1, by omega⟩
    unfold tw_plainEntered_l5 tw_plainEntered_l5_j31
    rw [h44, if_neg (by omega), if_pos (by omega), tn, hg i (by omega), t_isSign, Option.bind_some, g1 i (Nat.le_refl _) (by omega), if_pos (by decide), inc32 (by omega)]
    exact ih (i + 1) fu (by omega) (by omega) (fun k h1 h2 => g1 k (by omega) h2)
/-- what entering a plain content may change of the twin -/
def EnP (h q lu a j : Nat) : Prop := (a = h ∧ (j = 19 ∨ j = 24 ∨ j = 41 ∨ j = 42)) ∨ (∃ o, 10 ≤ o ∧ o ≤ 13 ∧ a = h + o ∧ j = q) ∨ (a = h + 9 ∧ lu ≤ j)
theorem PlR.en {a j : Nat} (p : PlR h q a j) : EnP h q lu a j := by
  rcases p with p | p
  · exact Or.inl ⟨p.1, by omega⟩
  · exact Or.inr (Or.inl p)
theorem CtT.pl {v : Vl} {at' : Nat} (vo : VOk v) (q4 : q < 4199) (v1 : 1 ≤ v.1) (v3 : v.1 ≤ 3) (e10 : mI r (h + 10) q = v.1) (e11 : mL r (h + 11) q = v.2.1) (e12 : mI r (h + 12) q = at') (e13 : mI r (h + 13) q = ((v.2.2.length : Nat) : Int)) (la8 : at' + v.2.2.length ≤ 82400) (lt : ∀ i, i < v.2.2.length → mI r (h + 9) (at' + i) = gl v.2.2 i) : CtT r h ((100000 + q : Nat) : Int) (v, []) :=
  Or.inr (Or.inr ⟨q, rfl, rfl, vo, by omega, v1, v3, e10, e11, e13, at', e12, la8, lt⟩)
theorem rd_plain (hN : 500 ≤ N) (c : CR x n n nv sh bA f σ) (t : TSt τ h (cutB la bA) la n) (kt : KC τ) (hl : la ≤ n) (hf : fi < la) (lo : ∀ k, k < fi → bA k = 32) (hi' : ∀ k, la ≤ k → k < n → bA k = 32) (t43 : mI τ h 43 = fi) (t41 : mI τ h 41 = 0) (t19 : mI τ h 19 = lu) (l8 : lu ≤ 80000) (t24 : mI τ h 24 = q) (q4 : q < 4199) :
    E2 (x6_plain N (x + 1429) fi la σ) (tw_plainEntered N h τ) (fun a y => FrC x σ a.2 403 ∧ (Ex (EnP h q lu) τ y.2 ∧ (lu : Int) ≤ mI y.2 h 19 ∧ mI y.2 h 19 ≤ ((lu + la : Nat) : Int) ∧ (q : Int) ≤ mI y.2 h 24 ∧ mI y.2 h 24 ≤ ((q + 1 : Nat) : Int) ∧ (By τ (h + 9) → By y.2 (h + 9))) ∧
      ((a.1 = .inl none ∧ (mI y.2 h 41 = 0 ∧ mI y.2 h 42 = mI τ h 42) ∧ ∃ ct : Ct, ct.2 = [] ∧ CtC a.2 (mR a.2 (x + 1429) 16) ct ∧ CtT y.2 h y.1 ct ∧ mI y.2 h 24 = ((q + 1 : Nat) : Int) ∧ y.1 = ((100000 + q : Nat) : Int) ∧ ∃ at' : Nat, mI y.2 (h + 12) q = at' ∧ ((at' + ct.1.2.2.length : Nat) : Int) ≤ mI y.2 h 19) ∨ (a.1 = .inr "SheetBranches$Wrong" ∧ mI y.2 h 41 = mI a.2 (x + 1429) 12 ∧ mI y.2 h 42 = mI a.2 (x + 1429) 13 ∧ 0 < mI y.2 h 41))) := by
  have h4 : n ≤ 400 := t.2.2.2.2.2.2
  have t44 := t.1
  have gb : ∀ k, k < la → mI τ (h + 27) k = bA k := fun k hk => by rw [t.2.2.1 k hk]; unfold cutB; rw [if_pos hk]
  have cb : ∀ k, k < la → cutB la bA k = bA k := fun k hk => by unfold cutB; rw [if_pos hk]
  have kxT := kt.1 1 (by decide)
  have kxF := kt.1 2 (by decide)
  rcases sg_first (hi := n) bA with hg | ⟨w, w1, w2, w3⟩
  · -- all are signs
    have wc : ∀ {q' : Nat} {w : List Int}, WdA (cutB la bA) fi la w ↔ WdA bA fi la w := fun {q' w} => by
      unfold WdA
      constructor
      · rintro ⟨a, b⟩; exact ⟨a, fun i hi => by rw [← cb (fi + i) (by omega)]; exact b i hi⟩
      · rintro ⟨a, b⟩; exact ⟨a, fun i hi => by rw [cb (fi + i) (by omega)]; exact b i hi⟩
    have e1 : ∀ K, tw_plainEntered_l5 N h K N (fi : Int) τ = K τ := fun K => t_pl_l t44 (by omega) gb (la - fi) fi N (by omega) (by omega) (fun k _ hk => hg k (by omega))
    unfold tw_plainEntered
    rw [t43, e1, t44, t43]
    have wl : w32 ((la : Int) - (fi : Int)) = ((la - fi : Nat) : Int) := by rw [w32_i (by omega) (by omega)]; omega
    rw [wl, t_isNumber hN (by omega) hf gb, Option.bind_some]
    refine E2.rf (by omega) (E2.rg (by omega) ?_)
    cases hw : whB bA fi la with
    | true =>
      refine E2.rf (by decide) (E2.rg (by omega) ?_)
      rw [tn, gb fi hf]
      have w' := hw
      unfold whB at w'
      obtain ⟨y1, y2⟩ := Bool.and_eq_true_iff.mp w'
      have y1 := of_decide_eq_true y1
      have y3 := (allD_iff _ _).mp y2
      have DG := dgN_b (bA := bA) (p := whF bA fi) (q := la) (fun k k1 k2 => y3 k k1 (by omega)) (by omega)
      have dge : dgN (cutB la bA) (whF bA fi) la = dgN bA (whF bA fi) la := by
        have : ∀ (m p : Nat) (acc : Int), p + m ≤ la → dgv (cutB la bA) p m acc = dgv bA p m acc := by
          intro m
          induction m with
          | zero => intro p acc _; rfl
          | succ m ih =>
            intro p acc hp
            show dgv (cutB la bA) (p + 1) m (10 * acc + cutB la bA p - 48) = dgv bA (p + 1) m (10 * acc + bA p - 48)
            rw [cb p (by omega), ih (p + 1) _ (by omega)]
        exact this _ _ _ (by omega)
      have eN : tw_numberFrom N h (whF bA fi) la τ = some (dgN bA (whF bA fi) la) := by
        rw [← dge]
        exact t_numberFrom hN t (Nat.le_refl _) (by omega) (fun k k1 k2 => by rw [cb k (by omega)]; exact y3 k k1 (by omega)) (by omega)
      have FIN : ∀ v : Int, v = plV bA fi la → -1000000000000000 < v → v < 1000000000000000 → E2 (x6_plain N (x + 1429) fi la σ) ((tw_plain h 1 v 0 0 τ).bind (fun x56 => some (x56.1, x56.2))) (fun a y => FrC x σ a.2 403 ∧ (Ex (EnP h q lu) τ y.2 ∧ (lu : Int) ≤ mI y.2 h 19 ∧ mI y.2 h 19 ≤ ((lu + la : Nat) : Int) ∧ (q : Int) ≤ mI y.2 h 24 ∧ mI y.2 h 24 ≤ ((q + 1 : Nat) : Int) ∧ (By τ (h + 9) → By y.2 (h + 9))) ∧
      ((a.1 = .inl none ∧ (mI y.2 h 41 = 0 ∧ mI y.2 h 42 = mI τ h 42) ∧ ∃ ct : Ct, ct.2 = [] ∧ CtC a.2 (mR a.2 (x + 1429) 16) ct ∧ CtT y.2 h y.1 ct ∧ mI y.2 h 24 = ((q + 1 : Nat) : Int) ∧ y.1 = ((100000 + q : Nat) : Int) ∧ ∃ at' : Nat, mI y.2 (h + 12) q = at' ∧ ((at' + ct.1.2.2.length : Nat) : Int) ≤ mI y.2 h 19) ∨ (a.1 = .inr "SheetBranches$Wrong" ∧ mI y.2 h 41 = mI a.2 (x + 1429) 12 ∧ mI y.2 h 42 = mI a.2 (x + 1429) 13 ∧ 0 < mI y.2 h 41))) := by
        intro v ev v1 v2
        rw [bnd_pr]
        refine E2.vv (c_plain_num hN c hl hf hg hw) (t_plain (k := 1) (v := v) (at' := 0) (m := 0) t24 q4 (by decide) ⟨by omega, by omega⟩ (by decide) (by decide)) (fun a y z1 z2 => ?_)
        obtain ⟨u1, u2, u3⟩ := z1
        obtain ⟨r1, r2, r3, r4, r5, r6, r7⟩ := z2
        have n19 : mI y.2 h 19 = lu := by rw [r2.rI (fun p => by rcases p with p | ⟨o, p1, p2, p3, p4⟩ <;> omega)]; exact t19
        refine ⟨u2, ⟨r2.mono (fun a j p => p.en), by omega, by omega, by omega, by omega, fun z => z.ex r2 (fun k p => by rcases p with p | ⟨o, p1, p2, p3, p4⟩ <;> omega)⟩, Or.inl ⟨u1, ?_, _, rfl, u3, ?_, r3, r1, 0, r6, ?_⟩⟩
        · exact ⟨by rw [r2.rI (fun p => by rcases p with p | ⟨o, p1, p2, p3, p4⟩ <;> omega)]; exact t41, r2.rI (fun p => by rcases p with p | ⟨o, p1, p2, p3, p4⟩ <;> omega)⟩
        · show CtT y.2 h y.1 _
          rw [r1]
          exact CtT.pl (at' := 0) (VOk.num (by rw [← ev]; omega) (by rw [← ev]; omega)) q4 (by show (1 : Int) ≤ 1; decide) (by show (1 : Int) ≤ 3; decide) r4 (by rw [r5, ev]) r6 r7 (by show 0 + 0 ≤ 82400; decide) (fun i hi => absurd hi (Nat.not_lt_zero _))
        · show ((0 + 0 : Nat) : Int) ≤ _; omega
      unfold tw_plainEntered_j94 tw_plainEntered_j113
      by_cases e : bA fi = 45
      · have eF : whF bA fi = fi + 1 := by unfold whF; rw [if_pos e]
        rw [eF] at eN DG
        refine E2.rf (fun z => z e) (E2.rf (by decide) ?_)
        rw [t44, t43, inc32 (by omega), eN, Option.bind_some]
        refine E2.rf (by decide) ?_
        have en : w64 (-(dgN bA (fi + 1) la)) = -(dgN bA (fi + 1) la) := w64_id ⟨by omega, by omega⟩
        rw [en]
        exact FIN _ (by unfold plV; rw [if_pos e]) (by omega) (by omega)
      · have eF : whF bA fi = fi := by unfold whF; rw [if_neg e]
        rw [eF] at eN DG
        refine E2.rg e (E2.rg rfl ?_)
        rw [t44, t43, eN, Option.bind_some]
        refine E2.rg rfl ?_
        exact FIN _ (by unfold plV; rw [if_neg e]) (by omega) (by omega)
    | false =>
      refine E2.rg (by decide) ?_
      obtain ⟨bT, u1, u2⟩ := t_isWord (p := fi) (n := la - fi) hN t kxT (by decide) (by omega) (by omega)
      obtain ⟨bF, v1, v2⟩ := t_isWord (p := fi) (n := la - fi) hN t kxF (by decide) (by omega) (by omega)
      rw [show fi + (la - fi) = la by omega] at u2 v2
      have u2 : bT = true ↔ WdA bA fi la tTRUE := u2.trans (wc (q' := 0))
      have v2 : bF = true ↔ WdA bA fi la tFALSE := v2.trans (wc (q' := 0))
      have TRU : (bT = true ∨ bF = true) → E2 (x6_plain N (x + 1429) fi la σ) (tw_plainEntered_j171 N h (if bT then 1 else 0) τ) (fun a y => FrC x σ a.2 403 ∧ (Ex (EnP h q lu) τ y.2 ∧ (lu : Int) ≤ mI y.2 h 19 ∧ mI y.2 h 19 ≤ ((lu + la : Nat) : Int) ∧ (q : Int) ≤ mI y.2 h 24 ∧ mI y.2 h 24 ≤ ((q + 1 : Nat) : Int) ∧ (By τ (h + 9) → By y.2 (h + 9))) ∧
      ((a.1 = .inl none ∧ (mI y.2 h 41 = 0 ∧ mI y.2 h 42 = mI τ h 42) ∧ ∃ ct : Ct, ct.2 = [] ∧ CtC a.2 (mR a.2 (x + 1429) 16) ct ∧ CtT y.2 h y.1 ct ∧ mI y.2 h 24 = ((q + 1 : Nat) : Int) ∧ y.1 = ((100000 + q : Nat) : Int) ∧ ∃ at' : Nat, mI y.2 (h + 12) q = at' ∧ ((at' + ct.1.2.2.length : Nat) : Int) ≤ mI y.2 h 19) ∨ (a.1 = .inr "SheetBranches$Wrong" ∧ mI y.2 h 41 = mI a.2 (x + 1429) 12 ∧ mI y.2 h 42 = mI a.2 (x + 1429) 13 ∧ 0 < mI y.2 h 41))) := by
        intro hb
        have J : Ev (tw_plainEntered_j171 N h (if bT then 1 else 0) τ) (fun r => r.1 = ((100000 + q : Nat) : Int) ∧ Ex (PlR h q) τ r.2 ∧ mI r.2 h 24 = ((q + 1 : Nat) : Int) ∧ mI r.2 (h + 10) q = 3 ∧ mL r.2 (h + 11) q = (if bT then 1 else 0) ∧ mI r.2 (h + 12) q = 0 ∧ mI r.2 (h + 13) q = 0) := by
          unfold tw_plainEntered_j171
          cases bT with
          | false => exact Ev.g rfl (Ev.c (t_plain (k := 3) (v := 0) (at' := 0) (m := 0) t24 q4 (by decide) ⟨by omega, by omega⟩ (by decide) (by decide)) (fun y _ z => Ev.r z))
          | true => exact Ev.f (by decide) (Ev.c (t_plain (k := 3) (v := 1) (at' := 0) (m := 0) t24 q4 (by decide) ⟨by omega, by omega⟩ (by decide) (by decide)) (fun y _ z => Ev.r z))
        refine E2.vv (c_plain_tru hN c hl hf hg hw u2 v2 hb) J (fun a y z1 z2 => ?_)
        obtain ⟨u1, u2, u3⟩ := z1
        obtain ⟨r1, r2, r3, r4, r5, r6, r7⟩ := z2
        have n19 : mI y.2 h 19 = lu := by rw [r2.rI (fun p => by rcases p with p | ⟨o, p1, p2, p3, p4⟩ <;> omega)]; exact t19
        refine ⟨u2, ⟨r2.mono (fun a j p => p.en), by omega, by omega, by omega, by omega, fun z => z.ex r2 (fun k p => by rcases p with p | ⟨o, p1, p2, p3, p4⟩ <;> omega)⟩, Or.inl ⟨u1, ?_, _, rfl, u3, ?_, r3, r1, 0, r6, ?_⟩⟩
        · exact ⟨by rw [r2.rI (fun p => by rcases p with p | ⟨o, p1, p2, p3, p4⟩ <;> omega)]; exact t41, r2.rI (fun p => by rcases p with p | ⟨o, p1, p2, p3, p4⟩ <;> omega)⟩
        · show CtT y.2 h y.1 _
          rw [r1]
          exact CtT.pl (at' := 0) VOk.is q4 (by show (1 : Int) ≤ 3; decide) (by show (3 : Int) ≤ 3; decide) r4 r5 r6 r7 (by show 0 + 0 ≤ 82400; decide) (fun i hi => absurd hi (Nat.not_lt_zero _))
        · show ((0 + 0 : Nat) : Int) ≤ _; omega
      refine E2.re u1 ?_
      cases zT : bT with
      | true =>
        rw [zT] at TRU
        exact E2.rg (by decide) (TRU (Or.inl rfl))
      | false =>
        rw [zT] at TRU
        refine E2.rf (by decide) (E2.re v1 ?_)
        cases zF : bF with
        | true => exact E2.rf (by decide) (TRU (Or.inr zF))
        | false =>
          refine E2.rg (by decide) (E2.rg (by omega) ?_)
          rw [tn, gb fi hf]
          have nT : ¬ WdA bA fi la tTRUE := fun z => by have := u2.mpr z; rw [zT] at this; cases this
          have nF : ¬ WdA bA fi la tFALSE := fun z => by have := v2.mpr z; rw [zF] at this; cases this
          have FIN : ∀ F : Nat, F = plF bA fi → fi ≤ F → F ≤ la → E2 (x6_plain N (x + 1429) fi la σ) (tw_plainEntered_j215 N h F τ) (fun a y => FrC x σ a.2 403 ∧ (Ex (EnP h q lu) τ y.2 ∧ (lu : Int) ≤ mI y.2 h 19 ∧ mI y.2 h 19 ≤ ((lu + la : Nat) : Int) ∧ (q : Int) ≤ mI y.2 h 24 ∧ mI y.2 h 24 ≤ ((q + 1 : Nat) : Int) ∧ (By τ (h + 9) → By y.2 (h + 9))) ∧
      ((a.1 = .inl none ∧ (mI y.2 h 41 = 0 ∧ mI y.2 h 42 = mI τ h 42) ∧ ∃ ct : Ct, ct.2 = [] ∧ CtC a.2 (mR a.2 (x + 1429) 16) ct ∧ CtT y.2 h y.1 ct ∧ mI y.2 h 24 = ((q + 1 : Nat) : Int) ∧ y.1 = ((100000 + q : Nat) : Int) ∧ ∃ at' : Nat, mI y.2 (h + 12) q = at' ∧ ((at' + ct.1.2.2.length : Nat) : Int) ≤ mI y.2 h 19) ∨ (a.1 = .inr "SheetBranches$Wrong" ∧ mI y.2 h 41 = mI a.2 (x + 1429) 12 ∧ mI y.2 h 42 = mI a.2 (x + 1429) 13 ∧ 0 < mI y.2 h 41))) := by
            intro F hF F0 F1
            have hC := c_plain_txt hN c hl hf hg hw nT nF
            unfold tw_plainEntered_j215
            rw [t44, w32_i (by omega) (by omega)]
            by_cases l24 : (la : Int) - (F : Int) ≤ 24
            · refine E2.rg l24 (E2.rc (t_kept (p := F) (e := la) (lu := lu) hN t F1 (Nat.le_refl _) (fun k k1 k2 => by rw [cb k k2]; exact hg k (by omega)) t19 (by omega)) (fun x9 y => ?_))
              obtain ⟨y1, y2, y3, y4, yB⟩ := y
              have k44 : mI x9.2 h 44 = la := by rw [y2.rI (fun v => by unfold KpP at v; omega)]; exact t44
              have k24 : mI x9.2 h 24 = q := by rw [y2.rI (fun v => by unfold KpP at v; omega)]; exact t24
              have k41 : mI x9.2 h 41 = 0 := by rw [y2.rI (fun v => by unfold KpP at v; omega)]; exact t41
              have wn : w32 ((la : Int) - (F : Int)) = ((la - F : Nat) : Int) := by rw [w32_i (by omega) (by omega)]; omega
              rw [k44, y1, wn]
              rw [bnd_pr]
              refine E2.vv hC (t_plain (k := 2) (v := 0) (at' := lu) (m := ((la - F : Nat) : Int)) k24 q4 (by decide) ⟨by omega, by omega⟩ (by omega) (by omega)) (fun a y z1 z2 => ?_)
              obtain ⟨u2, u1⟩ := z1
              obtain ⟨r1, r2, r3, r4, r5, r6, r7⟩ := z2
              have n19 : mI y.2 h 19 = ((lu + (la - F) : Nat) : Int) := by rw [r2.rI (fun p => by rcases p with p | ⟨o, p1, p2, p3, p4⟩ <;> omega)]; exact y3
              have X : Ex (EnP h q lu) τ y.2 := (y2.mono (fun a j p => by
                rcases p with p | p
                · exact Or.inl ⟨p.1, Or.inl p.2⟩
                · exact Or.inr (Or.inr p))).tr (r2.mono (fun a j p => p.en))
              rcases u1 with ⟨u1, u4, u3⟩ | ⟨-, u4, -, -⟩
              case inr => omega
              have tl0 : (plTx bA fi la).length = la - F := by unfold plTx; rw [lst_len, ← hF]
              refine ⟨u2, ⟨X, by omega, by omega, by omega, by omega, fun z => (yB z).ex r2 (fun k p => by rcases p with p | ⟨o, p1, p2, p3, p4⟩ <;> omega)⟩, Or.inl ⟨u1, ?_, _, rfl, u3, ?_, r3, r1, lu, r6, ?_⟩⟩
              · exact ⟨by rw [r2.rI (fun p => by rcases p with p | ⟨o, p1, p2, p3, p4⟩ <;> omega)]; exact k41, by rw [r2.rI (fun p => by rcases p with p | ⟨o, p1, p2, p3, p4⟩ <;> omega), y2.rI (fun v => by unfold KpP at v; omega)]⟩
              · show CtT y.2 h y.1 _
                rw [r1]
                have tl : (plTx bA fi la).length = la - F := by unfold plTx; rw [lst_len, ← hF]
                refine CtT.pl (at' := lu) (VOk.tx (by rw [tl]; omega) (fun y hy => ?_)) q4 (by show (1 : Int) ≤ 2; decide) (by show (2 : Int) ≤ 3; decide) r4 r5 r6 (by show _ = (((plTx bA fi la).length : Nat) : Int); rw [tl]; exact r7) (by show lu + (plTx bA fi la).length ≤ _; rw [tl]; omega) (fun i hi => ?_)
                · obtain ⟨i, hi, rfl⟩ := mem_gl hy
                  rw [tl] at hi
                  have e1 : gl (plTx bA fi la) i = bA (plF bA fi + i) := gl_lst (f := fun i => bA (plF bA fi + i)) (by rw [← hF]; exact hi)
                  rw [e1, ← hF]
                  exact of_decide_eq_true (hg (F + i) (by omega))
                · have hi2 : i < la - F := by rw [← tl]; exact hi
                  rw [r2.rI (fun p => by rcases p with p | ⟨o, p1, p2, p3, p4⟩ <;> omega), y4 i hi2, cb (F + i) (by omega)]
                  show _ = gl (plTx bA fi la) i
                  have e1 : gl (plTx bA fi la) i = bA (plF bA fi + i) := gl_lst (f := fun i => bA (plF bA fi + i)) (by rw [← hF]; exact hi2)
                  rw [e1, ← hF]
              · show ((lu + (plTx bA fi la).length : Nat) : Int) ≤ _; rw [tl0]; omega
            · refine E2.rf l24 ?_
              have e24 : w32 ((F : Int) + 24) = ((F + 24 : Nat) : Int) := by rw [w32_i (by omega) (by omega)]; omega
              rw [e24]
              refine E2.vv hC (Ev.c (t_fail (lu0 := 0) (hi := 0) (b := 0) (k := 6) (w := ((F + 24 : Nat) : Int)) (by omega) t41 (by decide) (by omega)) (fun r _ z => Ev.r (Φ := fun y : Int × gMem => mI y.2 h 41 = 6 ∧ mI y.2 h 42 = ((F + 24 : Nat) : Int) ∧ Ex (fun a j => a = h ∧ (j = 41 ∨ j = 42)) τ y.2) ⟨z.1, z.2.1, z.2.2.2⟩)) (fun a y z1 z2 => ?_)
              obtain ⟨u2, u1⟩ := z1
              obtain ⟨r1, r2, r3⟩ := z2
              rcases u1 with ⟨-, u4, -⟩ | ⟨u1, u4, u5, u6⟩
              case inl => omega
              have n19 : mI y.2 h 19 = lu := by rw [r3.rI (by omega)]; exact t19
              have n24 : mI y.2 h 24 = q := by rw [r3.rI (by omega)]; exact t24
              exact ⟨u2, ⟨r3.mono (fun a j p => Or.inl ⟨p.1, by omega⟩), by omega, by omega, by omega, by omega, fun z => z.ex r3 (fun k p => by omega)⟩, Or.inr ⟨u1, by rw [r1, u5], by rw [r2, u6, hF], by rw [r1]; decide⟩⟩
          by_cases e : bA fi = 39
          · refine E2.rf (fun z => z e) ?_
            rw [inc32 (by omega)]
            exact FIN (fi + 1) (by unfold plF; rw [if_pos e]) (by omega) (by omega)
          · exact E2.rg e (FIN fi (by unfold plF; rw [if_neg e]) (Nat.le_refl _) (by omega))
  · -- one is none
    have wf : fi ≤ w ∧ w < la := by
      constructor
      · by_cases z : fi ≤ w
        · exact z
        · rw [lo w (by omega)] at w2; cases w2
      · by_cases z : w < la
        · exact z
        · rw [hi' w (by omega) w1] at w2; cases w2
    have e1 : ∀ K, tw_plainEntered_l5 N h K N (fi : Int) τ = K (wI (wI τ h 41 1) h 42 w) := fun K => t_pl_w t44 (by omega) t41 wf.2 gb w2 (w - fi) fi N (by omega) (by omega) (fun k _ hk => w3 k hk)
    unfold x6_plain tw_plainEntered
    rw [t43, e1]
    have X : Ex (fun a j => a = h ∧ (j = 41 ∨ j = 42)) τ (wI (wI τ h 41 1) h 42 (w : Int)) := (Ex.rf.I (by omega)).I (by omega)
    have i41 : mI (wI (wI τ h 41 1) h 42 (w : Int)) h 41 = 1 := by simp (disch := omega) only [mIwI1, mIwI2, w32_i]
    have i42 : mI (wI (wI τ h 41 1) h 42 (w : Int)) h 42 = w := by simp (disch := omega) only [mIwI1, mIwI2, w32_i]
    generalize wI (wI τ h 41 1) h 42 (w : Int) = r at X i41 i42 ⊢
    refine E2.rg (by omega) ?_
    have n19 : mI r h 19 = lu := by rw [X.rI (by omega)]; exact t19
    have n24 : mI r h 24 = q := by rw [X.rI (by omega)]; exact t24
    refine E2.vv (c_plain_w c w1 w2 w 0 N (by omega) (by omega) (fun k _ hk => w3 k hk)) (Ev.r (Φ := fun y : Int × gMem => y.2 = r) rfl) (fun a y z1 z2 => ?_)
    obtain ⟨u1, u2, u3, u4⟩ := z1
    rw [z2]
    exact ⟨(u4.mono (by omega)).kz, ⟨X.mono (fun a j p => Or.inl ⟨p.1, by omega⟩), by omega, by omega, by omega, by omega, fun z => z.ex X (fun k p => by omega)⟩, Or.inr ⟨u1, by rw [i41, u2], by rw [i42, u3], by rw [i41]; decide⟩⟩
end Read46
