/-! ===== PHASE 2: the acts: undo, redo ===== -/
section State14
variable {N x h u b nv nv' pa un fs i t q : Nat} {σ σ' τ τ' τ'' r s : gMem} {P : Nat → Nat → Prop} {W : Nat → Prop} {own own' rt rt' : Nat → Nat} {S S' S0 : Sh} {Gs Gs' : Nat → Sh} {g : Nat → Nat → Vl} {c : Int} {ct : Ct} {a A : Nat}
theorem ShT.eh (k : ShT τ h nv i S) (e : Ex P τ τ') (hP : ∀ a k, P a k → a = h ∧ k ≠ 19 ∧ k ≠ 24 ∧ k ≠ 25) (n1 : S.1.1.length ≤ 32) (n2 : S.1.2.length ≤ 10) : ShT τ' h nv i S :=
  k.ex e (fun a k p q => by have := hP a k p; unfold SlP at q; omega) (fun a k p => Qt.co (Or.inl (hP a k p).1)) ⟨by rw [e.rI (fun p => (hP _ _ p).2.2.2 rfl)]; exact Int.le_refl _, by rw [e.rI (fun p => (hP _ _ p).2.1 rfl)]; exact Int.le_refl _, by rw [e.rI (fun p => (hP _ _ p).2.2.1 rfl)]; exact Int.le_refl _⟩ (Nat.le_refl _) n1 n2
theorem CpT.bd (c : CpT τ r h t u) (ht : t < 122) (B : ∀ s, s < 122 → 0 ≤ mI τ (h + 1) s ∧ mI τ (h + 1) s ≤ 32 ∧ 0 ≤ mI τ (h + 2) s ∧ mI τ (h + 2) s ≤ 10) : ∀ s, s < 122 → 0 ≤ mI r (h + 1) s ∧ mI r (h + 1) s ≤ 32 ∧ 0 ≤ mI r (h + 2) s ∧ mI r (h + 2) s ≤ 10 := fun s hs => by
  by_cases e : s = u
  · rw [e, c.2.1, c.2.2.1]; exact B t ht
  · rw [c.1.rI (by unfold CpP; omega), c.1.rI (by unfold CpP; omega)]; exact B s hs
theorem bd_eh (e : Ex P τ τ') (hP : ∀ a k, P a k → a = h) (B : ∀ s, s < 122 → 0 ≤ mI τ (h + 1) s ∧ mI τ (h + 1) s ≤ 32 ∧ 0 ≤ mI τ (h + 2) s ∧ mI τ (h + 2) s ≤ 10) : ∀ s, s < 122 → 0 ≤ mI τ' (h + 1) s ∧ mI τ' (h + 1) s ≤ 32 ∧ 0 ≤ mI τ' (h + 2) s ∧ mI τ' (h + 2) s ≤ 10 := fun s hs => by
  rw [e.rI (fun p => by have := hP _ _ p; omega), e.rI (fun p => by have := hP _ _ p; omega)]; exact B s hs
theorem t_stepAt (f15 : mI r h 15 = fs) (hf : fs < 40) (hq : q < 40) : tw_stepAt h (q : Int) r = some ((tsN fs (q + 1) : Nat) : Int) := by
  unfold tw_stepAt tsN
  rw [f15, if_neg (by omega), if_pos (by omega), w32_i (x := (fs : Int) + (q : Int)) (by omega) (by omega)]
  have e1 : (fs : Int) + (q : Int) = ((fs + q : Nat) : Int) := by omega
  rw [e1, show (40 : Int) = ((40 : Nat) : Int) from rfl, ← Int.ofNat_tmod]
  have := Nat.mod_lt (fs + q) (show 0 < 40 by decide)
  rw [w32_i (by omega) (by omega), Nat.add_sub_cancel]
  exact congrArg some (by omega)
theorem CpP.md {a k : Nat} (p : CpP h u a k) : (h + 1 ≤ a ∧ a ≤ h + 5) ∨ (a = h ∧ (k = 0 ∨ k = 16 ∨ k = 17 ∨ k = 65)) := by unfold CpP at p; omega
def cdN : List (String × Int) := [("java/util/NoSuchElementException", 1)]
/-- where the steps lie -/
theorem Rl.rpa (R : Rl x h t nv pa un fs Gs g own rt σ τ) (hq : q < pa) : mR σ (x + 9) q = rt (q + 1) := by
  have pu := R.1.2.2.1.2.2.2.2.2
  have e := R.1.2.2.2.2.1 (q + 1) (by unfold rtV; omega)
  unfold rtA at e
  rw [if_neg (by omega), if_pos (by omega), Nat.add_sub_cancel] at e; exact e
theorem Rl.run (R : Rl x h t nv pa un fs Gs g own rt σ τ) (hq : q < un) : mR σ (x + 10) q = rt (41 + q) := by
  have pu := R.1.2.2.1.2.2.2.2.2
  have e := R.1.2.2.2.2.1 (41 + q) (by unfold rtV; omega)
  unfold rtA at e
  rw [if_neg (by omega), if_neg (by omega), if_pos (by omega), show 41 + q - 41 = q by omega] at e; exact e
/-- what both leave: undo -/
theorem op_undo (hN : 2000 ≤ N) (R : RL x h t σ τ) : E2 (x1_undo x σ) (tw_undo N h τ) (OpO x h t cdN σ τ) := by
  obtain ⟨nv, pa, un, fs, Gs, g, own, rt, R⟩ := R
  have l := R.1.1
  have hh := R.1.2.1.1
  have Rt := R.t0 (v := 0)
  have i0 : mI (wI τ h 0 0) h 0 = 0 := by rw [mIwI2 ⟨rfl, rfl⟩, w32_i (by omega) (by omega)]
  have X0 : Ex (TwA h) τ (wI τ h 0 0) := Ex.rf.I (by unfold TwA; omega)
  obtain ⟨c5, c13, c14, n1, n4, pu⟩ := R.1.2.2.1
  obtain ⟨d8, d16, d17, d15, d40, -, -⟩ := Rt.2.1.2.1
  unfold x1_undo tw_undo
  refine E2.lg l.1.1 (E2.rl ?_)
  by_cases p0 : pa = 0
  · exact E2.lf (by rw [c13]; omega) (E2.rf (by rw [d16]; omega) (E2.r (OpO.ex R (by decide) (by decide))))
  · obtain ⟨q, rfl⟩ : ∃ q, pa = q + 1 := ⟨pa - 1, by omega⟩
    refine E2.lg (by rw [c13]; omega) (E2.rg (by rw [d16]; omega) ?_)
    generalize wI τ h 0 0 = τ1 at Rt i0 X0 d8 d16 d17 d15 ⊢
    have e8 := R.c0.1
    have e11 := l.R (11, 9) (by decide)
    have e12 := l.R (12, 10) (by decide)
    have t9 := l.T (9, 105, 40) (by decide)
    have t10 := l.T (10, 105, 40) (by decide)
    dsimp only at e11 e12 t9 t10
    have ep : mR σ (x + 9) q = rt (q + 1) := R.rpa (by omega)
    -- the class
    rw [e12, c14, tn, e8]
    refine E2.lg t10.1 (E2.lg (Or.inr (by rw [R.c0.2.1.1]; decide)) (E2.lg (by rw [t10.2]; omega) (E2.ll ?_)))
    rw [show mI (wR σ (x + 10) un (rt 0)) x 14 = (un : Int) from c14, inc32 (by omega)]
    refine E2.ll ?_
    have a13 : mI (wI (wR σ (x + 10) un (rt 0)) x 14 ((un + 1 : Nat) : Int)) x 13 = ((q + 1 : Nat) : Int) := by rw [mIwI1 (by omega)]; exact c13
    rw [a13, show w32 (((q + 1 : Nat) : Int) - 1) = (q : Int) by rw [w32_i (by omega) (by omega)]; omega]
    refine E2.ll ?_
    have a11 : mR (wI (wI (wR σ (x + 10) un (rt 0)) x 14 ((un + 1 : Nat) : Int)) x 13 (q : Int)) x 11 = x + 9 := by rw [mR_wI, mR_wI, mR_wR, if_neg (by omega)]; exact e11
    have a9 : mR (wI (wI (wR σ (x + 10) un (rt 0)) x 14 ((un + 1 : Nat) : Int)) x 13 (q : Int)) (x + 9) q = rt (q + 1) := by rw [mR_wI, mR_wI, mR_wR, if_neg (by omega)]; exact ep
    have b13 : mI (wI (wI (wR σ (x + 10) un (rt 0)) x 14 ((un + 1 : Nat) : Int)) x 13 (q : Int)) x 13 = (q : Int) := by rw [mIwI2 ⟨rfl, rfl⟩, w32_i (by omega) (by omega)]
    rw [a11, b13, tn, a9]
    refine E2.lg (show mT σ (x + 9) = 105 from t9.1) (E2.lg (show 0 ≤ (q : Int) ∧ (q : Int) < ((mN σ (x + 9) : Nat) : Int) by rw [t9.2]; omega) (E2.ll (E2.ll ?_)))
    obtain ⟨m, hm⟩ : ∃ m, m = wI (wR (wI (wI (wR σ (x + 10) un (rt 0)) x 14 ((un + 1 : Nat) : Int)) x 13 (q : Int)) x 8 (rt (q + 1))) x 10 0 := ⟨_, rfl⟩
    rw [← hm]
    have mT' : mT m = mT σ := by rw [hm]; rfl
    have mZ' : mZ m = mZ σ := by rw [hm]; rfl
    have mS' : mS m = mS σ := by rw [hm]; rfl
    have fR : ∀ b j, ¬ (b = x + 10 ∧ j = un) → ¬ (b = x ∧ j = 8) → mR m b j = mR σ b j := fun b j h1 h2 => by rw [hm, mR_wI, mR_wR, if_neg h2, mR_wI, mR_wI, mR_wR, if_neg h1]
    have m8 : mR m x 8 = rt (q + 1) := by rw [hm, mR_wI, mR_wR, if_pos ⟨rfl, rfl⟩]
    have m10 : mR m (x + 10) un = rt 0 := by rw [hm, mR_wI, mR_wR, if_neg (by omega), mR_wI, mR_wI, mR_wR, if_pos ⟨rfl, rfl⟩]
    have fI : ∀ j, j ≠ 10 → j ≠ 13 → j ≠ 14 → mI m x j = mI σ x j := fun j h1 h2 h3 => by rw [hm, mIwI1 (by omega), mI_wR, mIwI1 (by omega), mIwI1 (by omega), mI_wR]
    have f10 : mI m x 10 = 0 := by rw [hm, mIwI2 ⟨rfl, rfl⟩, w32_i (by omega) (by omega)]
    have f13 : mI m x 13 = (q : Int) := by rw [hm, mIwI1 (by omega), mI_wR, mIwI2 ⟨rfl, rfl⟩, w32_i (by omega) (by omega)]
    have f14 : mI m x 14 = ((un + 1 : Nat) : Int) := by rw [hm, mIwI1 (by omega), mI_wR, mIwI1 (by omega), mIwI2 ⟨rfl, rfl⟩, w32_i (by omega) (by omega)]
    have K : Kz (fun a => a = x ∨ a = x + 9 ∨ a = x + 10) σ m := by
      rw [hm]
      exact (((((Kz.rf l.ok).wR (Or.inr (Or.inr (Or.inr rfl)))).wI (Or.inr (Or.inl rfl))).wI (Or.inr (Or.inl rfl))).wR (Or.inr (Or.inl rfl))).wI (Or.inr (Or.inl rfl))
    clear hm a13 a11 a9 b13
    -- the twin
    rw [d17, show w32 (81 + (un : Int)) = ((81 + un : Nat) : Int) by rw [w32_i (by omega) (by omega)]; omega]
    refine E2.rc (t_copySheet (N := N) (h := h) (τ := τ1) (t := 40) (u := 81 + un) (by omega) (by decide) (by omega) (by omega)) (fun r1 cp1 => E2.rl ?_)
    have k17 : mI r1 h 17 = (un : Int) := by rw [cp1.1.rI (by unfold CpP; omega)]; exact d17
    have k16 : mI r1 h 16 = ((q + 1 : Nat) : Int) := by rw [cp1.1.rI (by unfold CpP; omega)]; exact d16
    rw [k17, inc32 (by omega)]
    refine E2.rl ?_
    rw [show mI (wI r1 h 17 ((un + 1 : Nat) : Int)) h 16 = ((q + 1 : Nat) : Int) by rw [mIwI1 (by omega)]; exact k16, show w32 (((q + 1 : Nat) : Int) - 1) = (q : Int) by rw [w32_i (by omega) (by omega)]; omega]
    have X2 : Ex (fun a k => a = h ∧ (k = 16 ∨ k = 17)) r1 (wI (wI r1 h 17 ((un + 1 : Nat) : Int)) h 16 (q : Int)) := (Ex.rf.I ⟨rfl, Or.inr rfl⟩).I ⟨rfl, Or.inl rfl⟩
    have j16 : mI (wI (wI r1 h 17 ((un + 1 : Nat) : Int)) h 16 (q : Int)) h 16 = (q : Int) := by rw [mIwI2 ⟨rfl, rfl⟩, w32_i (by omega) (by omega)]
    have j17 : mI (wI (wI r1 h 17 ((un + 1 : Nat) : Int)) h 16 (q : Int)) h 17 = ((un + 1 : Nat) : Int) := by rw [mIwI1 (by omega), mIwI2 ⟨rfl, rfl⟩, w32_i (by omega) (by omega)]
    generalize wI (wI r1 h 17 ((un + 1 : Nat) : Int)) h 16 (q : Int) = r2 at X2 j16 j17 ⊢
    have j15 : mI r2 h 15 = fs := by rw [X2.rI (by omega), cp1.1.rI (by unfold CpP; omega)]; exact d15
    rw [j16]
    refine E2.re (t_stepAt j15 d40 (by omega)) ?_
    have vq : rtV nv (q + 1) un (q + 1) := by unfold rtV; omega
    have lt := tsN_lt (fs := fs) vq n4 (by omega) (by omega)
    have nt40 : tsN fs (q + 1) ≠ 40 := fun z => absurd (tsN_inj vq (show rtV nv (q + 1) un 0 from Or.inl rfl) n4 (by omega) (by omega) (show tsN fs (q + 1) = tsN fs 0 from z)) (by omega)
    refine E2.rc (t_copySheet (N := N) (h := h) (τ := r2) (t := tsN fs (q + 1)) (u := 40) (by omega) (by omega) (by decide) nt40) (fun r3 cp2 => ?_)
    have k16' : mI r3 h 16 = (q : Int) := by rw [cp2.1.rI (by unfold CpP; omega)]; exact j16
    have k17' : mI r3 h 17 = ((un + 1 : Nat) : Int) := by rw [cp2.1.rI (by unfold CpP; omega)]; exact j17
    have XX : Ex (fun a k => (h + 1 ≤ a ∧ a ≤ h + 5) ∨ (a = h ∧ (k = 0 ∨ k = 16 ∨ k = 17 ∨ k = 65))) τ1 r3 := ((cp1.1.mono (fun a k p => p.md)).tr (X2.mono (fun a k p => Or.inr ⟨p.1, by omega⟩))).tr (cp2.1.mono (fun a k p => p.md))
    have len := fun j (v : rtV nv (q + 1) un j) => Rt.2.1.len v
    have sT := Rt.2.1.2.2.2.2.1
    have mid : ∀ {s S}, S.1.1.length ≤ 32 → S.1.2.length ≤ 10 → ShT r1 h nv s S → ShT r2 h nv s S := fun n1 n2 k => k.eh X2 (fun a k p => ⟨p.1, by omega, by omega, by omega⟩) n1 n2
    have e81 : tsN fs (41 + un) = 81 + un := by unfold tsN; rw [if_neg (by omega), if_neg (by omega), if_pos (by omega)]; omega
    have RR : Rl x h t nv q (un + 1) fs (fun i => Gs (if i = 0 then q + 1 else if i = 41 + un then 0 else i)) g own (fun i => rt (if i = 0 then q + 1 else if i = 41 + un then 0 else i)) m r3 := by
      refine Rt.re (p := fun i => if i = 0 then q + 1 else if i = 41 + un then 0 else i) (by omega) (fun i hi => ?_) (fun i j hi hj e => ?_) (fun k => ?_) (fun i hi => ?_) K (fun j hj => fR x j (by omega) (by omega)) fI f10 f13 f14 mT' (fun i hi => ?_) XX (fun a k p => p) k16' k17' (cp2.2.2.2.2.2.2 rfl) (fun i hi => ?_) (cp2.bd (by omega) (bd_eh X2 (fun a k p => p.1) (cp1.bd (by decide) Rt.2.1.2.2.1)))
      · (try dsimp only)
        unfold rtV at hi ⊢; split
        · omega
        · split <;> omega
      · (try dsimp only at e)
        unfold rtV at hi hj
        split at e <;> split at e <;> (try split at e) <;> (try split at e) <;> omega
      · (try dsimp only)
        rw [if_neg (by omega), if_neg (by omega)]
      · (try dsimp only)
        unfold Vi
        by_cases c0 : i = 0
        · rw [if_pos c0, if_neg (by omega), if_neg (by omega)]
        · rw [if_neg c0]
          by_cases c1 : i = 41 + un
          · rw [if_pos c1, if_neg (by omega), if_neg (by omega)]
          · rw [if_neg c1]
      · have hi' : i ≠ 0 → i ≠ 41 + un → rtV nv (q + 1) un i := fun a b => by unfold rtV at hi ⊢; omega
        (try dsimp only)
        by_cases c0 : i = 0
        · rw [if_pos c0]; unfold rtA; rw [if_pos c0]; exact m8
        · rw [if_neg c0]
          by_cases c1 : i = 41 + un
          · rw [if_pos c1]; unfold rtA; rw [if_neg c0, if_neg (by omega), if_pos (by omega), c1, show 41 + un - 41 = un by omega]; exact m10
          · rw [if_neg c1, ← R.1.2.2.2.2.1 i (hi' c0 c1)]
            unfold rtA
            rw [if_neg c0, if_neg c0]
            by_cases c2 : i ≤ 40
            · rw [if_pos c2, if_pos c2]; exact fR _ _ (by omega) (by omega)
            · rw [if_neg c2, if_neg c2]
              by_cases c3 : i ≤ 80
              · rw [if_pos c3, if_pos c3]; exact fR _ _ (by omega) (by omega)
              · rw [if_neg c3, if_neg c3, fR (x + 2) _ (by omega) (by omega)]
                have v := (R.1.vo (i - 81) (by unfold rtV at hi; omega)).1
                exact fR _ _ (fun e => by rw [e.1, t10.1] at v; omega) (fun e => by rw [e.1, l.1.1] at v; omega)
      · (try dsimp only)
        by_cases c0 : i = 0
        · rw [if_pos c0, c0]
          have n := len _ vq
          exact (mid n.1 n.2 ((sT _ vq).cpo cp1 (by rw [← e81]; exact fun z => absurd (tsN_inj (nv := nv) (pa := q + 1) (un := un + 1) (show rtV nv (q + 1) (un + 1) (q + 1) by unfold rtV; omega) (show rtV nv (q + 1) (un + 1) (41 + un) by unfold rtV; omega) n4 (by omega) (by omega) z) (by omega)) n.1 n.2)).cp cp2 n.1 n.2
        · rw [if_neg c0]
          have z0 : tsN fs i ≠ 40 := fun z => c0 (tsN_inj (nv := nv) (pa := q + 1) (un := un + 1) (show rtV nv (q + 1) (un + 1) i by unfold rtV at hi ⊢; omega) (show rtV nv (q + 1) (un + 1) 0 from Or.inl rfl) n4 (by omega) (by omega) (show tsN fs i = tsN fs 0 from z))
          by_cases c1 : i = 41 + un
          · rw [if_pos c1]
            have n := len 0 (Or.inl rfl)
            have k0 : ShT r2 h nv (81 + un) (Gs 0) := mid n.1 n.2 ((sT 0 (Or.inl rfl)).cp cp1 n.1 n.2)
            rw [c1, e81]
            exact k0.cpo cp2 (by omega) n.1 n.2
          · rw [if_neg c1]
            have hi' : rtV nv (q + 1) un i := by unfold rtV at hi ⊢; omega
            have n := len i hi'
            refine (mid n.1 n.2 ((sT i hi').cpo cp1 (by rw [← e81]; exact fun z => c1 (tsN_inj (nv := nv) (pa := q + 1) (un := un + 1) (show rtV nv (q + 1) (un + 1) i by unfold rtV at hi ⊢; omega) (show rtV nv (q + 1) (un + 1) (41 + un) by unfold rtV; omega) n4 (by omega) (by omega) z)) n.1 n.2)).cpo cp2 z0 n.1 n.2
    refine E2.r ⟨⟨_, _, _, _, _, _, _, _, RR.t1⟩, ⟨K.mono (fun a w => by unfold NoT; omega), 0, ?_, ?_, ?_⟩, X0.tr (XX.mono (fun a k p => by unfold TwA; omega)), Or.inl ⟨(q : Int), ?_, k16', ?_, by rw [← k16']; exact mI_rng _ _ _⟩⟩
    · show mI m x 17 = _
      rw [fI 17 (by decide) (by decide) (by decide)]; omega
    · show mZ m ≤ _; omega
    · show mS m ≤ _; omega
    · show (Sum.inl (some (vI (mI m x 13))) : Option gV ⊕ String) = _
      rw [f13]
    · show mI r3 h 0 = 0
      rw [cp2.1.rI (by unfold CpP; omega), X2.rI (by omega), cp1.1.rI (by unfold CpP; omega)]; exact i0
/-- redo -/
theorem op_redo (hN : 2000 ≤ N) (R : RL x h t σ τ) : E2 (x1_redo x σ) (tw_redo N h τ) (OpO x h t cdN σ τ) := by
  obtain ⟨nv, pa, un, fs, Gs, g, own, rt, R⟩ := R
  have l := R.1.1
  have hh := R.1.2.1.1
  have Rt := R.t0 (v := 0)
  have i0 : mI (wI τ h 0 0) h 0 = 0 := by rw [mIwI2 ⟨rfl, rfl⟩, w32_i (by omega) (by omega)]
  have X0 : Ex (TwA h) τ (wI τ h 0 0) := Ex.rf.I (by unfold TwA; omega)
  obtain ⟨c5, c13, c14, n1, n4, pu⟩ := R.1.2.2.1
  obtain ⟨d8, d16, d17, d15, d40, -, -⟩ := Rt.2.1.2.1
  unfold x1_redo tw_redo
  refine E2.lg l.1.1 (E2.rl ?_)
  by_cases p0 : un = 0
  · exact E2.lf (by rw [c14]; omega) (E2.rf (by rw [d17]; omega) (E2.r (OpO.ex R (by decide) (by decide))))
  · obtain ⟨q, rfl⟩ : ∃ q, un = q + 1 := ⟨un - 1, by omega⟩
    refine E2.lg (by rw [c14]; omega) (E2.rg (by rw [d17]; omega) ?_)
    generalize wI τ h 0 0 = τ1 at Rt i0 X0 d8 d16 d17 d15 ⊢
    have e8 := R.c0.1
    have e11 := l.R (11, 9) (by decide)
    have e12 := l.R (12, 10) (by decide)
    have t9 := l.T (9, 105, 40) (by decide)
    have t10 := l.T (10, 105, 40) (by decide)
    dsimp only at e11 e12 t9 t10
    have ep : mR σ (x + 10) q = rt (41 + q) := R.run (by omega)
    -- the class
    rw [e11, c13, tn, e8]
    refine E2.lg t9.1 (E2.lg (Or.inr (by rw [R.c0.2.1.1]; decide)) (E2.lg (by rw [t9.2]; omega) (E2.ll ?_)))
    rw [show mI (wR σ (x + 9) pa (rt 0)) x 13 = (pa : Int) from c13, inc32 (by omega)]
    refine E2.ll ?_
    have a13 : mI (wI (wR σ (x + 9) pa (rt 0)) x 13 ((pa + 1 : Nat) : Int)) x 14 = ((q + 1 : Nat) : Int) := by rw [mIwI1 (by omega)]; exact c14
    rw [a13, show w32 (((q + 1 : Nat) : Int) - 1) = (q : Int) by rw [w32_i (by omega) (by omega)]; omega]
    refine E2.ll ?_
    have a11 : mR (wI (wI (wR σ (x + 9) pa (rt 0)) x 13 ((pa + 1 : Nat) : Int)) x 14 (q : Int)) x 12 = x + 10 := by rw [mR_wI, mR_wI, mR_wR, if_neg (by omega)]; exact e12
    have a9 : mR (wI (wI (wR σ (x + 9) pa (rt 0)) x 13 ((pa + 1 : Nat) : Int)) x 14 (q : Int)) (x + 10) q = rt (41 + q) := by rw [mR_wI, mR_wI, mR_wR, if_neg (by omega)]; exact ep
    have b13 : mI (wI (wI (wR σ (x + 9) pa (rt 0)) x 13 ((pa + 1 : Nat) : Int)) x 14 (q : Int)) x 14 = (q : Int) := by rw [mIwI2 ⟨rfl, rfl⟩, w32_i (by omega) (by omega)]
    rw [a11, b13, tn, a9]
    refine E2.lg (show mT σ (x + 10) = 105 from t10.1) (E2.lg (show 0 ≤ (q : Int) ∧ (q : Int) < ((mN σ (x + 10) : Nat) : Int) by rw [t10.2]; omega) (E2.ll (E2.ll ?_)))
    obtain ⟨m, hm⟩ : ∃ m, m = wI (wR (wI (wI (wR σ (x + 9) pa (rt 0)) x 13 ((pa + 1 : Nat) : Int)) x 14 (q : Int)) x 8 (rt (41 + q))) x 10 0 := ⟨_, rfl⟩
    rw [← hm]
    have mT' : mT m = mT σ := by rw [hm]; rfl
    have mZ' : mZ m = mZ σ := by rw [hm]; rfl
    have mS' : mS m = mS σ := by rw [hm]; rfl
    have fR : ∀ b j, ¬ (b = x + 9 ∧ j = pa) → ¬ (b = x ∧ j = 8) → mR m b j = mR σ b j := fun b j h1 h2 => by rw [hm, mR_wI, mR_wR, if_neg h2, mR_wI, mR_wI, mR_wR, if_neg h1]
    have m8 : mR m x 8 = rt (41 + q) := by rw [hm, mR_wI, mR_wR, if_pos ⟨rfl, rfl⟩]
    have m9 : mR m (x + 9) pa = rt 0 := by rw [hm, mR_wI, mR_wR, if_neg (by omega), mR_wI, mR_wI, mR_wR, if_pos ⟨rfl, rfl⟩]
    have fI : ∀ j, j ≠ 10 → j ≠ 13 → j ≠ 14 → mI m x j = mI σ x j := fun j h1 h2 h3 => by rw [hm, mIwI1 (by omega), mI_wR, mIwI1 (by omega), mIwI1 (by omega), mI_wR]
    have f10 : mI m x 10 = 0 := by rw [hm, mIwI2 ⟨rfl, rfl⟩, w32_i (by omega) (by omega)]
    have f14 : mI m x 14 = (q : Int) := by rw [hm, mIwI1 (by omega), mI_wR, mIwI2 ⟨rfl, rfl⟩, w32_i (by omega) (by omega)]
    have f13 : mI m x 13 = ((pa + 1 : Nat) : Int) := by rw [hm, mIwI1 (by omega), mI_wR, mIwI1 (by omega), mIwI2 ⟨rfl, rfl⟩, w32_i (by omega) (by omega)]
    have K : Kz (fun a => a = x ∨ a = x + 9 ∨ a = x + 10) σ m := by
      rw [hm]
      exact (((((Kz.rf l.ok).wR (Or.inr (Or.inr (Or.inl rfl)))).wI (Or.inr (Or.inl rfl))).wI (Or.inr (Or.inl rfl))).wR (Or.inr (Or.inl rfl))).wI (Or.inr (Or.inl rfl))
    clear hm a13 a11 a9 b13
    -- the twin
    rw [d16, inc32 (by omega)]
    refine E2.rl ?_
    have X1 : Ex (fun a k => a = h ∧ k = 16) τ1 (wI τ1 h 16 ((pa + 1 : Nat) : Int)) := Ex.rf.I ⟨rfl, rfl⟩
    have g16 : mI (wI τ1 h 16 ((pa + 1 : Nat) : Int)) h 16 = ((pa + 1 : Nat) : Int) := by rw [mIwI2 ⟨rfl, rfl⟩, w32_i (by omega) (by omega)]
    generalize wI τ1 h 16 ((pa + 1 : Nat) : Int) = r0 at X1 g16 ⊢
    rw [g16, show w32 (((pa + 1 : Nat) : Int) - 1) = (pa : Int) by rw [w32_i (by omega) (by omega)]; omega]
    have g15 : mI r0 h 15 = fs := by rw [X1.rI (by omega)]; exact d15
    refine E2.re (t_stepAt g15 d40 (by omega)) ?_
    have vq : rtV nv (pa + 1) (q + 1) (pa + 1) := by unfold rtV; omega
    have lt := tsN_lt (fs := fs) vq n4 (by omega) (by omega)
    have nt40 : tsN fs (pa + 1) ≠ 40 := fun z => absurd (tsN_inj vq (show rtV nv (pa + 1) (q + 1) 0 from Or.inl rfl) n4 (by omega) (by omega) (show tsN fs (pa + 1) = tsN fs 0 from z)) (by omega)
    refine E2.rc (t_copySheet (N := N) (h := h) (τ := r0) (t := 40) (u := tsN fs (pa + 1)) (by omega) (by decide) (by omega) (fun z => nt40 z.symm)) (fun r1 cp1 => ?_)
    have k17 : mI r1 h 17 = ((q + 1 : Nat) : Int) := by rw [cp1.1.rI (by unfold CpP; omega), X1.rI (by omega)]; exact d17
    have k16 : mI r1 h 16 = ((pa + 1 : Nat) : Int) := by rw [cp1.1.rI (by unfold CpP; omega)]; exact g16
    rw [k17, show w32 (((q + 1 : Nat) : Int) - 1) = (q : Int) by rw [w32_i (by omega) (by omega)]; omega]
    refine E2.rl ?_
    have X2 : Ex (fun a k => a = h ∧ k = 17) r1 (wI r1 h 17 (q : Int)) := Ex.rf.I ⟨rfl, rfl⟩
    have j17 : mI (wI r1 h 17 (q : Int)) h 17 = (q : Int) := by rw [mIwI2 ⟨rfl, rfl⟩, w32_i (by omega) (by omega)]
    generalize wI r1 h 17 (q : Int) = r2 at X2 j17 ⊢
    have j16 : mI r2 h 16 = ((pa + 1 : Nat) : Int) := by rw [X2.rI (by omega)]; exact k16
    rw [j17, show w32 (81 + (q : Int)) = ((81 + q : Nat) : Int) by rw [w32_i (by omega) (by omega)]; omega]
    refine E2.rc (t_copySheet (N := N) (h := h) (τ := r2) (t := 81 + q) (u := 40) (by omega) (by omega) (by decide) (by omega)) (fun r3 cp2 => ?_)
    have k16' : mI r3 h 16 = ((pa + 1 : Nat) : Int) := by rw [cp2.1.rI (by unfold CpP; omega)]; exact j16
    have k17' : mI r3 h 17 = (q : Int) := by rw [cp2.1.rI (by unfold CpP; omega)]; exact j17
    have XX : Ex (fun a k => (h + 1 ≤ a ∧ a ≤ h + 5) ∨ (a = h ∧ (k = 0 ∨ k = 16 ∨ k = 17 ∨ k = 65))) τ1 r3 := (((X1.mono (fun a k p => Or.inr ⟨p.1, by omega⟩)).tr (cp1.1.mono (fun a k p => p.md))).tr (X2.mono (fun a k p => Or.inr ⟨p.1, by omega⟩))).tr (cp2.1.mono (fun a k p => p.md))
    have len := fun j (v : rtV nv pa (q + 1) j) => Rt.2.1.len v
    have sT := Rt.2.1.2.2.2.2.1
    have mid1 : ∀ {s S}, S.1.1.length ≤ 32 → S.1.2.length ≤ 10 → ShT τ1 h nv s S → ShT r0 h nv s S := fun n1 n2 k => k.eh X1 (fun a k p => ⟨p.1, by omega, by omega, by omega⟩) n1 n2
    have mid : ∀ {s S}, S.1.1.length ≤ 32 → S.1.2.length ≤ 10 → ShT r1 h nv s S → ShT r2 h nv s S := fun n1 n2 k => k.eh X2 (fun a k p => ⟨p.1, by omega, by omega, by omega⟩) n1 n2
    have e81 : tsN fs (41 + q) = 81 + q := by unfold tsN; rw [if_neg (by omega), if_neg (by omega), if_pos (by omega)]; omega
    have inj : ∀ {i j}, rtV nv (pa + 1) (q + 1) i → rtV nv (pa + 1) (q + 1) j → tsN fs i = tsN fs j → i = j := fun a b e => tsN_inj a b n4 (by omega) (by omega) e
    have RR : Rl x h t nv (pa + 1) q fs (fun i => Gs (if i = 0 then 41 + q else if i = pa + 1 then 0 else i)) g own (fun i => rt (if i = 0 then 41 + q else if i = pa + 1 then 0 else i)) m r3 := by
      refine Rt.re (p := fun i => if i = 0 then 41 + q else if i = pa + 1 then 0 else i) (by omega) (fun i hi => ?_) (fun i j hi hj e => ?_) (fun k => ?_) (fun i hi => ?_) K (fun j hj => fR x j (by omega) (by omega)) fI f10 f13 f14 mT' (fun i hi => ?_) XX (fun a k p => p) k16' k17' (cp2.2.2.2.2.2.2 rfl) (fun i hi => ?_) (cp2.bd (by omega) (bd_eh X2 (fun a k p => p.1) (cp1.bd (by decide) (bd_eh X1 (fun a k p => p.1) Rt.2.1.2.2.1))))
      · (try dsimp only)
        unfold rtV at hi ⊢; split
        · omega
        · split <;> omega
      · (try dsimp only at e)
        unfold rtV at hi hj
        split at e <;> split at e <;> (try split at e) <;> (try split at e) <;> omega
      · (try dsimp only)
        rw [if_neg (by omega), if_neg (by omega)]
      · (try dsimp only)
        unfold Vi
        by_cases c0 : i = 0
        · rw [if_pos c0, if_neg (by omega), if_neg (by omega)]
        · rw [if_neg c0]
          by_cases c1 : i = pa + 1
          · rw [if_pos c1, if_neg (by omega), if_neg (by omega)]
          · rw [if_neg c1]
      · have hi' : i ≠ 0 → i ≠ pa + 1 → rtV nv pa (q + 1) i := fun a b => by unfold rtV at hi ⊢; omega
        (try dsimp only)
        by_cases c0 : i = 0
        · rw [if_pos c0]; unfold rtA; rw [if_pos c0]; exact m8
        · rw [if_neg c0]
          by_cases c1 : i = pa + 1
          · rw [if_pos c1]; unfold rtA; rw [if_neg c0, if_pos (by omega), c1, Nat.add_sub_cancel]; exact m9
          · rw [if_neg c1, ← R.1.2.2.2.2.1 i (hi' c0 c1)]
            unfold rtA
            rw [if_neg c0, if_neg c0]
            by_cases c2 : i ≤ 40
            · rw [if_pos c2, if_pos c2]; exact fR _ _ (by omega) (by omega)
            · rw [if_neg c2, if_neg c2]
              by_cases c3 : i ≤ 80
              · rw [if_pos c3, if_pos c3]; exact fR _ _ (by omega) (by omega)
              · rw [if_neg c3, if_neg c3, fR (x + 2) _ (by omega) (by omega)]
                have v := (R.1.vo (i - 81) (by unfold rtV at hi; omega)).1
                exact fR _ _ (fun e => by rw [e.1, t9.1] at v; omega) (fun e => by rw [e.1, l.1.1] at v; omega)
      · (try dsimp only)
        have hiB : rtV nv (pa + 1) (q + 1) i := by unfold rtV at hi ⊢; omega
        by_cases c0 : i = 0
        · rw [if_pos c0, c0]
          have vo : rtV nv pa (q + 1) (41 + q) := by unfold rtV; omega
          have n := len _ vo
          have k0 := sT _ vo
          rw [e81] at k0
          exact (mid n.1 n.2 ((mid1 n.1 n.2 k0).cpo cp1 (by rw [← e81]; exact fun z => absurd (inj (show rtV nv (pa + 1) (q + 1) (41 + q) by unfold rtV; omega) vq z) (by omega)) n.1 n.2)).cp cp2 n.1 n.2
        · rw [if_neg c0]
          have z0 : tsN fs i ≠ 40 := fun z => c0 (inj hiB (show rtV nv (pa + 1) (q + 1) 0 from Or.inl rfl) (show tsN fs i = tsN fs 0 from z))
          by_cases c1 : i = pa + 1
          · rw [if_pos c1]
            have n := len 0 (Or.inl rfl)
            have k0 : ShT r2 h nv (tsN fs (pa + 1)) (Gs 0) := mid n.1 n.2 ((mid1 n.1 n.2 (sT 0 (Or.inl rfl))).cp cp1 n.1 n.2)
            rw [c1]
            exact k0.cpo cp2 nt40 n.1 n.2
          · rw [if_neg c1]
            have hi' : rtV nv pa (q + 1) i := by unfold rtV at hi ⊢; omega
            have n := len i hi'
            exact (mid n.1 n.2 ((mid1 n.1 n.2 (sT i hi')).cpo cp1 (fun z => c1 (inj hiB vq z)) n.1 n.2)).cpo cp2 z0 n.1 n.2
    refine E2.r ⟨⟨_, _, _, _, _, _, _, _, RR.t1⟩, ⟨K.mono (fun a w => by unfold NoT; omega), 0, ?_, ?_, ?_⟩, X0.tr (XX.mono (fun a k p => by unfold TwA; omega)), Or.inl ⟨(q : Int), ?_, k17', ?_, by rw [← k17']; exact mI_rng _ _ _⟩⟩
    · show mI m x 17 = _
      rw [fI 17 (by decide) (by decide) (by decide)]; omega
    · show mZ m ≤ _; omega
    · show mS m ≤ _; omega
    · show (Sum.inl (some (vI (mI m x 14))) : Option gV ⊕ String) = _
      rw [f14]
    · show mI r3 h 0 = 0
      rw [cp2.1.rI (by unfold CpP; omega), X2.rI (by omega), cp1.1.rI (by unfold CpP; omega), X1.rI (by omega)]; exact i0
end State14
