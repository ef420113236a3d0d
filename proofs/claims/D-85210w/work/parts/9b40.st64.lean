/-! ===== PHASE 2: copying: the reference's parts elsewhere ===== -/
section State64
theorem Ev.e' {α : Type} {x : Option α} {a : α} {Φ : α → Prop} (e : x = some a) (h : Φ a) : Ev x Φ := ⟨a, e, h⟩
variable {N h nv q d s0 M : Nat} {τ τ' r s : gMem} {P : Nat → Nat → Prop} {f : Int → List Int × List Int} {dr dc : Int} {l : Fm} {p : Pt}
theorem t_further {S : Nat} {ax m e : Int} (hN : 40 ≤ N) (hs : S < 122) (h0 : 0 ≤ tLn τ h S ax) (hm : tLn τ h S ax ≤ axM ax) : tw_further N h S ax m e τ = some (mvd (tLs τ h S ax) m e) := by
  have a32 : axM ax ≤ 32 := by unfold axM; split <;> omega
  have L : ((tLs τ h S ax).length : Int) = tLn τ h S ax := by unfold tLs; rw [lst_len]; omega
  have pg := pl_ge (tLs τ h S ax) m
  unfold tw_further mvd
  rw [t_placeOf hs h0 hm hN, Option.bind_some]
  by_cases e1 : pl (tLs τ h S ax) m = -1
  · rw [if_pos (by omega), if_pos e1]
  · rw [if_neg (by omega), if_neg e1, t_linesOf hs, Option.bind_some, t_in, Option.bind_some, w32_i (x := tLn τ h S ax - 1) (by omega) (by omega)]
    by_cases e2 : 0 ≤ w32 (pl (tLs τ h S ax) m + e) ∧ w32 (pl (tLs τ h S ax) m + e) ≤ tLn τ h S ax - 1
    · rw [if_pos e2, if_pos (by decide), if_pos (by omega)]
      obtain ⟨k, hk⟩ : ∃ k : Nat, w32 (pl (tLs τ h S ax) m + e) = (k : Int) := ⟨(w32 (pl (tLs τ h S ax) m + e)).toNat, by omega⟩
      rw [hk, t_lineAt hs (by omega), Option.bind_some, tn]
      have : gl (tLs τ h S ax) k = tLi τ h S ax k := by unfold tLs; exact gl_lst (by omega)
      rw [this]
    · rw [if_neg e2, if_neg (by decide), if_neg (by omega)]
theorem bAnd_b : ∀ n, n < 32 → (bAnd ((n : Nat) : Int) 2 ≤ 0 ↔ fxR1 n = false) ∧ (bAnd ((n : Nat) : Int) 1 ≤ 0 ↔ fxC1 n = false) ∧ (bAnd ((n : Nat) : Int) 8 ≤ 0 ↔ fxR1 (n / 4) = false) ∧ (bAnd ((n : Nat) : Int) 4 ≤ 0 ↔ fxC1 (n / 4) = false) := by decide
theorem fx16 {n : Nat} : fxR1 (n + 16) = fxR1 n ∧ fxC1 (n + 16) = fxC1 n ∧ fxR1 ((n + 16) / 4) = fxR1 (n / 4) ∧ fxC1 ((n + 16) / 4) = fxC1 (n / 4) := by
  unfold fxR1 fxC1
  exact ⟨decide_eq_decide.mpr (by omega), decide_eq_decide.mpr (by omega), decide_eq_decide.mpr (by omega), decide_eq_decide.mpr (by omega)⟩
theorem t_sh0 {v6 v7 v8 v9 v10 : Int} (hq : q < 60420) : tw_shift_j207 N h q v6 v7 v8 v9 v10 0 s = some (wI (wI (wI (wI (wI (wI (wI s (h + 14) q 4) (h + 24) q 0) (h + 25) q (-1)) (h + 20) q (-1)) (h + 21) q (-1)) (h + 22) q (-1)) (h + 23) q (-1)) := by
  have b : 0 ≤ (q : Int) ∧ (q : Int) < ((60420 : Nat) : Int) := by omega
  have E : Ev (tw_shift_j207 N h q v6 v7 v8 v9 v10 0 s) (fun r => r = wI (wI (wI (wI (wI (wI (wI s (h + 14) q 4) (h + 24) q 0) (h + 25) q (-1)) (h + 20) q (-1)) (h + 21) q (-1)) (h + 22) q (-1)) (h + 23) q (-1)) := by
    unfold tw_shift_j207
    refine Ev.f (fun z => z rfl) (Ev.g b (Ev.l (Ev.g b (Ev.l (Ev.g b (Ev.l ?_))))))
    unfold tw_shift_j235
    refine Ev.g rfl ?_
    unfold tw_shift_j251
    refine Ev.g b (Ev.l (Ev.g rfl ?_))
    unfold tw_shift_j268
    refine Ev.g b (Ev.l (Ev.g rfl ?_))
    unfold tw_shift_j289 tw_shift_j290
    exact Ev.g b (Ev.l (Ev.g rfl (Ev.g b (Ev.l (Ev.r rfl)))))
  obtain ⟨r, e, e2⟩ := E
  rw [e, e2]
theorem t_sh1 {v6 v7 v8 v9 v10 : Int} (hq : q < 60420) : tw_shift_j207 N h q v6 v7 v8 v9 v10 1 s = some (wI (wI (wI (wI s (h + 20) q v7) (h + 21) q v8) (h + 22) q (if v6 = 0 then -1 else v9)) (h + 23) q (if v6 = 0 then -1 else v10)) := by
  have b : 0 ≤ (q : Int) ∧ (q : Int) < ((60420 : Nat) : Int) := by omega
  have n1 : ¬ (1 : Int) = 0 := by decide
  have E : Ev (tw_shift_j207 N h q v6 v7 v8 v9 v10 1 s) (fun r => r = wI (wI (wI (wI s (h + 20) q v7) (h + 21) q v8) (h + 22) q (if v6 = 0 then -1 else v9)) (h + 23) q (if v6 = 0 then -1 else v10)) := by
    unfold tw_shift_j207
    refine Ev.g n1 ?_
    unfold tw_shift_j235
    refine Ev.f n1 ?_
    unfold tw_shift_j251
    refine Ev.g b (Ev.l (Ev.f n1 ?_))
    unfold tw_shift_j268
    refine Ev.g b (Ev.l (Ev.f n1 ?_))
    by_cases e : v6 = 0
    · refine Ev.g e ?_
      unfold tw_shift_j289 tw_shift_j290
      refine Ev.g b (Ev.l (Ev.f n1 (Ev.g e (Ev.g b (Ev.l (Ev.r ?_))))))
      rw [if_pos e, if_pos e]; rfl
    · refine Ev.f e ?_
      unfold tw_shift_j290
      refine Ev.g b (Ev.l (Ev.f n1 (Ev.f e (Ev.g b (Ev.l (Ev.r ?_))))))
      rw [if_neg e, if_neg e]; rfl
  obtain ⟨r, e, e2⟩ := E
  rw [e, e2]
/-- the lines that a part means -/
def LnF (τ : gMem) (h nv : Nat) (f : Int → List Int × List Int) : Prop := (∀ s, s < 122 → 0 ≤ tLn τ h s 0 ∧ tLn τ h s 0 ≤ 32 ∧ 0 ≤ tLn τ h s 1 ∧ tLn τ h s 1 ≤ 10) ∧ nv ≤ 40 ∧ ∀ v : Int, -1 ≤ v → v < nv → f v = (tLs τ h (shn 40 v) 0, tLs τ h (shn 40 v) 1)
theorem LnF.ex (L : LnF τ h nv f) (e : Ex P τ τ') (hP : ∀ o k, 1 ≤ o → o ≤ 4 → ¬ P (h + o) k) : LnF τ' h nv f := by
  obtain ⟨l1, l2, l3⟩ := L
  refine ⟨fun s hs => ?_, l2, fun v h1 h2 => ?_⟩
  · rw [tLn.ex e hP, tLn.ex e hP]; exact l1 s hs
  · rw [tLs.ex e hP, tLs.ex e hP]; exact l3 v h1 h2
def ShPl (h q a k : Nat) : Prop := (a = h + 14 ∨ (h + 20 ≤ a ∧ a ≤ h + 25)) ∧ k = q
/-- a place is moved -/
theorem t_shift {F : Nat} (hN : 40 ≤ N) (L : LnF τ h nv f) (lt : LabT τ h q p) (po : PtOk p) (hk : pK p = 5 ∨ pK p = 6) (hF : mI τ (h + 24) q = (F : Int)) (hF' : F = pF p ∨ F = pF p + 16) (hw : pW p < nv) : Ev (tw_shift N h q dr dc τ) (fun r => Ex (ShPl h q) τ r ∧ LabT r h q (shP f dr dc p) ∧ mI r (h + 24) q = (if pK (shP f dr dc p) = 4 then 0 else (F : Int))) := by
  obtain ⟨l1, l2, l3, l4, ⟨at', l5, l6, l7⟩, l8, l9, l10, l11, l12, l13, l14⟩ := lt
  obtain ⟨L1, L2, L3⟩ := L
  have w0 : -1 ≤ pW p ∧ pF p < 16 ∧ 0 ≤ pR1 p ∧ 0 ≤ pC1 p := by
    rcases hk with hk | hk
    · have := po.inv5 hk; omega
    · have := po.inv6 hk; omega
  have eF : (fxR1 F = fxR1 (pF p)) ∧ (fxC1 F = fxC1 (pF p)) ∧ (fxR1 (F / 4) = fxR1 (pF p / 4)) ∧ (fxC1 (F / 4) = fxC1 (pF p / 4)) := by
    rcases hF' with e | e
    · rw [e]; exact ⟨rfl, rfl, rfl, rfl⟩
    · rw [e]; exact fx16
  obtain ⟨B1, B2, B3, B4⟩ := bAnd_b F (by omega)
  rw [eF.1] at B1; rw [eF.2.1] at B2; rw [eF.2.2.1] at B3; rw [eF.2.2.2] at B4
  have hf := L3 (pW p) w0.1 hw
  have S40 := shn_lt (s := 40) (ver := pW p) (by decide) (by omega)
  have S := L1 (shn 40 (pW p)) (by omega)
  have b : 0 ≤ (q : Int) ∧ (q : Int) < ((60420 : Nat) : Int) := by omega
  have FR : ∀ m e, tw_further N h (shn 40 (pW p)) 0 m e τ = some (mvd (f (pW p)).1 m e) := fun m e => by
    rw [t_further hN (by omega) (by omega) (by show _ ≤ ((32 : Nat) : Int); omega), hf]
  have FC : ∀ m e, tw_further N h (shn 40 (pW p)) 1 m e τ = some (mvd (f (pW p)).2 m e) := fun m e => by
    rw [t_further hN (by omega) (by omega) (by show _ ≤ ((10 : Nat) : Int); omega), hf]
  have so : tw_sheetOf h q 40 τ = some ((shn 40 (pW p) : Nat) : Int) := by
    unfold tw_sheetOf shn
    rw [if_pos b, tn, l14]
    by_cases c : pW p < 0
    · rw [if_neg (by omega), if_pos c]; rfl
    · rw [if_pos (by omega), if_pos b, if_neg c]
      exact congrArg some (by omega)
  obtain ⟨R, hR⟩ : ∃ R, R = mvx (fxR1 (pF p)) (f (pW p)).1 (pR1 p) dr := ⟨_, rfl⟩
  obtain ⟨C, hC⟩ : ∃ C, C = mvx (fxC1 (pF p)) (f (pW p)).2 (pC1 p) dc := ⟨_, rfl⟩
  have k14 : mI τ (h + 14) q = pK p := l2
  -- the first corner
  have ST : ∀ v6 : Int, tw_shift_j33 N h q dr dc ((shn 40 (pW p) : Nat) : Int) (F : Int) v6 τ = tw_shift_j97 N h q dr dc ((shn 40 (pW p) : Nat) : Int) (F : Int) v6 R C τ := by
    intro v6
    have T2 : tw_shift_j65 N h q dr dc ((shn 40 (pW p) : Nat) : Int) (F : Int) v6 R τ = tw_shift_j97 N h q dr dc ((shn 40 (pW p) : Nat) : Int) (F : Int) v6 R C τ := by
      unfold tw_shift_j65
      rw [hC]; unfold mvx
      cases e : fxC1 (pF p) with
      | false => rw [if_pos (B2.mpr e), if_pos b, tn, l10, FC, Option.bind_some]; rfl
      | true => rw [if_neg (fun z => by have := B2.mp z; rw [e] at this; cases this), if_pos b, tn, l10]; rfl
    rw [← T2]
    unfold tw_shift_j33
    rw [hR]; unfold mvx
    cases e : fxR1 (pF p) with
    | false => rw [if_pos (B1.mpr e), if_pos b, tn, l9, FR, Option.bind_some]; rfl
    | true => rw [if_neg (fun z => by have := B1.mp z; rw [e] at this; cases this), if_pos b, tn, l9]; rfl
  -- what is written
  have gR : ∀ b L m e, g32 m → (∀ i, g32 (gl L i)) → g32 (mvx b L m e) := fun b L m e h1 h2 => by
    unfold mvx mvd
    split
    · exact h1
    · split
      · unfold g32; omega
      · split
        · exact h2 _
        · unfold g32; omega
  have gL : ∀ S ax i, g32 (gl (tLs τ h S ax) i) := fun S ax i => by
    by_cases c : i < (tLs τ h S ax).length
    · unfold tLs at c ⊢
      rw [lst_len] at c
      rw [gl_lst c]
      unfold tLi
      split <;> exact mI_rng _ _ _
    · unfold gl; rw [List.getElem?_eq_none (by omega)]; show g32 0; unfold g32; omega
  have g1 : ∀ k, g32 (mI τ k q) := fun k => mI_rng _ _ _
  have gr : g32 R := by rw [hR, hf, ← l9]; exact gR _ _ _ _ (g1 _) (gL _ _)
  have gc : g32 C := by rw [hC, hf, ← l10]; exact gR _ _ _ _ (g1 _) (gL _ _)
  unfold g32 at gr gc
  have X0 : ∀ {v6 v7 v8 v9 v10 : Int}, shP f dr dc p = mkR → Ev (tw_shift_j207 N h q v6 v7 v8 v9 v10 0 τ) (fun r => Ex (ShPl h q) τ r ∧ LabT r h q (shP f dr dc p) ∧ mI r (h + 24) q = (if pK (shP f dr dc p) = 4 then 0 else (F : Int))) := by
    intro v6 v7 v8 v9 v10 ep
    refine Ev.e' (t_sh0 l1) ?_
    have pa : pA p = 0 ∧ pV p = 0 ∧ (pX p).length = 0 := by
      rcases po with ⟨n, rfl, -⟩ | ⟨t, rfl, -⟩ | ⟨b, rfl⟩ | rfl | ⟨r, c, f, v, rfl, -⟩ | ⟨r, c, r', c', f, v, rfl, -⟩ | ⟨k, n, rfl, kk⟩
      · rcases hk with hk | hk <;> cases hk
      · rcases hk with hk | hk <;> cases hk
      · rcases hk with hk | hk <;> cases hk
      · rcases hk with hk | hk <;> cases hk
      · exact ⟨rfl, rfl, rfl⟩
      · exact ⟨rfl, rfl, rfl⟩
      · have : pK (mkO k n) = k := rfl
        omega
    have X : Ex (ShPl h q) τ (wI (wI (wI (wI (wI (wI (wI τ (h + 14) q 4) (h + 24) q 0) (h + 25) q (-1)) (h + 20) q (-1)) (h + 21) q (-1)) (h + 22) q (-1)) (h + 23) q (-1)) := by
      refine ((((((Ex.rf.I ?_).I ?_).I ?_).I ?_).I ?_).I ?_).I ?_ <;> (unfold ShPl; omega)
    rw [ep]
    refine ⟨X, ⟨l1, ?_, ?_, ?_, ⟨at', ?_, ?_, fun i hi => absurd hi (Nat.not_lt_zero _)⟩, ?_, ?_, ?_, ?_, ?_, Or.inl ?_, ?_⟩, ?_⟩
    · simp (disch := omega) only [mIwI1, mIwI2, w32_i]; rfl
    · rw [X.rI (by unfold ShPl; omega), l3, pa.1]; rfl
    · rw [X.rL (by unfold ShPl; omega), l4, pa.2.1]; rfl
    · rw [X.rI (by unfold ShPl; omega)]; exact l5
    · show at' + 0 ≤ _; omega
    · rw [X.rI (by unfold ShPl; omega), l8, pa.2.2]; rfl
    · simp (disch := omega) only [mIwI1, mIwI2, w32_i]; rfl
    · simp (disch := omega) only [mIwI1, mIwI2, w32_i]; rfl
    · simp (disch := omega) only [mIwI1, mIwI2, w32_i]; rfl
    · simp (disch := omega) only [mIwI1, mIwI2, w32_i]; rfl
    · simp (disch := omega) only [mIwI1, mIwI2, w32_i]; rfl
    · simp (disch := omega) only [mIwI1, mIwI2, w32_i]; rfl
    · rw [if_pos (show pK mkR = 4 from rfl)]; simp (disch := omega) only [mIwI1, mIwI2, w32_i]
  unfold tw_shift
  rw [so, Option.bind_some, if_pos b, tn, if_pos b, k14, hF]
  rcases hk with hk | hk
  · -- a cell
    rw [if_pos (by rw [hk]; decide), ST]
    unfold tw_shift_j97 tw_shift_j139 tw_shift_j180
    rw [if_neg (fun z => z rfl), if_neg (fun z => z rfl)]
    have ep : shP f dr dc p = if R < 0 ∨ C < 0 then mkR else mkS R C (pF p) (pW p) := by unfold shP; rw [if_pos hk, ← hR, ← hC]
    by_cases c1 : R < 0
    · rw [if_pos c1]; unfold tw_shift_j206
      exact X0 (by rw [ep, if_pos (Or.inl c1)])
    · rw [if_neg c1]
      by_cases c2 : C < 0
      · rw [if_pos c2]; unfold tw_shift_j206
        exact X0 (by rw [ep, if_pos (Or.inr c2)])
      · rw [if_neg c2, if_neg (by decide), if_neg (by decide)]
        refine Ev.e' (t_sh1 l1) ?_
        rw [if_neg (show ¬ (R < 0 ∨ C < 0) by omega)] at ep
        rw [ep, show (if (0 : Int) = 0 then (-1 : Int) else 0) = -1 from if_pos rfl]
        have X : Ex (ShPl h q) τ (wI (wI (wI (wI τ (h + 20) q R) (h + 21) q C) (h + 22) q (-1)) (h + 23) q (-1)) := by
          refine (((Ex.rf.I ?_).I ?_).I ?_).I ?_ <;> (unfold ShPl; omega)
        have pp : p = mkS (pR1 p) (pC1 p) (pF p) (pW p) := by
          rcases po with ⟨n, rfl, -⟩ | ⟨t, rfl, -⟩ | ⟨b, rfl⟩ | rfl | ⟨r, c, f, v, rfl, -⟩ | ⟨r, c, r', c', f, v, rfl, -⟩ | ⟨k, n, rfl, kk⟩
          · cases hk
          · cases hk
          · cases hk
          · cases hk
          · rfl
          · cases hk
          · have : pK (mkO k n) = k := rfl
            omega
        have x0 : (pX p).length = 0 := by rw [pp]; rfl
        have a0 : pA p = 0 := by rw [pp]; rfl
        have v0 : pV p = 0 := by rw [pp]; rfl
        refine ⟨X, ⟨l1, ?_, ?_, ?_, ⟨at', ?_, ?_, fun i hi => absurd hi (Nat.not_lt_zero _)⟩, ?_, ?_, ?_, ?_, ?_, ?_, ?_⟩, ?_⟩
        · rw [mIwI1 (by omega), mIwI1 (by omega), mIwI1 (by omega), mIwI1 (by omega), l2, hk]; rfl
        · rw [mIwI1 (by omega), mIwI1 (by omega), mIwI1 (by omega), mIwI1 (by omega), l3, a0]; rfl
        · show mL τ (h + 17) q = _; rw [l4, v0]; rfl
        · rw [mIwI1 (by omega), mIwI1 (by omega), mIwI1 (by omega), mIwI1 (by omega)]; exact l5
        · show at' + 0 ≤ _; omega
        · rw [mIwI1 (by omega), mIwI1 (by omega), mIwI1 (by omega), mIwI1 (by omega), l8, x0]; rfl
        · simp (disch := omega) only [mIwI1, mIwI2, w32_i]; rfl
        · simp (disch := omega) only [mIwI1, mIwI2, w32_i]; rfl
        · simp (disch := omega) only [mIwI1, mIwI2, w32_i]; rfl
        · simp (disch := omega) only [mIwI1, mIwI2, w32_i]; rfl
        · rw [mIwI1 (by omega), mIwI1 (by omega), mIwI1 (by omega), mIwI1 (by omega)]; exact l13
        · rw [mIwI1 (by omega), mIwI1 (by omega), mIwI1 (by omega), mIwI1 (by omega), l14]; rfl
        · rw [if_neg (show ¬ pK (mkS R C (pF p) (pW p)) = 4 by show ¬ (5 : Nat) = 4; decide), mIwI1 (by omega), mIwI1 (by omega), mIwI1 (by omega), mIwI1 (by omega)]; exact hF
  · -- an area
    rw [if_neg (by rw [hk]; decide), ST]
    obtain ⟨R2, hR2⟩ : ∃ R2, R2 = mvx (fxR1 (pF p / 4)) (f (pW p)).1 (pR2 p) dr := ⟨_, rfl⟩
    obtain ⟨C2, hC2⟩ : ∃ C2, C2 = mvx (fxC1 (pF p / 4)) (f (pW p)).2 (pC2 p) dc := ⟨_, rfl⟩
    have gr2 : g32 R2 := by rw [hR2, hf, ← l11]; exact gR _ _ _ _ (g1 _) (gL _ _)
    have gc2 : g32 C2 := by rw [hC2, hf, ← l12]; exact gR _ _ _ _ (g1 _) (gL _ _)
    unfold g32 at gr2 gc2
    have T3 : tw_shift_j97 N h q dr dc ((shn 40 (pW p) : Nat) : Int) (F : Int) 1 R C τ = tw_shift_j180 N h q 1 R C R2 C2 τ := by
      have T4 : tw_shift_j139 N h q dc ((shn 40 (pW p) : Nat) : Int) (F : Int) 1 R C R2 τ = tw_shift_j180 N h q 1 R C R2 C2 τ := by
        unfold tw_shift_j139
        rw [if_pos (by decide), hC2]; unfold mvx
        cases e : fxC1 (pF p / 4) with
        | false => rw [if_pos (B4.mpr e), if_pos b, tn, l12, FC, Option.bind_some]; rfl
        | true => rw [if_neg (fun z => by have := B4.mp z; rw [e] at this; cases this), if_pos b, tn, l12]; rfl
      rw [← T4]
      unfold tw_shift_j97
      rw [if_pos (by decide), hR2]; unfold mvx
      cases e : fxR1 (pF p / 4) with
      | false => rw [if_pos (B3.mpr e), if_pos b, tn, l11, FR, Option.bind_some]; rfl
      | true => rw [if_neg (fun z => by have := B3.mp z; rw [e] at this; cases this), if_pos b, tn, l11]; rfl
    rw [T3]
    unfold tw_shift_j180
    have ep : shP f dr dc p = if R < 0 ∨ C < 0 ∨ R2 < 0 ∨ C2 < 0 then mkR else mkA R C R2 C2 (pF p) (pW p) := by unfold shP; rw [if_neg (by omega), if_pos hk, ← hR, ← hC, ← hR2, ← hC2]
    by_cases c1 : R < 0
    · rw [if_pos c1]; unfold tw_shift_j206
      exact X0 (by rw [ep, if_pos (by omega)])
    · rw [if_neg c1]
      by_cases c2 : C < 0
      · rw [if_pos c2]; unfold tw_shift_j206
        exact X0 (by rw [ep, if_pos (by omega)])
      · rw [if_neg c2]
        by_cases c3 : R2 < 0
        · rw [if_pos c3]; unfold tw_shift_j206
          exact X0 (by rw [ep, if_pos (by omega)])
        · rw [if_neg c3]
          by_cases c4 : C2 < 0
          · rw [if_pos c4]; unfold tw_shift_j206
            exact X0 (by rw [ep, if_pos (by omega)])
          · rw [if_neg c4]
            refine Ev.e' (t_sh1 l1) ?_
            rw [if_neg (show ¬ (R < 0 ∨ C < 0 ∨ R2 < 0 ∨ C2 < 0) by omega)] at ep
            have z1 : ∀ y : Int, (if (1 : Int) = 0 then (-1 : Int) else y) = y := fun y => if_neg (by decide)
            rw [ep, z1, z1]
            have X : Ex (ShPl h q) τ (wI (wI (wI (wI τ (h + 20) q R) (h + 21) q C) (h + 22) q R2) (h + 23) q C2) := by
              refine (((Ex.rf.I ?_).I ?_).I ?_).I ?_ <;> (unfold ShPl; omega)
            have pp : p = mkA (pR1 p) (pC1 p) (pR2 p) (pC2 p) (pF p) (pW p) := by
              rcases po with ⟨n, rfl, -⟩ | ⟨t, rfl, -⟩ | ⟨b, rfl⟩ | rfl | ⟨r, c, f, v, rfl, -⟩ | ⟨r, c, r', c', f, v, rfl, -⟩ | ⟨k, n, rfl, kk⟩
              · cases hk
              · cases hk
              · cases hk
              · cases hk
              · cases hk
              · rfl
              · have : pK (mkO k n) = k := rfl
                omega
            have x0 : (pX p).length = 0 := by rw [pp]; rfl
            have a0 : pA p = 0 := by rw [pp]; rfl
            have v0 : pV p = 0 := by rw [pp]; rfl
            refine ⟨X, ⟨l1, ?_, ?_, ?_, ⟨at', ?_, ?_, fun i hi => absurd hi (Nat.not_lt_zero _)⟩, ?_, ?_, ?_, ?_, ?_, ?_, ?_⟩, ?_⟩
            · rw [mIwI1 (by omega), mIwI1 (by omega), mIwI1 (by omega), mIwI1 (by omega), l2, hk]; rfl
            · rw [mIwI1 (by omega), mIwI1 (by omega), mIwI1 (by omega), mIwI1 (by omega), l3, a0]; rfl
            · show mL τ (h + 17) q = _; rw [l4, v0]; rfl
            · rw [mIwI1 (by omega), mIwI1 (by omega), mIwI1 (by omega), mIwI1 (by omega)]; exact l5
            · show at' + 0 ≤ _; omega
            · rw [mIwI1 (by omega), mIwI1 (by omega), mIwI1 (by omega), mIwI1 (by omega), l8, x0]; rfl
            · simp (disch := omega) only [mIwI1, mIwI2, w32_i]; rfl
            · simp (disch := omega) only [mIwI1, mIwI2, w32_i]; rfl
            · simp (disch := omega) only [mIwI1, mIwI2, w32_i]; rfl
            · simp (disch := omega) only [mIwI1, mIwI2, w32_i]; rfl
            · rw [mIwI1 (by omega), mIwI1 (by omega), mIwI1 (by omega), mIwI1 (by omega)]; exact l13
            · rw [mIwI1 (by omega), mIwI1 (by omega), mIwI1 (by omega), mIwI1 (by omega), l14]; rfl
            · rw [if_neg (show ¬ pK (mkA R C R2 C2 (pF p) (pW p)) = 4 by show ¬ (6 : Nat) = 4; decide), mIwI1 (by omega), mIwI1 (by omega), mIwI1 (by omega), mIwI1 (by omega)]; exact hF
end State64
