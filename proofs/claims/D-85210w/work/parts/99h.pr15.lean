/-! ===== PHASE 2: reading: corners in sheets, what is told late ===== -/
section Read15
variable {N x h hi all nv sh M lu0 b b' p q op pa pi : Nat} {bA : Nat → Int} {f : Int → List Int × List Int} {σ σ' σ'' τ τ' τ'' s r σ0 τ0 σ1 τ2 : gMem} {p0 pa0 nd k lu : Nat}
/-- a corner's node -/
def CorN (σ : gMem) (c : Nat) (r k : Int) (fx : Nat) : Prop := mT σ c = 14 ∧ mI σ c 0 = r ∧ mI σ c 1 = k ∧ cfx σ c = fx ∧ bz1 (mI σ c 2) ∧ bz1 (mI σ c 3)
theorem c_cornerOf {a : Nat} {R C : List Int} (hN : 500 ≤ N) (c : CR x hi all nv sh bA f s) (hc : isC bA p = true) (h3 : ck3 bA p ≤ hi) (sl : a ≠ 0 → ShL s a R C) : Ev (x6_cornerOf N (x + 1429) p (ck3 bA p) a s) (fun y => CF x s y.2 1 ∧ (∀ j, mI y.2 (x + 1429) j = mI s (x + 1429) j) ∧ ((¬ (a ≠ 0 ∧ 1 ≤ cRow bA p ∧ cRow bA p ≤ R.length ∧ 1 ≤ cCol bA p ∧ cCol bA p ≤ C.length) ∧ y.1 = 0) ∨ ((a ≠ 0 ∧ 1 ≤ cRow bA p ∧ cRow bA p ≤ R.length ∧ 1 ≤ cCol bA p ∧ cCol bA p ≤ C.length) ∧ y.1 ≠ 0 ∧ mZ s ≤ y.1 ∧ CorN y.2 y.1 (gl R (cRow bA p - 1).toNat) (gl C (cCol bA p - 1).toNat) (cFix bA p)))) := by
  have L := ck_le bA p
  obtain ⟨i1, i2, i3, i4⟩ := isC_inv hc
  obtain ⟨d1, d2, d3, d4⟩ := isC_dig hc
  have tx := c.1.2.2.2.2.2.2.2
  have h4 : hi ≤ 400 := by have := tx.2.2.1; have := tx.2.2.2; omega
  have lt := c.lt
  -- what comes of the two marks
  have J72 : ∀ (v5 v7 : Int), (v5 = if bA p = 36 then 1 else 0) → (v7 = if bA (ck1 bA p + 1) = 36 then 1 else 0) → Ev (x6_cornerOf_j72 N (x + 1429) (ck3 bA p : Nat) a (ck2 bA p : Nat) v5 (cCol bA p - 1) v7 s) (fun y => CF x s y.2 1 ∧ (∀ j, mI y.2 (x + 1429) j = mI s (x + 1429) j) ∧ ((¬ (a ≠ 0 ∧ 1 ≤ cRow bA p ∧ cRow bA p ≤ R.length ∧ 1 ≤ cCol bA p ∧ cCol bA p ≤ C.length) ∧ y.1 = 0) ∨ ((a ≠ 0 ∧ 1 ≤ cRow bA p ∧ cRow bA p ≤ R.length ∧ 1 ≤ cCol bA p ∧ cCol bA p ≤ C.length) ∧ y.1 ≠ 0 ∧ mZ s ≤ y.1 ∧ CorN y.2 y.1 (gl R (cRow bA p - 1).toNat) (gl C (cCol bA p - 1).toNat) (cFix bA p)))) := by
    intro v5 v7 e5 e7
    have b5 : v5 = 0 ∨ v5 = 1 := by rw [e5]; split <;> omega
    have b7 : v7 = 0 ∨ v7 = 1 := by rw [e7]; split <;> omega
    unfold x6_cornerOf_j72
    refine Ev.g c.1.1 (Ev.e (c_dig hN c.1 h3 (by omega) d1 (by omega)) ?_)
    rw [d2]
    have wr : w32 (cRow bA p - 1) = cRow bA p - 1 := w32_i (by omega) (by omega)
    rw [wr]
    by_cases a0 : a = 0
    · exact Ev.g a0 (Ev.r ⟨(CF.rf c).mono (by omega), fun _ => rfl, Or.inl ⟨fun z => z.1 a0, rfl⟩⟩)
    · have sl' := sl a0
      have sl2 := sl'
      obtain ⟨s1, s2, s3, s4⟩ := sl2
      refine Ev.f a0 (Ev.g s1 (Ev.e (c_has sl') ?_))
      have cc : 1 ≤ cCol bA p := by unfold cCol; omega
      by_cases th : 0 ≤ cRow bA p - 1 ∧ cRow bA p - 1 < R.length ∧ 0 ≤ cCol bA p - 1 ∧ cCol bA p - 1 < C.length
      · rw [if_pos th]
        have zl : a < mZ s := gOk_lt c.2.2.2.2.1 (by rw [s1]; decide)
        have zr : mR s a 0 < mZ s := gOk_lt c.2.2.2.2.1 (by rw [s2.1]; decide)
        have zc : mR s a 1 < mZ s := gOk_lt c.2.2.2.2.1 (by rw [s3.1]; decide)
        have cfN := (CF.rf c).wN' (t := 14) (n := 4) (Or.inr trivial) (fun z => by cases z) (by decide)
        have eR : ∀ j, mR (wN s 14 4) a j = mR s a j := fun j => by rw [mR_wN, if_neg (by omega)]
        refine Ev.g (by decide) (Ev.l ?_)
        rw [eR, eR]
        have m1 : mI (wN s 14 4) (mR s a 0) (cRow bA p - 1).toNat = gl R (cRow bA p - 1).toNat := by rw [mI_wN, if_neg (by omega)]; exact s2.2.2.2 _ (by omega)
        have m2 : mI (wN s 14 4) (mR s a 1) (cCol bA p - 1).toNat = gl C (cCol bA p - 1).toNat := by rw [mI_wN, if_neg (by omega)]; exact s3.2.2.2 _ (by omega)
        have r1 : -2147483648 ≤ gl R (cRow bA p - 1).toNat ∧ gl R (cRow bA p - 1).toNat ≤ 2147483647 := by rw [← m1]; exact mI_rng _ _ _
        have r2 : -2147483648 ≤ gl C (cCol bA p - 1).toNat ∧ gl C (cCol bA p - 1).toNat ≤ 2147483647 := by rw [← m2]; exact mI_rng _ _ _
        rw [m1, m2]
        have tt : mT (wN s 14 4) (mZ s) = 14 := by rw [mT_wN, if_pos rfl]
        refine Ev.g (by rw [mT_wN, if_neg (by omega)]; exact s2.1) (Ev.g (by rw [mN_wN, if_neg (by omega), s2.2.1]; omega) (Ev.g (by rw [mT_wN, if_neg (by omega)]; exact s3.1) (Ev.g (by rw [mN_wN, if_neg (by omega), s3.2.1]; omega) ?_)))
        have eI : x16_init (mZ s) (gl R (cRow bA p - 1).toNat) (gl C (cCol bA p - 1).toNat) v7 v5 (wN s 14 4) = some (wI (wI (wI (wI (wN s 14 4) (mZ s) 0 (gl R (cRow bA p - 1).toNat)) (mZ s) 1 (gl C (cCol bA p - 1).toNat)) (mZ s) 2 v7) (mZ s) 3 v5) := by
          unfold x16_init
          rw [if_pos tt]
          simp only [gLet]
          rw [if_pos b7, if_pos b5]
        refine Ev.e eI (Ev.r ⟨(((cfN.wI' (Nat.le_refl _)).wI' (Nat.le_refl _)).wI' (Nat.le_refl _)).wI' (Nat.le_refl _), fun j => ?_, Or.inr ⟨by omega, by show mZ s ≠ 0; omega, Nat.le_refl _, tt, ?_, ?_, ?_, ?_, ?_⟩⟩)
        · simp (disch := omega) only [mIwI1]
          rw [mI_wN, if_neg (by omega)]
        · simp (disch := omega) only [mIwI1, mIwI2, w32_i]
        · simp (disch := omega) only [mIwI1, mIwI2, w32_i]
        · unfold cfx cFix
          have f3 : mI (wI (wI (wI (wI (wN s 14 4) (mZ s) 0 (gl R (cRow bA p - 1).toNat)) (mZ s) 1 (gl C (cCol bA p - 1).toNat)) (mZ s) 2 v7) (mZ s) 3 v5) (mZ s) 3 = v5 := by simp (disch := omega) only [mIwI2, w32_i]
          have f2 : mI (wI (wI (wI (wI (wN s 14 4) (mZ s) 0 (gl R (cRow bA p - 1).toNat)) (mZ s) 1 (gl C (cCol bA p - 1).toNat)) (mZ s) 2 v7) (mZ s) 3 v5) (mZ s) 2 = v7 := by simp (disch := omega) only [mIwI1, mIwI2, w32_i]
          rw [f3, f2, e5, e7]
          congr 1
          · by_cases z : bA p = 36
            · rw [if_pos z, if_pos z, if_pos (by decide)]
            · rw [if_neg z, if_neg z, if_neg (by decide)]
          · by_cases z : bA (ck1 bA p + 1) = 36
            · rw [if_pos z, if_pos z, if_pos (by decide)]
            · rw [if_neg z, if_neg z, if_neg (by decide)]
        · have f2 : mI (wI (wI (wI (wI (wN s 14 4) (mZ s) 0 (gl R (cRow bA p - 1).toNat)) (mZ s) 1 (gl C (cCol bA p - 1).toNat)) (mZ s) 2 v7) (mZ s) 3 v5) (mZ s) 2 = v7 := by simp (disch := omega) only [mIwI1, mIwI2, w32_i]
          rw [f2]; exact b7
        · have f3 : mI (wI (wI (wI (wI (wN s 14 4) (mZ s) 0 (gl R (cRow bA p - 1).toNat)) (mZ s) 1 (gl C (cCol bA p - 1).toNat)) (mZ s) 2 v7) (mZ s) 3 v5) (mZ s) 3 = v5 := by simp (disch := omega) only [mIwI2, w32_i]
          rw [f3]; exact b5
      · rw [if_neg th]
        exact Ev.f (fun z => z rfl) (Ev.r ⟨(CF.rf c).mono (by omega), fun _ => rfl, Or.inl ⟨fun z => th (by omega), rfl⟩⟩)
  -- bytes as they lie in the text
  have raw : ∀ k, k < hi → mI s (x + 1) k = sby (bA k) := c.1.2.2.2.2.2.2.1
  have b36 : ∀ k, k < hi → (sby (bA k) = 36 ↔ bA k = 36) := fun k hk => sby_lo (tx.1 k hk).1 (tx.1 k hk).2 (by decide) (by decide)
  have J30 : ∀ v5 : Int, (v5 = if bA p = 36 then 1 else 0) → Ev (x6_cornerOf_j30 N (x + 1429) (ck3 bA p : Nat) a (ck1 bA p : Nat) v5 s) (fun y => CF x s y.2 1 ∧ (∀ j, mI y.2 (x + 1429) j = mI s (x + 1429) j) ∧ ((¬ (a ≠ 0 ∧ 1 ≤ cRow bA p ∧ cRow bA p ≤ R.length ∧ 1 ≤ cCol bA p ∧ cCol bA p ≤ C.length) ∧ y.1 = 0) ∨ ((a ≠ 0 ∧ 1 ≤ cRow bA p ∧ cRow bA p ≤ R.length ∧ 1 ≤ cCol bA p ∧ cCol bA p ≤ C.length) ∧ y.1 ≠ 0 ∧ mZ s ≤ y.1 ∧ CorN y.2 y.1 (gl R (cRow bA p - 1).toNat) (gl C (cCol bA p - 1).toNat) (cFix bA p)))) := by
    intro v5 e5
    have ec : w32 (sby (bA (ck1 bA p)) - 65) = cCol bA p - 1 := by
      have : sby (bA (ck1 bA p)) = bA (ck1 bA p) := by unfold sby; rw [if_pos (by omega)]
      rw [this, w32_i (by omega) (by omega)]; unfold cCol; omega
    unfold x6_cornerOf_j30 x6_cornerOf_j62
    rw [c.1.2.2.2.1, c.1.2.2.2.2.2.1, inc32 (by omega), tn, tn, raw _ (by omega), raw _ (by omega), ec]
    refine Ev.g c.1.1 (Ev.g c.1.2.2.2.2.1 (Ev.g (by omega) (Ev.g (by omega) ?_)))
    by_cases z : bA (ck1 bA p + 1) = 36
    · have e2 : ck2 bA p = ck1 bA p + 2 := by unfold ck2; rw [if_pos z]
      refine Ev.f (fun y => y ((b36 _ (by omega)).mpr z)) (Ev.f (by decide) ?_)
      have := J72 v5 1 e5 (by rw [if_pos z])
      rw [e2] at this
      rw [inc32 (by omega)]; exact this
    · have e2 : ck2 bA p = ck1 bA p + 1 := by unfold ck2; rw [if_neg z]
      refine Ev.g (fun y => z ((b36 _ (by omega)).mp y)) (Ev.g rfl ?_)
      have := J72 v5 0 e5 (by rw [if_neg z])
      rw [e2] at this; exact this
  unfold x6_cornerOf x6_cornerOf_j20
  rw [c.1.2.2.2.1, c.1.2.2.2.2.2.1, tn, raw _ (by omega)]
  refine Ev.g c.1.1 (Ev.g c.1.2.2.2.2.1 (Ev.g (by omega) ?_))
  by_cases z : bA p = 36
  · have e1 : ck1 bA p = p + 1 := by unfold ck1; rw [if_pos z]
    refine Ev.f (fun y => y ((b36 _ (by omega)).mpr z)) (Ev.f (by decide) ?_)
    have := J30 1 (by rw [if_pos z])
    rw [e1] at this
    rw [inc32 (by omega)]; exact this
  · have e1 : ck1 bA p = p := by unfold ck1; rw [if_neg z]
    refine Ev.g (fun y => z ((b36 _ (by omega)).mp y)) (Ev.g rfl ?_)
    have := J30 0 (by rw [if_neg z])
    rw [e1] at this; exact this
theorem t_isThere {v row col : Int} (t : TR h hi all nv M bA f τ) (v1 : -1 ≤ v) : tw_isThere h v row col τ = some (if v < nv ∧ 1 ≤ row ∧ row ≤ (f v).1.length ∧ 1 ≤ col ∧ col ≤ (f v).2.length then 1 else 0) := by
  obtain ⟨-, -, -, ⟨n1, n2, n3, n4⟩, -⟩ := t
  unfold tw_isThere
  rw [n1]
  by_cases d : (nv : Int) ≤ v
  · rw [if_pos d, if_neg (by omega)]
  · rw [if_neg d]
    have fe := n4 v v1 (by omega)
    have J : ∀ u : Int, u = ((shn 40 v : Nat) : Int) → tw_isThere_j19 h τ row col u = some (if v < nv ∧ 1 ≤ row ∧ row ≤ (f v).1.length ∧ 1 ≤ col ∧ col ≤ (f v).2.length then 1 else 0) := by
      intro u hu
      have s41 : shn 40 v < 122 := by have := shn_lt (s := 40) (ver := v) (by omega) (by omega); omega
      have bd := n3 (shn 40 v) s41
      have l1 : ((f v).1.length : Int) = mI τ (h + 1) (shn 40 v) := by
        rw [fe]
        show ((lst _ _).length : Int) = _
        rw [lst_len]
        have : tLn τ h (shn 40 v) 0 = mI τ (h + 1) (shn 40 v) := by unfold tLn; rw [if_neg (by decide)]
        omega
      have l2 : ((f v).2.length : Int) = mI τ (h + 2) (shn 40 v) := by
        rw [fe]
        show ((lst _ _).length : Int) = _
        rw [lst_len]
        have : tLn τ h (shn 40 v) 1 = mI τ (h + 2) (shn 40 v) := by unfold tLn; rw [if_pos (by decide)]
        omega
      unfold tw_isThere_j19 tw_isCell
      rw [hu, if_pos (by omega), tn, t_in, Option.bind_some, ← l1, ← l2]
      by_cases c1 : 1 ≤ row ∧ row ≤ ((f v).1.length : Int)
      · rw [if_pos c1, if_neg (by decide), if_pos (by omega), t_in, Option.bind_some]
        by_cases c2 : 1 ≤ col ∧ col ≤ ((f v).2.length : Int)
        · rw [if_pos c2, if_neg (by decide), Option.bind_some, if_neg (by decide), if_pos (by omega)]
        · rw [if_neg c2, if_pos rfl, Option.bind_some, if_pos rfl, if_neg (by omega)]
      · rw [if_neg c1, if_pos rfl, Option.bind_some, if_pos rfl, if_neg (by omega)]
    by_cases e : 0 ≤ v
    · rw [if_pos e]; exact J v (by unfold shn; rw [if_neg (by omega)]; omega)
    · rw [if_neg e]; exact J 40 (by unfold shn; rw [if_pos (by omega)]; rfl)
def MnP (h q a j : Nat) : Prop := (a = h + 20 ∨ a = h + 21 ∨ a = h + 24 ∨ a = h + 25) ∧ j = q
theorem t_line {v : Int} {ax : Int} {k : Nat} (t : TR h hi all nv M bA f τ) (v1 : -1 ≤ v) (v2 : v < nv) (hax : ax = 0 ∨ ax = 1) (hk : k < (if ax = 0 then (f v).1 else (f v).2).length) : tw_lineAt h ((shn 40 v : Nat) : Int) ax k τ = some (gl (if ax = 0 then (f v).1 else (f v).2) k) := by
  obtain ⟨-, -, -, ⟨n1, n2, n3, n4⟩, -⟩ := t
  have fe := n4 v v1 v2
  have s41 : shn 40 v < 122 := by have := shn_lt (s := 40) (ver := v) (by omega) (by omega); omega
  have bd := n3 (shn 40 v) s41
  rcases hax with e | e
  · subst e
    rw [if_pos rfl] at hk ⊢
    rw [fe] at hk ⊢
    have hk' : k < (tLn τ h (shn 40 v) 0).toNat := by
      have : (tLs τ h (shn 40 v) 0).length = (tLn τ h (shn 40 v) 0).toNat := lst_len _ _
      have h2 : k < (tLs τ h (shn 40 v) 0).length := hk
      omega
    rw [t_lineAt s41 (by show k < 32; omega)]
    congr 1
    exact (gl_lst hk').symm
  · subst e
    rw [if_neg (by decide)] at hk ⊢
    rw [fe] at hk ⊢
    have hk' : k < (tLn τ h (shn 40 v) 1).toNat := by
      have : (tLs τ h (shn 40 v) 1).length = (tLn τ h (shn 40 v) 1).toNat := lst_len _ _
      have h2 : k < (tLs τ h (shn 40 v) 1).length := hk
      omega
    rw [t_lineAt s41 (by show k < 10; omega)]
    congr 1
    exact (gl_lst hk').symm
theorem t_meanOne {v row col : Int} {fx q0 : Nat} (t : TR h hi all nv M bA f τ) (v1 : -1 ≤ v) (v2 : v < nv) (r1 : 1 ≤ row ∧ row ≤ (f v).1.length) (r2 : 1 ≤ col ∧ col ≤ (f v).2.length) (hq : q0 < 60420) (hf : fx < 100) : Ev (tw_meanOne h q0 v row col fx τ) (fun r => Ex (MnP h q0) τ r ∧ mI r (h + 20) q0 = gl (f v).1 (row - 1).toNat ∧ mI r (h + 21) q0 = gl (f v).2 (col - 1).toNat ∧ mI r (h + 24) q0 = fx ∧ mI r (h + 25) q0 = v) := by
  have t0 := t
  obtain ⟨-, -, -, ⟨n1, n2, n3, n4⟩, -⟩ := t
  have lr : (f v).1.length ≤ 32 ∧ (f v).2.length ≤ 10 := by
    rw [n4 v v1 v2]
    have s41 : shn 40 v < 122 := by have := shn_lt (s := 40) (ver := v) (by omega) (by omega); omega
    have bd := n3 (shn 40 v) s41
    have e1 : (tLs τ h (shn 40 v) 0).length = (tLn τ h (shn 40 v) 0).toNat := lst_len _ _
    have e2 : (tLs τ h (shn 40 v) 1).length = (tLn τ h (shn 40 v) 1).toNat := lst_len _ _
    dsimp only
    omega
  have J : ∀ u : Int, u = ((shn 40 v : Nat) : Int) → Ev (tw_meanOne_j10 h q0 v row col fx u τ) (fun r => Ex (MnP h q0) τ r ∧ mI r (h + 20) q0 = gl (f v).1 (row - 1).toNat ∧ mI r (h + 21) q0 = gl (f v).2 (col - 1).toNat ∧ mI r (h + 24) q0 = fx ∧ mI r (h + 25) q0 = v) := by
    intro u hu
    have w1 : w32 (row - 1) = (((row - 1).toNat : Nat) : Int) := by rw [w32_i (by omega) (by omega)]; omega
    have w2 : w32 (col - 1) = (((col - 1).toNat : Nat) : Int) := by rw [w32_i (by omega) (by omega)]; omega
    have g1 := t_line (ax := 0) (k := (row - 1).toNat) t0 v1 v2 (Or.inl rfl) (by rw [if_pos rfl]; omega)
    rw [if_pos rfl] at g1
    have X1 : Ex (MnP h q0) τ (wI τ (h + 20) q0 (gl (f v).1 (row - 1).toNat)) := Ex.rf.I ⟨Or.inl rfl, rfl⟩
    have g2' : tw_lineAt h ((shn 40 v : Nat) : Int) 1 (((col - 1).toNat : Nat) : Int) (wI τ (h + 20) q0 (gl (f v).1 (row - 1).toNat)) = some (gl (f v).2 (col - 1).toNat) := by
      have g2 := t_line (ax := 1) (k := (col - 1).toNat) t0 v1 v2 (Or.inr rfl) (by rw [if_neg (by decide)]; omega)
      rw [if_neg (by decide)] at g2
      have s41 : shn 40 v < 122 := by have := shn_lt (s := 40) (ver := v) (by omega) (by omega); omega
      rw [t_lineAt s41 (by show _ < 10; omega)] at g2 ⊢
      rw [← g2]
      refine congrArg some ?_
      unfold tLi
      rw [if_pos (by decide), if_pos (by decide), mIwI1 (by omega)]
    have m1 : -2147483648 ≤ gl (f v).1 (row - 1).toNat ∧ gl (f v).1 (row - 1).toNat ≤ 2147483647 := by
      have e := g1
      have s41 : shn 40 v < 122 := by have := shn_lt (s := 40) (ver := v) (by omega) (by omega); omega
      rw [t_lineAt s41 (by show _ < 32; omega)] at e
      rw [← Option.some.inj e]
      unfold tLi
      split <;> exact mI_rng _ _ _
    have m2 : -2147483648 ≤ gl (f v).2 (col - 1).toNat ∧ gl (f v).2 (col - 1).toNat ≤ 2147483647 := by
      have e := g2'
      have s41 : shn 40 v < 122 := by have := shn_lt (s := 40) (ver := v) (by omega) (by omega); omega
      rw [t_lineAt s41 (by show _ < 10; omega)] at e
      rw [← Option.some.inj e]
      unfold tLi
      split <;> exact mI_rng _ _ _
    unfold tw_meanOne_j10
    rw [hu, w1, w2, tn]
    refine Ev.e g1 (Ev.g (by omega) (Ev.l (Ev.e g2' (Ev.g (by omega) (Ev.l (Ev.g (by omega) (Ev.l (Ev.g (by omega) (Ev.l (Ev.r ⟨?_, ?_, ?_, ?_, ?_⟩))))))))))
    · exact (((X1.I ⟨Or.inr (Or.inl rfl), rfl⟩).I ⟨Or.inr (Or.inr (Or.inl rfl)), rfl⟩).I ⟨Or.inr (Or.inr (Or.inr rfl)), rfl⟩)
    · simp (disch := omega) only [mIwI1, mIwI2, w32_i]
    · simp (disch := omega) only [mIwI1, mIwI2, w32_i]
    · simp (disch := omega) only [mIwI1, mIwI2, w32_i]
    · simp (disch := omega) only [mIwI1, mIwI2, w32_i]
  unfold tw_meanOne
  by_cases e : 0 ≤ v
  · exact Ev.g e (J v (by unfold shn; rw [if_neg (by omega)]; omega))
  · exact Ev.f e (J 40 (by unfold shn; rw [if_pos (by omega)]; rfl))
/-- the first fault along the text of the later kinds -/
def ltF (lk lp k w : Int) : Int × Int := if lk = 0 ∨ w < lp then (k, w) else (lk, lp)
theorem lt15 {a b k w hi' : Int} (h : w < hi') : (ltF a b k w).2 = b ∨ (ltF a b k w).2 < hi' := by
  unfold ltF
  by_cases e : a = 0 ∨ w < b
  · rw [if_pos e]; exact Or.inr h
  · rw [if_neg e]; exact Or.inl rfl
theorem c_late {k w : Int} (c : mT s (x + 1429) = 6) (hk : 0 ≤ k ∧ k ≤ 100) (hw : -1 ≤ w ∧ w ≤ 1000) : Ev (x6_late (x + 1429) k w s) (fun r => Ex (fun a j => a = x + 1429 ∧ (j = 14 ∨ j = 15)) s r ∧ mI r (x + 1429) 14 = (ltF (mI s (x + 1429) 14) (mI s (x + 1429) 15) k w).1 ∧ mI r (x + 1429) 15 = (ltF (mI s (x + 1429) 14) (mI s (x + 1429) 15) k w).2) := by
  have J : Ev (x6_late_j16 (x + 1429) k w s) (fun r => Ex (fun a j => a = x + 1429 ∧ (j = 14 ∨ j = 15)) s r ∧ mI r (x + 1429) 14 = k ∧ mI r (x + 1429) 15 = w) := by
    unfold x6_late_j16
    refine Ev.g c (Ev.l (Ev.l (Ev.r ⟨(Ex.rf.I (by omega)).I (by omega), ?_, ?_⟩)))
    · simp (disch := omega) only [mIwI1, mIwI2, w32_i]
    · simp (disch := omega) only [mIwI1, mIwI2, w32_i]
  unfold x6_late ltF
  refine Ev.g c ?_
  by_cases e : mI s (x + 1429) 14 = 0
  · rw [if_pos (Or.inl e)]; exact Ev.g e J
  · refine Ev.f e ?_
    by_cases e2 : w < mI s (x + 1429) 15
    · rw [if_pos (Or.inr e2)]; exact Ev.g e2 J
    · rw [if_neg (show ¬ (mI s (x + 1429) 14 = 0 ∨ w < mI s (x + 1429) 15) from fun z => z.elim e e2)]; exact Ev.f e2 (Ev.r ⟨Ex.rf, rfl, rfl⟩)
theorem t_later {k w lp : Int} (hl : mI τ h 58 ≠ 0 → mI τ h 59 = lp) (hk : 0 ≤ k ∧ k ≤ 100) (hw : -1 ≤ w ∧ w ≤ 1000) : Ev (tw_later h k w τ) (fun r => Ex (fun a j => a = h ∧ (j = 58 ∨ j = 59)) τ r ∧ mI r h 58 = (ltF (mI τ h 58) lp k w).1 ∧ mI r h 59 = (ltF (mI τ h 58) lp k w).2) := by
  have J : Ev (tw_later_j15 h k w τ) (fun r => Ex (fun a j => a = h ∧ (j = 58 ∨ j = 59)) τ r ∧ mI r h 58 = k ∧ mI r h 59 = w) := by
    unfold tw_later_j15
    refine Ev.l (Ev.l (Ev.r ⟨(Ex.rf.I (by omega)).I (by omega), ?_, ?_⟩))
    · simp (disch := omega) only [mIwI1, mIwI2, w32_i]
    · simp (disch := omega) only [mIwI1, mIwI2, w32_i]
  unfold tw_later ltF
  by_cases e : mI τ h 58 = 0
  · rw [if_pos (Or.inl e)]; exact Ev.g e J
  · refine Ev.f e ?_
    rw [hl e]
    by_cases e2 : w < lp
    · rw [if_pos (Or.inr e2)]; exact Ev.f (by omega) J
    · rw [if_neg (show ¬ (mI τ h 58 = 0 ∨ w < lp) from fun z => z.elim e e2)]; exact Ev.g (by omega) (Ev.r ⟨Ex.rf, rfl, hl e⟩)
end Read15
