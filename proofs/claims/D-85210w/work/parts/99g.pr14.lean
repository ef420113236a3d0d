/-! ===== PHASE 2: reading: versions, corners, places ===== -/
section Read14
variable {N x h hi all nv sh M lu0 b b' p q op pa pi : Nat} {bA : Nat → Int} {f : Int → List Int × List Int} {σ σ' σ'' τ τ' τ'' s r σ0 τ0 σ1 τ2 : gMem} {p0 pa0 nd k lu : Nat}
/-- a version behind a place: both read it, or tell one fault -/
def VrP (x h hi lu0 b p1 : Nat) (σ τ : gMem) (a : gR) (y : Int × gMem) : Prop :=
  (∃ (v : Int) (e : Nat), a.1 = .inl (some (vI v)) ∧ y.1 = v ∧ -1 ≤ v ∧ v ≤ 99 ∧ p1 ≤ e ∧ e ≤ hi ∧ Ex (Rq x 6) σ a.2 ∧ mI a.2 (x + 1429) 6 = e ∧ Ex (fun a k => a = h ∧ k = 46) τ y.2 ∧ mI y.2 h 46 = e) ∨
  (∃ w : Int, a.1 = .inr "SheetBranches$Wrong" ∧ mI a.2 (x + 1429) 12 = 1 ∧ mI a.2 (x + 1429) 13 = w ∧ CF x σ a.2 1 ∧ mI y.2 h 41 = 1 ∧ mI y.2 h 42 = w ∧ TF (lu0 + hi) h τ y.2 b)
theorem dgN_1 : dgN bA p (p + 1) = bA p - 48 := by
  unfold dgN
  rw [show p + 1 - p = 1 by omega]
  show dgv bA (p + 1) 0 (10 * 0 + bA p - 48) = _
  show 10 * 0 + bA p - 48 = _
  omega
theorem dgN_2 : dgN bA p (p + 2) = 10 * (bA p - 48) + (bA (p + 1) - 48) := by
  unfold dgN
  rw [show p + 2 - p = 2 by omega]
  show 10 * (10 * 0 + bA p - 48) + bA (p + 1) - 48 = _
  omega
theorem rd_version {p1 : Nat} (hN : 500 ≤ N) (c : CR x hi all nv sh bA f σ) (t : TR h hi all nv M bA f τ) (g6 : mI σ (x + 1429) 6 = p1) (h1 : p1 ≤ hi) (f0 : mI τ h 41 = 0) (g19 : 0 ≤ mI τ h 19) : E2 (x6_version N (x + 1429) σ) (tw_readVersion N h p1 τ) (VrP x h hi lu0 b p1 σ τ) := by
  have tx := c.1.2.2.2.2.2.2.2
  have h4 : hi ≤ 400 := by have := tx.2.2.1; have := tx.2.2.2; omega
  have XT : Ex (fun a k => a = h ∧ k = 46) τ (wI τ h 46 p1) := Ex.rf.I ⟨rfl, rfl⟩
  have t1 : TSt (wI τ h 46 p1) h bA hi all := t.1.ex XT (fun i hi z => by omega) (fun i z => by omega)
  have e46 : mI (wI τ h 46 p1) h 46 = p1 := by rw [mI_wI, if_pos ⟨rfl, rfl⟩, w32_i (by omega) (by omega)]
  have f1 : mI (wI τ h 46 p1) h 41 = 0 := by rw [mIwI1 (by omega)]; exact f0
  have g1 : 0 ≤ mI (wI τ h 46 p1) h 19 := by rw [mIwI1 (by omega)]; exact g19
  have tf1 : TF (lu0 + hi) h τ (wI τ h 46 p1) b := TF.ex XT g19 (fun a j y => Or.inl ⟨y.1, by omega⟩)
  obtain ⟨N', rfl⟩ : ∃ n, N = n + 4 := ⟨N - 4, by omega⟩
  unfold x6_version tw_readVersion
  rw [g6, inc32 (by omega)]
  refine E2.lg c.1.1 (E2.le (c_here c.1 p1) (E2.rl (E2.re (t_byteAt t1 p1) ?_)))
  by_cases d : bA p1 = 64
  · have ph : p1 < hi := tx.lt (by omega)
    have X1 : Ex (Rq x 6) σ (wI σ (x + 1429) 6 ((p1 + 1 : Nat) : Int)) := Ex.rf.I ⟨rfl, rfl⟩
    have cf1 := Rq.cf c X1 (by omega)
    have c1 := c.cf cf1
    have k6 : mI (wI σ (x + 1429) 6 ((p1 + 1 : Nat) : Int)) (x + 1429) 6 = ((p1 + 1 : Nat) : Int) := by rw [mI_wI, if_pos ⟨rfl, rfl⟩, w32_i (by omega) (by omega)]
    refine E2.lg d (E2.rg d (E2.ll ?_))
    rw [k6, inc32 (by omega)]
    refine E2.le (c_here c1.1 _) (E2.le (c_isDigit _) (E2.re (t_byteAt t1 _) (E2.re (t_isDigit _) ?_)))
    cases d1 : isD (bA (p1 + 1)) with
    | false =>
      refine E2.lf (by decide) (E2.rf (by decide) (E2.vv (c_throwJ c1 (by decide) (by omega)) (Ev.c (t_fail (lu0 := lu0) (hi := hi) (b := b) (k := 1) (w := ((p1 + 1 : Nat) : Int)) g1 f1 (by decide) (by omega)) (fun r _ z => Ev.r (Φ := fun y : Int × gMem => mI y.2 h 41 = 1 ∧ mI y.2 h 42 = ((p1 + 1 : Nat) : Int) ∧ TF (lu0 + hi) h τ y.2 b) ⟨z.1, z.2.1, tf1.tr z.2.2.1 (Nat.le_refl _)⟩)) (fun a y z1 z2 => Or.inr ⟨_, z1.1, z1.2.1, z1.2.2.1, (cf1.tr z1.2.2.2).mono (by omega), z2⟩)))
    | true =>
      have p2h : p1 + 1 < hi := tx.lt (fun z => by rw [z] at d1; cases d1)
      have D1 := of_decide_eq_true d1
      have X2 : Ex (Rq x 6) σ (wI (wI σ (x + 1429) 6 ((p1 + 1 : Nat) : Int)) (x + 1429) 6 ((p1 + 1 + 1 : Nat) : Int)) := X1.I ⟨rfl, rfl⟩
      have cf2 := Rq.cf c X2 (by omega)
      have c2 := c.cf cf2
      have k62 : mI (wI (wI σ (x + 1429) 6 ((p1 + 1 : Nat) : Int)) (x + 1429) 6 ((p1 + 1 + 1 : Nat) : Int)) (x + 1429) 6 = ((p1 + 1 + 1 : Nat) : Int) := by rw [mI_wI, if_pos ⟨rfl, rfl⟩, w32_i (by omega) (by omega)]
      refine E2.lg (by decide) (E2.rg (by decide) (E2.ll ?_))
      rw [k62, inc32 (by omega)]
      refine E2.le (c_here c2.1 _) (E2.le (c_isDigit _) ?_)
      -- the twin's first digit
      unfold tw_readVersion_l42
      refine E2.re (t_byteAt t1 _) (E2.re (t_isDigit _) ?_)
      rw [d1]
      have w3 : w32 ((p1 : Int) + 3) = ((p1 + 3 : Nat) : Int) := by rw [w32_i (by omega) (by omega)]; omega
      have wv1 : w32 (10 * 0 + bA (p1 + 1) - 48) = bA (p1 + 1) - 48 := by rw [w32_i (by omega) (by omega)]; omega
      rw [w3, inc32 (by omega)]
      refine E2.rf (by decide) (E2.rg (by omega) (E2.re (t_byteAt t1 _) ?_))
      rw [wv1]
      unfold tw_readVersion_l42
      refine E2.re (t_byteAt t1 _) (E2.re (t_isDigit _) ?_)
      rw [w3]
      cases d2 : isD (bA (p1 + 1 + 1)) with
      | false =>
        refine E2.lg rfl (E2.rg rfl ?_)
        unfold x6_version_j88
        rw [k62]
        refine E2.lg c2.1.1 (E2.le (c_here c2.1 _) (E2.le (c_isDigit _) ?_))
        rw [d2]
        refine E2.lg rfl (E2.le (c_dig hN c2.1 (by omega) (by omega) (fun k k1 k2 => by rw [show k = p1 + 1 by omega]; exact d1) (by omega)) (E2.rl (E2.r (Or.inl ⟨bA (p1 + 1) - 48, p1 + 1 + 1, ?_, rfl, by omega, by omega, by omega, by omega, X2, k62, ?_, ?_⟩))))
        · rw [dgN_1, w32_i (by omega) (by omega)]
        · exact XT.I ⟨rfl, rfl⟩
        · rw [mI_wI, if_pos ⟨rfl, rfl⟩, w32_i (by omega) (by omega)]
      | true =>
        have p3h : p1 + 1 + 1 < hi := tx.lt (fun z => by rw [z] at d2; cases d2)
        have D2 := of_decide_eq_true d2
        have X3 : Ex (Rq x 6) σ (wI (wI (wI σ (x + 1429) 6 ((p1 + 1 : Nat) : Int)) (x + 1429) 6 ((p1 + 1 + 1 : Nat) : Int)) (x + 1429) 6 ((p1 + 1 + 1 + 1 : Nat) : Int)) := X2.I ⟨rfl, rfl⟩
        have cf3 := Rq.cf c X3 (by omega)
        have c3 := c.cf cf3
        have k63 : mI (wI (wI (wI σ (x + 1429) 6 ((p1 + 1 : Nat) : Int)) (x + 1429) 6 ((p1 + 1 + 1 : Nat) : Int)) (x + 1429) 6 ((p1 + 1 + 1 + 1 : Nat) : Int)) (x + 1429) 6 = ((p1 + 1 + 1 + 1 : Nat) : Int) := by rw [mI_wI, if_pos ⟨rfl, rfl⟩, w32_i (by omega) (by omega)]
        refine E2.lf (by decide) (E2.ll (E2.rf (by decide) (E2.rg (by omega) (E2.re (t_byteAt t1 _) ?_))))
        have wv2 : w32 (10 * (bA (p1 + 1) - 48) + bA (p1 + 1 + 1) - 48) = 10 * (bA (p1 + 1) - 48) + (bA (p1 + 1 + 1) - 48) := by rw [w32_i (by omega) (by omega)]; omega
        rw [inc32 (i := p1 + 1 + 1) (by omega), wv2]
        unfold x6_version_j88 tw_readVersion_l42
        rw [k63]
        refine E2.lg c3.1.1 (E2.le (c_here c3.1 _) (E2.le (c_isDigit _) (E2.re (t_byteAt t1 _) (E2.re (t_isDigit _) ?_))))
        rw [w3]
        cases d3 : isD (bA (p1 + 1 + 1 + 1)) with
        | false =>
          refine E2.lg rfl (E2.rg rfl (E2.le (c_dig hN c3.1 (by omega) (by omega) (fun k k1 k2 => ?_) (by omega)) (E2.rl (E2.r (Or.inl ⟨10 * (bA (p1 + 1) - 48) + (bA (p1 + 1 + 1) - 48), p1 + 1 + 1 + 1, ?_, rfl, by omega, by omega, by omega, by omega, X3, k63, ?_, ?_⟩)))))
          · rcases (by omega : k = p1 + 1 ∨ k = p1 + 1 + 1) with e | e
            · rw [e]; exact d1
            · rw [e]; exact d2
          · rw [show p1 + 1 + 1 + 1 = p1 + 1 + 2 by omega, dgN_2, w32_i (by omega) (by omega)]
          · exact XT.I ⟨rfl, rfl⟩
          · rw [mI_wI, if_pos ⟨rfl, rfl⟩, w32_i (by omega) (by omega)]
        | true =>
          have p4h : p1 + 1 + 1 + 1 < hi := tx.lt (fun z => by rw [z] at d3; cases d3)
          refine E2.lf (by decide) (E2.rf (by decide) (E2.rf (fun z => z (by omega)) (E2.vv (c_throw c3 (by decide) (by omega)) (Ev.c (t_fail (lu0 := lu0) (hi := hi) (b := b) (k := 1) (w := ((p1 + 1 + 1 + 1 : Nat) : Int)) g1 f1 (by decide) (by omega)) (fun r _ z => Ev.r (Φ := fun y : Int × gMem => mI y.2 h 41 = 1 ∧ mI y.2 h 42 = ((p1 + 1 + 1 + 1 : Nat) : Int) ∧ TF (lu0 + hi) h τ y.2 b) ⟨z.1, z.2.1, tf1.tr z.2.2.1 (Nat.le_refl _)⟩)) (fun a y z1 z2 => Or.inr ⟨_, z1.1, z1.2.1, by rw [z1.2.2.1, if_neg (by omega)], (cf3.tr z1.2.2.2).mono (by omega), z2⟩))))
  · exact E2.lf d (E2.rf d (E2.r (Or.inl ⟨-1, p1, rfl, rfl, by decide, by decide, Nat.le_refl _, h1, Ex.rf, g6, XT, e46⟩)))
/-- whether a place is there -/
def Thr (nv : Nat) (f : Int → List Int × List Int) (v row col : Int) : Prop := v < nv ∧ 1 ≤ row ∧ row ≤ (f v).1.length ∧ 1 ≤ col ∧ col ≤ (f v).2.length
theorem c_sheetOfR {v : Int} (c : CR x hi all nv sh bA f σ) (v1 : -1 ≤ v) : ∃ a, x6_sheetOf (x + 1429) v σ = some a ∧ (nv ≤ v → a = 0) ∧ (v < nv → ShL σ a (f v).1 (f v).2) := by
  obtain ⟨cs, ⟨b1, b2, b3, b4, b5, b6, b7, b8⟩, -⟩ := c
  unfold x6_sheetOf
  by_cases e : v = -1
  · subst e
    rw [if_neg (fun z => z rfl), if_pos cs.1, b7]
    exact ⟨sh, rfl, fun z => by omega, fun _ => b8⟩
  · rw [if_pos e, if_pos cs.1, b4]
    by_cases d : (nv : Int) ≤ v
    · rw [if_pos d]; exact ⟨0, rfl, fun _ => rfl, fun z => by omega⟩
    · obtain ⟨u1, u2⟩ := b6 v.toNat (by omega)
      rw [if_neg d, b1, if_pos b2, b3, if_pos (by omega), if_pos u1]
      refine ⟨_, rfl, fun z => by omega, fun _ => ?_⟩
      rw [show ((v.toNat : Nat) : Int) = v by omega] at u2
      exact u2
theorem c_has {a : Nat} {R C : List Int} {u v : Int} (sl : ShL σ a R C) : x9_has a u v σ = some (if 0 ≤ u ∧ u < R.length ∧ 0 ≤ v ∧ v < C.length then 1 else 0) := by
  obtain ⟨s1, s2, s3, s4⟩ := sl
  have l1 := s2.2.2.1
  unfold x9_has
  by_cases a1 : u < 0
  · rw [if_pos a1, if_neg (by omega)]
  · rw [if_neg a1, if_pos s1, if_pos s2.1, s2.2.1, w32_i (by omega) (by omega)]
    by_cases a2 : (R.length : Int) ≤ u
    · rw [if_pos a2, if_neg (by omega)]
    · rw [if_neg a2]
      by_cases a3 : v < 0
      · rw [if_pos a3, if_neg (by omega)]
      · rw [if_neg a3, if_pos s3.1, s3.2.1, w32_i (by omega) (by omega)]
        by_cases a4 : (C.length : Int) ≤ v
        · rw [if_pos a4, if_neg (by omega)]
        · rw [if_neg a4, if_pos (by omega)]
theorem isC_inv (h : isC bA p = true) : (65 ≤ bA (ck1 bA p) ∧ bA (ck1 bA p) ≤ 74) ∧ isD (bA (ck2 bA p)) = true ∧ isD (bA (ck3 bA p)) = false ∧ isL (bA (ck3 bA p)) = false := by
  unfold isC at h
  rw [Bool.and_eq_true, Bool.and_eq_true, Bool.and_eq_true] at h
  obtain ⟨h1, h2, h3, h4⟩ := h
  refine ⟨of_decide_eq_true h1, h2, ?_, ?_⟩
  · cases e : isD (bA (ck3 bA p)) with
    | false => rfl
    | true => rw [e] at h3; cases h3
  · cases e : isL (bA (ck3 bA p)) with
    | false => rfl
    | true => rw [e] at h4; cases h4
theorem isC_dig (h : isC bA p = true) : (∀ k, ck2 bA p ≤ k → k < ck3 bA p → isD (bA k) = true) ∧ dgN bA (ck2 bA p) (ck3 bA p) = cRow bA p ∧ 0 ≤ cRow bA p ∧ cRow bA p ≤ 99 := by
  obtain ⟨h1, h2, h3, h4⟩ := isC_inv h
  have d0 := of_decide_eq_true h2
  unfold cRow
  cases e : isD (bA (ck2 bA p + 1)) with
  | true =>
    have e3 : ck3 bA p = ck2 bA p + 2 := by unfold ck3; rw [e, if_pos rfl]
    have d1 := of_decide_eq_true e
    rw [if_pos rfl, e3, dgN_2]
    refine ⟨fun k k1 k2 => ?_, rfl, by omega, by omega⟩
    rcases (by omega : k = ck2 bA p ∨ k = ck2 bA p + 1) with z | z <;> rw [z] <;> assumption
  | false =>
    have e3 : ck3 bA p = ck2 bA p + 1 := by unfold ck3; rw [e, if_neg (by decide)]
    rw [if_neg (by decide), e3, dgN_1]
    exact ⟨fun k k1 k2 => by rw [show k = ck2 bA p by omega]; exact h2, rfl, by omega, by omega⟩
end Read14
