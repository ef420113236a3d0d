/-! ===== PHASE 2: reading: the twin's tokens ===== -/
section Read2
variable {N x h p q hi all : Nat} {bA : Nat → Int} {σ σ' τ τ' s : gMem}
def Tk (h a k : Nat) : Prop := a = h ∧ 46 ≤ k ∧ k ≤ 55
theorem TSt.tk (c : TSt τ h bA hi all) (e : Ex (Tk h) τ τ') : TSt τ' h bA hi all := c.ex e (fun i hi z => by unfold Tk at z; omega) (fun i z => by unfold Tk at z; omega)
theorem t_corner (hN : 500 ≤ N) (c : TSt τ h bA hi all) (p4 : p ≤ 401) : Ev (tw_corner N h p τ) (fun r => Ex (fun a k => a = h ∧ 52 ≤ k ∧ k ≤ 55) τ r.2 ∧ r.1 = (if isC bA p then 1 else 0) ∧ (isC bA p = true → mI r.2 h 52 = cRow bA p ∧ mI r.2 h 53 = cCol bA p ∧ mI r.2 h 54 = cFix bA p ∧ mI r.2 h 55 = ck3 bA p)) := by
  have L := ck_le bA p
  have t := c.2.2.2
  obtain ⟨n, rfl⟩ : ∃ n, N = n + 3 := ⟨N - 3, by omega⟩
  -- the end, at k behind the digits
  have J3 : ∀ (k : Nat) (v3 v4 v6 : Int) (d : Int), d ≠ 0 → (-100 ≤ v4 ∧ v4 ≤ 300) → (0 ≤ v6 ∧ v6 ≤ 100) → (0 ≤ v3 ∧ v3 ≤ 3) → k ≤ 410 → Ev (tw_corner_j108 (n + 3) h k v3 v4 d v6 τ) (fun r => Ex (fun a k => a = h ∧ 52 ≤ k ∧ k ≤ 55) τ r.2 ∧ r.1 = (if (!isD (bA k) && !isL (bA k)) = true then 1 else 0) ∧ ((!isD (bA k) && !isL (bA k)) = true → mI r.2 h 52 = v6 ∧ mI r.2 h 53 = v4 - 64 ∧ mI r.2 h 54 = v3 ∧ mI r.2 h 55 = k)) := by
    intro k v3 v4 v6 d hd h4 h6 h3 hk
    unfold tw_corner_j108
    refine Ev.f hd (Ev.e (t_byteAt c k) (Ev.e (t_isDigit _) ?_))
    cases e1 : isD (bA k) with
    | true => exact Ev.g (by decide) (Ev.r ⟨Ex.rf, rfl, fun z => (by cases z)⟩)
    | false =>
      refine Ev.f (by decide) (Ev.e (t_byteAt c k) (Ev.e (t_isLetter _) ?_))
      cases e2 : isL (bA k) with
      | true => exact Ev.f (by decide) (Ev.r ⟨Ex.rf, rfl, fun z => (by cases z)⟩)
      | false =>
        refine Ev.g rfl (Ev.l (Ev.l (Ev.l (Ev.l (Ev.r ⟨(((Ex.rf.I (by omega)).I (by omega)).I (by omega)).I (by omega), rfl, fun _ => ⟨?_, ?_, ?_, ?_⟩⟩)))))
        · simp (disch := omega) only [mIwI1, mIwI2, w32_i]
        · simp (disch := omega) only [mIwI1, mIwI2, w32_i]
        · simp (disch := omega) only [mIwI1, mIwI2, w32_i]
        · simp (disch := omega) only [mIwI1, mIwI2, w32_i]
  -- at k behind the letter
  have J2 : ∀ (k : Nat) (v3 v4 : Int), (-100 ≤ v4 ∧ v4 ≤ 300) → (0 ≤ v3 ∧ v3 ≤ 3) → k ≤ 408 → Ev (tw_corner_j60 (n + 3) h k v3 v4 τ) (fun r => Ex (fun a k => a = h ∧ 52 ≤ k ∧ k ≤ 55) τ r.2 ∧ r.1 = (if (isD (bA k) && (!isD (bA (if isD (bA (k + 1)) then k + 2 else k + 1)) && !isL (bA (if isD (bA (k + 1)) then k + 2 else k + 1)))) = true then 1 else 0) ∧ ((isD (bA k) && (!isD (bA (if isD (bA (k + 1)) then k + 2 else k + 1)) && !isL (bA (if isD (bA (k + 1)) then k + 2 else k + 1)))) = true → mI r.2 h 52 = (if isD (bA (k + 1)) then 10 * (bA k - 48) + (bA (k + 1) - 48) else bA k - 48) ∧ mI r.2 h 53 = v4 - 64 ∧ mI r.2 h 54 = v3 ∧ mI r.2 h 55 = ((if isD (bA (k + 1)) then k + 2 else k + 1 : Nat) : Int))) := by
    intro k v3 v4 h4 h3 hk
    unfold tw_corner_j60 tw_corner_l66
    refine Ev.f (by decide) (Ev.e (t_byteAt c k) (Ev.e (t_isDigit _) ?_))
    cases e1 : isD (bA k) with
    | false =>
      refine Ev.g rfl ?_
      unfold tw_corner_j108
      exact Ev.g rfl (Ev.r ⟨Ex.rf, rfl, fun z => (by cases z)⟩)
    | true =>
      have d1 := of_decide_eq_true e1
      refine Ev.f (by decide) (Ev.e (t_byteAt c k) ?_)
      rw [inc32 (by omega)]
      unfold tw_corner_l66
      refine Ev.f (by decide) (Ev.e (t_byteAt c _) (Ev.e (t_isDigit _) ?_))
      have w1 : w32 (10 * 0 + bA k - 48) = bA k - 48 := by rw [w32_i (by omega) (by omega)]; omega
      rw [w1]
      cases e2 : isD (bA (k + 1)) with
      | false =>
        refine Ev.g rfl (J3 (k + 1) v3 v4 _ _ (by decide) h4 (by omega) h3 (by omega))
      | true =>
        have d2 := of_decide_eq_true e2
        refine Ev.f (by decide) (Ev.e (t_byteAt c _) ?_)
        have w2 : w32 (10 * (bA k - 48) + bA (k + 1) - 48) = 10 * (bA k - 48) + (bA (k + 1) - 48) := by rw [w32_i (by omega) (by omega)]; omega
        rw [inc32 (by omega), w2]
        unfold tw_corner_l66
        exact Ev.g (by decide) (J3 (k + 1 + 1) v3 v4 _ _ (by decide) h4 (by omega) h3 (by omega))
  have J1 : ∀ (k : Nat) (v3 : Int), (v3 = 0 ∨ v3 = 1) → k = ck1 bA p → v3 = (if bA p = 36 then 1 else 0) → Ev (tw_corner_j19 (n + 3) h k v3 τ) (fun r => Ex (fun a k => a = h ∧ 52 ≤ k ∧ k ≤ 55) τ r.2 ∧ r.1 = (if isC bA p then 1 else 0) ∧ (isC bA p = true → mI r.2 h 52 = cRow bA p ∧ mI r.2 h 53 = cCol bA p ∧ mI r.2 h 54 = cFix bA p ∧ mI r.2 h 55 = ck3 bA p)) := by
    intro k v3 hv hk hf
    unfold tw_corner_j19
    refine Ev.e (t_byteAt c k) (Ev.e (t_in _ _ _) ?_)
    unfold isC cRow cCol cFix
    rw [← hk]
    by_cases r1 : 65 ≤ bA k ∧ bA k ≤ 74
    · rw [if_pos r1, decide_eq_true r1, Bool.true_and]
      refine Ev.g (by decide) ?_
      rw [inc32 (by omega), inc32 (by omega)]
      refine Ev.e (t_byteAt c _) ?_
      have e3 : ck3 bA p = if isD (bA (ck2 bA p + 1)) = true then ck2 bA p + 2 else ck2 bA p + 1 := rfl
      by_cases r2 : bA (k + 1) = 36
      · have e2 : ck2 bA p = k + 2 := by unfold ck2; rw [← hk, if_pos r2]
        have eb : bOr v3 2 = v3 + 2 := by rcases hv with e | e <;> rw [e] <;> decide
        rw [if_pos r2, eb, e3, e2]
        refine Ev.f (fun z => z r2) ((J2 (k + 1 + 1) (v3 + 2) (bA k) (by omega) (by omega) (by omega)).m (fun r z => ⟨z.1, z.2.1, fun y => ?_⟩))
        have := z.2.2 y
        refine ⟨this.1, this.2.1, ?_, this.2.2.2⟩
        rw [this.2.2.1, hf]; split <;> rfl
      · have e2 : ck2 bA p = k + 1 := by unfold ck2; rw [← hk, if_neg r2]
        rw [if_neg r2, e3, e2]
        refine Ev.g r2 ((J2 (k + 1) v3 (bA k) (by omega) (by omega) (by omega)).m (fun r z => ⟨z.1, z.2.1, fun y => ?_⟩))
        have := z.2.2 y
        refine ⟨this.1, this.2.1, ?_, this.2.2.2⟩
        rw [this.2.2.1, hf]; split <;> rfl
    · rw [if_neg r1, decide_eq_false r1, Bool.false_and]
      exact Ev.f (fun z => z rfl) (Ev.r ⟨Ex.rf, rfl, fun z => (by cases z)⟩)
  unfold tw_corner
  refine Ev.e (t_byteAt c p) ?_
  by_cases r0 : bA p = 36
  · rw [inc32 (by omega)]
    exact Ev.f (fun z => z r0) (J1 (p + 1) 1 (Or.inr rfl) (by unfold ck1; rw [if_pos r0]) (by rw [if_pos r0]))
  · exact Ev.g r0 (J1 p 0 (Or.inl rfl) (by unfold ck1; rw [if_neg r0]) (by rw [if_neg r0]))
theorem t_num_l {K : Int → gMem → Option gMem} {Φ : gMem → Prop} {e : Nat} (c : TSt s h bA hi all) (he : e ≤ 400) (hK : Ev (K e s) Φ) : ∀ (m p f : Nat), p + m = e → m < f → Fst isD bA p e → Ev (tw_numberToken_l5 N h K f p s) Φ := by
  intro m
  induction m with
  | zero =>
    intro p f h1 h2 F
    obtain ⟨f, rfl⟩ : ∃ j, f = j + 1 := ⟨f - 1, by omega⟩
    obtain rfl : p = e := by omega
    unfold tw_numberToken_l5
    refine Ev.e (t_byteAt c p) (Ev.e (t_isDigit _) ?_)
    rw [F.2.2]
    exact Ev.g rfl hK
  | succ m ih =>
    intro p f h1 h2 F
    obtain ⟨f, rfl⟩ : ∃ j, f = j + 1 := ⟨f - 1, by omega⟩
    unfold tw_numberToken_l5
    refine Ev.e (t_byteAt c p) (Ev.e (t_isDigit _) ?_)
    rw [F.2.1 p (Nat.le_refl _) (by omega), inc32 (by omega)]
    exact Ev.f (by decide) (ih (p + 1) f (by omega) (by omega) ⟨by omega, fun k k1 k2 => F.2.1 k (by omega) k2, F.2.2⟩)
theorem t_wrd_l {K : Int → gMem → Option gMem} {Φ : gMem → Prop} {e : Nat} (c : TSt s h bA hi all) (he : e ≤ 400) (hK : Ev (K e s) Φ) : ∀ (m p f : Nat), p + m = e → m < f → Fst isL bA p e → Ev (tw_wordToken_l49 N h K f p s) Φ := by
  intro m
  induction m with
  | zero =>
    intro p f h1 h2 F
    obtain ⟨f, rfl⟩ : ∃ j, f = j + 1 := ⟨f - 1, by omega⟩
    obtain rfl : p = e := by omega
    unfold tw_wordToken_l49
    refine Ev.e (t_byteAt c p) (Ev.e (t_isLetter _) ?_)
    rw [F.2.2]
    exact Ev.g rfl hK
  | succ m ih =>
    intro p f h1 h2 F
    obtain ⟨f, rfl⟩ : ∃ j, f = j + 1 := ⟨f - 1, by omega⟩
    unfold tw_wordToken_l49
    refine Ev.e (t_byteAt c p) (Ev.e (t_isLetter _) ?_)
    rw [F.2.1 p (Nat.le_refl _) (by omega), inc32 (by omega)]
    exact Ev.f (by decide) (ih (p + 1) f (by omega) (by omega) ⟨by omega, fun k k1 k2 => F.2.1 k (by omega) k2, F.2.2⟩)
/-- a text in quotes: where it ends, or where it is wrong -/
def qt (bA : Nat → Int) (all q : Nat) : Nat → Nat → Nat ⊕ Nat
  | 0, p => .inl p
  | m + 1, p => if bA p = 34 then .inr p else if bA p = -1 then .inl all else if 24 < p - q then .inl q else if isG (bA p) then qt bA all q m (p + 1) else .inl p
def qtS (bA : Nat → Int) (all q : Nat) : Nat ⊕ Nat := qt bA all q 30 (q + 1)
theorem t_txt_l {K : Int → gMem → Option gMem} {Φ : gMem → Prop} (hq : q ≤ 400) (hK : ∀ (p : Nat) (s : gMem), p ≤ 440 → Ex (fun a k => a = h ∧ k = 51) τ s → (∀ w, qtS bA all q = .inl w → mI s h 51 = w) → (∀ e, qtS bA all q = .inr e → p = e ∧ mI s h 51 = mI τ h 51) → Ev (K p s) Φ) (c : TSt τ h bA hi all) (g46 : mI τ h 46 = q) (g51 : mI τ h 51 < 0) : ∀ (m p f : Nat), m + 2 < f → q < p → p ≤ q + 30 → m + p = q + 31 → p ≤ q + 25 ∨ (∃ w, qtS bA all q = .inl w) → qtS bA all q = qt bA all q m p → p ≤ q + 25 → Ev (tw_textToken_l13 N h K f p τ) Φ := by
  have FIN : ∀ (w f : Nat) (v : Int) (p : Nat) (s : gMem), s = wI τ h 51 v → v = w → w ≤ 400 → p ≤ 439 → qtS bA all q = .inl w → Ev (tw_textToken_l13_j86 N h p (tw_textToken_l13 N h K (f + 1)) K s) Φ := by
    intro w f v p s hs hv hw hp hq'
    have e51 : mI s h 51 = w := by rw [hs, mI_wI, if_pos ⟨rfl, rfl⟩, hv, w32_i (by omega) (by omega)]
    unfold tw_textToken_l13_j86
    rw [inc32 (by omega)]
    unfold tw_textToken_l13
    refine Ev.g (by omega) (hK (p + 1) s (by omega) (by rw [hs]; exact Ex.rf.I ⟨rfl, rfl⟩) (fun w' e => ?_) (fun e' e => ?_))
    · rw [hq'] at e; rw [e51, Sum.inl.inj e]
    · rw [hq'] at e; cases e
  have l4 := c.2.2.2.2.2.2
  intro m
  induction m with
  | zero => intro p f h1 h2 h3 h4 h5 h6 h7; omega
  | succ m ih =>
    intro p f h1 h2 h3 h4 h5 h6 h7
    obtain ⟨f, rfl⟩ : ∃ j, f = j + 2 := ⟨f - 2, by omega⟩
    unfold qt at h6
    unfold tw_textToken_l13
    refine Ev.f (by omega) (Ev.e (t_byteAt c p) ?_)
    by_cases d1 : bA p = 34
    · rw [if_pos d1] at h6
      refine Ev.g d1 (hK p τ (by omega) Ex.rf (fun w e => ?_) (fun e' e => ?_))
      · rw [h6] at e; cases e
      · rw [h6] at e; exact ⟨Sum.inr.inj e, rfl⟩
    · rw [if_neg d1] at h6
      refine Ev.f d1 (Ev.e (t_byteAt c p) ?_)
      by_cases d2 : bA p = -1
      · rw [if_pos d2] at h6
        exact Ev.f (fun z => z d2) (Ev.l (FIN all f _ p _ rfl c.2.1 l4 (by omega) h6))
      · rw [if_neg d2] at h6
        refine Ev.g d2 ?_
        rw [g46, w32_i (by omega) (by omega)]
        by_cases d3 : 24 < p - q
        · rw [if_pos d3] at h6
          exact Ev.f (by omega) (Ev.l (FIN q f _ p _ rfl rfl hq (by omega) h6))
        · rw [if_neg d3] at h6
          refine Ev.g (by omega) (Ev.e (t_isSign _) ?_)
          cases d4 : isG (bA p) with
          | true =>
            rw [d4, if_pos rfl] at h6
            refine Ev.g (by decide) ?_
            unfold tw_textToken_l13_j86
            rw [inc32 (by omega)]
            exact ih (p + 1) (f + 1) (by omega) (by omega) (by omega) (by omega) (Or.inl (by omega)) h6 (by omega)
          | false =>
            rw [d4, if_neg (by decide)] at h6
            have hp : p < hi := c.2.2.2.lt d2
            have := c.2.2.2.2.2.1
            exact Ev.f (by decide) (Ev.l (FIN p f _ p _ rfl rfl (by omega) (by omega) h6))
/-- signs: kind of token, of sign, how long -/
def sgO (c d : Int) : Int × (Int × Nat) :=
  if c = 61 then (9, (10, 1)) else if c = 60 then (if d = 62 then (9, (11, 2)) else if d = 61 then (9, (13, 2)) else (9, (12, 1)))
  else if c = 62 then (if d = 61 then (9, (15, 2)) else (9, (14, 1))) else if c = 38 then (9, (16, 1)) else if c = 43 then (9, (17, 1)) else if c = 45 then (9, (18, 1))
  else if c = 42 then (9, (19, 1)) else if c = 47 then (9, (20, 1)) else if c = 37 then (9, (21, 1)) else if c = 40 then (6, (0, 1)) else if c = 41 then (7, (0, 1)) else if c = 44 then (8, (0, 1)) else (10, (0, 1))
theorem t_sgn {k : Int} {n : Nat} (hk : 0 ≤ k ∧ k ≤ 100) (hn : n ≤ 500) : Ev (tw_sign h k n s) (fun r => Ex (Tk h) s r ∧ mI r h 47 = 9 ∧ mI r h 50 = k ∧ mI r h 49 = n ∧ mI r h 46 = mI s h 46 ∧ mI r h 48 = mI s h 48 ∧ mI r h 51 = mI s h 51) := by
  unfold tw_sign
  refine Ev.l (Ev.l (Ev.l (Ev.r ⟨?_, ?_, ?_, ?_, ?_, ?_, ?_⟩)))
  · refine Ex.I (Ex.I (Ex.I Ex.rf ?_) ?_) ?_ <;> (unfold Tk; omega)
  all_goals simp (disch := omega) only [mIwI1, mIwI2, w32_i]
theorem t_is {k : Int} {n : Nat} (hk : 0 ≤ k ∧ k ≤ 100) (hn : n ≤ 500) : Ev (tw_is h k n s) (fun r => Ex (Tk h) s r ∧ mI r h 47 = k ∧ mI r h 49 = n ∧ mI r h 46 = mI s h 46 ∧ mI r h 48 = mI s h 48 ∧ mI r h 51 = mI s h 51 ∧ mI r h 52 = mI s h 52 ∧ mI r h 53 = mI s h 53 ∧ mI r h 54 = mI s h 54) := by
  unfold tw_is
  refine Ev.l (Ev.l (Ev.r ⟨?_, ?_, ?_, ?_, ?_, ?_, ?_, ?_, ?_⟩))
  · refine Ex.I (Ex.I Ex.rf ?_) ?_ <;> (unfold Tk; omega)
  all_goals simp (disch := omega) only [mIwI1, mIwI2, w32_i]
/-- what a token that is a sign tells -/
def SgP (s r : gMem) (h q : Nat) (o : Int × (Int × Nat)) : Prop := Ex (Tk h) s r ∧ mI r h 47 = o.1 ∧ (o.1 = 9 → mI r h 50 = o.2.1) ∧ mI r h 49 = ((q + o.2.2 : Nat) : Int) ∧ mI r h 46 = mI s h 46 ∧ mI r h 48 = mI s h 48 ∧ mI r h 51 = mI s h 51
set_option maxRecDepth 100000 in
theorem t_signToken {c : Int} (t : TSt s h bA hi all) (g : mI s h 46 = q) (q4 : q ≤ 400) : Ev (tw_signToken h c s) (fun r => SgP s r h q (sgO c (bA (q + 1)))) := by
  have e1 : w32 ((q : Int) + 1) = ((q + 1 : Nat) : Int) := inc32 (by omega)
  have e2 : w32 ((q : Int) + 2) = ((q + 2 : Nat) : Int) := by rw [w32_i (by omega) (by omega)]; omega
  have S1 : ∀ {k : Int} {o : Int × (Int × Nat)}, 0 ≤ k ∧ k ≤ 100 → o = (9, (k, 1)) → Ev ((tw_sign h k ((q + 1 : Nat) : Int) s).bind (fun x => some x)) (fun r => SgP s r h q o) := fun hk ho => Ev.c (t_sgn hk (by omega)) (fun r _ z => Ev.r (by rw [ho]; exact ⟨z.1, z.2.1, fun _ => z.2.2.1, z.2.2.2.1, z.2.2.2.2⟩))
  have S2 : ∀ {k : Int} {o : Int × (Int × Nat)}, 0 ≤ k ∧ k ≤ 100 → o = (9, (k, 2)) → Ev ((tw_sign h k ((q + 2 : Nat) : Int) s).bind (fun x => some x)) (fun r => SgP s r h q o) := fun hk ho => Ev.c (t_sgn hk (by omega)) (fun r _ z => Ev.r (by rw [ho]; exact ⟨z.1, z.2.1, fun _ => z.2.2.1, z.2.2.2.1, z.2.2.2.2⟩))
  have S3 : ∀ {k : Int} {o : Int × (Int × Nat)}, 0 ≤ k ∧ k ≤ 100 → k ≠ 9 → o = (k, (0, 1)) → Ev ((tw_is h k ((q + 1 : Nat) : Int) s).bind (fun x => some x)) (fun r => SgP s r h q o) := fun hk h9 ho => Ev.c (t_is hk (by omega)) (fun r _ z => Ev.r (by rw [ho]; exact ⟨z.1, z.2.1, fun y => absurd y h9, z.2.2.1, z.2.2.2.1, z.2.2.2.2.1, z.2.2.2.2.2.1⟩))
  unfold tw_signToken tw_signToken_j116 tw_signToken_j63 tw_signToken_j75
  rw [g, e1, e2]
  refine Ev.e (t_byteAt t _) ?_
  unfold sgO
  generalize bA (q + 1) = d
  by_cases c1 : c = 61
  · rw [if_pos c1]; exact Ev.f (fun z => z c1) (S1 (by decide) rfl)
  rw [if_neg c1]; refine Ev.g c1 ?_
  by_cases c2 : c = 60
  · rw [if_pos c2]; refine Ev.f (fun z => z c2) ?_
    by_cases d1 : d = 62
    · refine Ev.f (fun z => z d1) (Ev.g d1 (S2 (k := 11) (by decide) ?_))
      rw [if_pos d1]
    · refine Ev.g d1 ?_
      by_cases d2 : d = 61
      · refine Ev.f (fun z => z d2) (Ev.f d1 (Ev.f (fun z => z d2) (S2 (k := 13) (by decide) ?_)))
        rw [if_neg d1, if_pos d2]
      · refine Ev.g d2 (Ev.f d1 (Ev.g d2 (S1 (k := 12) (by decide) ?_)))
        rw [if_neg d1, if_neg d2]
  rw [if_neg c2]; refine Ev.g c2 ?_
  by_cases c3 : c = 62
  · rw [if_pos c3]; refine Ev.f (fun z => z c3) ?_
    by_cases d2 : d = 61
    · rw [if_pos d2]; exact Ev.f (fun z => z d2) (Ev.f (fun z => z d2) (S2 (by decide) rfl))
    · rw [if_neg d2]; exact Ev.g d2 (Ev.g d2 (S1 (by decide) rfl))
  rw [if_neg c3]; refine Ev.g c3 ?_
  by_cases c4 : c = 38
  · rw [if_pos c4]; exact Ev.f (fun z => z c4) (S1 (by decide) rfl)
  rw [if_neg c4]; refine Ev.g c4 ?_
  by_cases c5 : c = 43
  · rw [if_pos c5]; exact Ev.f (fun z => z c5) (S1 (by decide) rfl)
  rw [if_neg c5]; refine Ev.g c5 ?_
  by_cases c6 : c = 45
  · rw [if_pos c6]; exact Ev.f (fun z => z c6) (S1 (by decide) rfl)
  rw [if_neg c6]; refine Ev.g c6 ?_
  by_cases c7 : c = 42
  · rw [if_pos c7]; exact Ev.f (fun z => z c7) (S1 (by decide) rfl)
  rw [if_neg c7]; refine Ev.g c7 ?_
  by_cases c8 : c = 47
  · rw [if_pos c8]; exact Ev.f (fun z => z c8) (S1 (by decide) rfl)
  rw [if_neg c8]; refine Ev.g c8 ?_
  by_cases c9 : c = 37
  · rw [if_pos c9]; exact Ev.f (fun z => z c9) (S1 (by decide) rfl)
  rw [if_neg c9]; refine Ev.g c9 ?_
  by_cases d1 : c = 40
  · rw [if_pos d1]; exact Ev.f (fun z => z d1) (S3 (by decide) (by decide) rfl)
  rw [if_neg d1]; refine Ev.g d1 ?_
  by_cases d2 : c = 41
  · rw [if_pos d2]; exact Ev.f (fun z => z d2) (S3 (by decide) (by decide) rfl)
  rw [if_neg d2]; refine Ev.g d2 ?_
  by_cases d3 : c = 44
  · rw [if_pos d3]; exact Ev.f (fun z => z d3) (S3 (by decide) (by decide) rfl)
  rw [if_neg d3]; exact Ev.g d3 (S3 (by decide) (by decide) rfl)
end Read2
