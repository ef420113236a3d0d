/-! ===== PHASE 2: the act sort -/
section State44
variable {N x h u nv pa un fs i t s k n a A j L f0 : Nat} {σ σ' τ τ' r f : gMem} {P : Nat → Nat → Prop} {W : Nat → Prop} {own rt : Nat → Nat} {S S' : Sh} {Gs : Nat → Sh} {g : Nat → Nat → Vl} {v w p : Int} {ax : Int}
/-- how many are elsewhere -/
def cqN (q : Nat → Nat) : Nat → Nat
  | 0 => 0
  | k + 1 => cqN q k + (if q k ≠ k then 1 else 0)
theorem cqN_le (q : Nat → Nat) (k : Nat) : cqN q k ≤ k := by
  induction k with
  | zero => exact Nat.le_refl 0
  | succ k ih => unfold cqN; split <;> omega
/-- the whole row, sorted between -/
def srQ (f0 n : Nat) (q : Nat → Nat) (j : Nat) : Nat := if f0 ≤ j ∧ j < f0 + n then f0 + q (j - f0) else j
/-- the marks in their new row -/
theorem sort_mk {n Bq : Nat} {q : Nat → Nat} {rows : List Int} {s0 : gMem} {K : Int → gMem → Option gR} {y : Option (Int × gMem)} {Φ : gR → Int × gMem → Prop} (t1 : mT s0 x = 1) (e8 : mR s0 x 8 = a) (ta : mT s0 a = 8) (lm : LsC s0 (mR s0 a 0) rows) (tA : mT s0 A = 100) (nA : mN s0 A = rows.length) (tB : mT s0 Bq = 100) (nB : mN s0 Bq = rows.length) (d1 : Bq ≠ A) (d2 : Bq ≠ mR s0 a 0) (iA : ∀ j, j < rows.length → mI s0 A j = (srQ f0 n q j : Nat)) (lQ : ∀ j, j < rows.length → srQ f0 n q j < rows.length) (hn : f0 + n ≤ rows.length) (hK : ∀ s, Ex (fun b _ => b = Bq) s0 s → (∀ j, j < rows.length → mI s Bq j = gl rows (srQ f0 n q j)) → E2 (K (cqN q n : Nat) s) y Φ) : ∀ (m k fu : Nat) (s : gMem), k + m = rows.length → m < fu → Ex (fun b _ => b = Bq) s0 s → (∀ j, j < k → mI s Bq j = gl rows (srQ f0 n q j)) → E2 (x1_sort_l186 N x A Bq K fu (cqN q (min n (k - f0)) : Nat) (k : Int) s) y Φ := by
  have n32 := lm.2.2.1
  intro m
  induction m with
  | zero =>
    intro k fu s h1 h2 X I
    obtain ⟨fu, rfl⟩ : ∃ j, fu = j + 1 := ⟨fu - 1, by omega⟩
    unfold x1_sort_l186
    rw [X.rT, X.rN, nA, w32_i (by omega) (by omega), show min n (k - f0) = n by omega]
    exact E2.lg tA (E2.lg (by omega) (hK s X (fun j hj => I j (by omega))))
  | succ m ih =>
    intro k fu s h1 h2 X I
    obtain ⟨fu, rfl⟩ : ∃ j, fu = j + 1 := ⟨fu - 1, by omega⟩
    have lk := lQ k (by omega)
    have eA : mI s A k = (srQ f0 n q k : Nat) := by rw [X.rI (fun p => d1 p.symm)]; exact iA k (by omega)
    have eM : mI s (mR s0 a 0) (srQ f0 n q k) = gl rows (srQ f0 n q k) := by rw [X.rI (fun p => d2 p.symm)]; exact lm.2.2.2 _ lk
    have g32m : g32 (gl rows (srQ f0 n q k)) := by rw [← eM]; exact mI_rng _ _ _
    have cl := cqN_le q (min n (k - f0))
    have NX : ∀ d : Nat, cqN q (min n (k - f0)) + d = cqN q (min n (k + 1 - f0)) → E2 (x1_sort_l186_j229 N x A Bq (k : Int) (d : Int) (cqN q (min n (k - f0)) : Nat) (x1_sort_l186 N x A Bq K fu) K (wI s Bq k (gl rows (srQ f0 n q k)))) y Φ := by
      intro d hd
      unfold x1_sort_l186_j229
      have cl2 := cqN_le q (min n (k + 1 - f0))
      rw [show w32 (((cqN q (min n (k - f0)) : Nat) : Int) + (d : Int)) = ((cqN q (min n (k + 1 - f0)) : Nat) : Int) by rw [w32_i (by omega) (by omega)]; omega, inc32 (by omega)]
      refine ih (k + 1) fu _ (by omega) (by omega) (X.I rfl) (fun j hj => ?_)
      by_cases e : j = k
      · rw [e, mIwI2 ⟨rfl, rfl⟩, w32_id g32m]
      · rw [mIwI1 (by omega)]; exact I j (by omega)
    have eA2 : mI (wI s Bq k (gl rows (srQ f0 n q k))) A k = (srQ f0 n q k : Nat) := by rw [mIwI1 (by omega)]; exact eA
    unfold x1_sort_l186
    rw [X.rT, X.rN, X.rR, nA, e8, w32_i (x := (rows.length : Int)) (by omega) (by omega), tn, eA, tn, eM, lm.2.1, nB]
    refine E2.lg tA (E2.lf (by omega) (E2.lg t1 (E2.lg ta (E2.lg (by omega) (E2.lg lm.1 (E2.lg (by omega) (E2.lg tB (E2.lg (by omega) (E2.ll ?_)))))))))
    rw [eA2]
    refine E2.lg (by show 0 ≤ (k : Int) ∧ (k : Int) < ((mN s A : Nat) : Int); rw [X.rN, nA]; omega) ?_
    by_cases e : ((srQ f0 n q k : Nat) : Int) ≠ (k : Int)
    · refine E2.lg e (NX 1 ?_)
      have ne : srQ f0 n q k ≠ k := fun z => e (by rw [z])
      unfold srQ at ne
      by_cases c : f0 ≤ k ∧ k < f0 + n
      · rw [if_pos c] at ne
        rw [show min n (k + 1 - f0) = (k - f0) + 1 by omega, show min n (k - f0) = k - f0 by omega]
        show _ = cqN q (k - f0) + _
        rw [if_pos (by omega)]
      · rw [if_neg c] at ne; exact absurd rfl ne
    · refine E2.lf e (NX 0 ?_)
      have eq : srQ f0 n q k = k := by omega
      unfold srQ at eq
      by_cases c : f0 ≤ k ∧ k < f0 + n
      · rw [if_pos c] at eq
        rw [show min n (k + 1 - f0) = (k - f0) + 1 by omega, show min n (k - f0) = k - f0 by omega]
        show _ = cqN q (k - f0) + _
        rw [if_neg (by omega)]
      · rw [show min n (k + 1 - f0) = min n (k - f0) by omega]; rfl
/-- the lines in their new row -/
theorem sort_ln {n kp : Nat} {q : Nat → Nat} {K : Int → gMem → Option (Int × gMem)} {Φ : Int × gMem → Prop} (hN : 2000 ≤ N) (n1 : S.1.1.length ≤ 32) (n2 : S.1.2.length ≤ 10) (hk : kp < 122) (k40 : kp ≠ 40) (hn : f0 + n ≤ S.1.1.length) (lq : ∀ j, j < n → q j < n) (i43 : ∀ j, j < n → mI τ (h + 43) j = (q j : Int)) (hK : ∀ r, Ex (LnP h 0) τ r → LnT h nv r 0 S (fun j => j < S.1.1.length) (fun j => gl S.1.1 (srQ f0 n q j)) (fun j => some (srQ f0 n q j)) → Ev (K (cqN q n : Nat) r) Φ) : ∀ (m k fu : Nat) (r : gMem), k + m = n → m < fu → Ex (LnP h 0) τ r → ShT r h nv kp S → LnT h nv r 0 S (fun j => j < S.1.1.length) (fun j => gl S.1.1 (if f0 ≤ j ∧ j < f0 + k then srQ f0 n q j else j)) (fun j => some (if f0 ≤ j ∧ j < f0 + k then srQ f0 n q j else j)) → Ev (tw_sort_l196 N h ((f0 + 1 : Nat) : Int) (n : Int) (kp : Int) K fu (cqN q k : Nat) (k : Int) r) Φ := by
  have aL : axL S 0 = S.1.1 := rfl
  have aM : axM 0 = 32 := rfl
  intro m
  induction m with
  | zero =>
    intro k fu r h1 h2 X kS L
    obtain ⟨fu, rfl⟩ : ∃ j, fu = j + 1 := ⟨fu - 1, by omega⟩
    obtain rfl : k = n := by omega
    unfold tw_sort_l196
    refine Ev.g (by omega) (hK r X (L.cg (fun j hj => ?_)))
    have e : (if f0 ≤ j ∧ j < f0 + k then srQ f0 k q j else j) = srQ f0 k q j := by
      by_cases c : f0 ≤ j ∧ j < f0 + k
      · rw [if_pos c]
      · rw [if_neg c]; unfold srQ; rw [if_neg c]
    exact ⟨hj, by rw [e], by rw [e]⟩
  | succ m ih =>
    intro k fu r h1 h2 X kS L
    obtain ⟨fu, rfl⟩ : ∃ j, fu = j + 1 := ⟨fu - 1, by omega⟩
    have lk := lq k (by omega)
    have e43 : mI r (h + 43) k = (q k : Int) := by rw [X.rI (fun p => by unfold LnP at p; omega)]; exact i43 k (by omega)
    have cl := cqN_le q k
    have NX : ∀ d : Nat, cqN q k + d = cqN q (k + 1) → Ev (tw_sort_l196_j222 N h ((f0 + 1 : Nat) : Int) (n : Int) (kp : Int) (k : Int) (d : Int) (cqN q k : Nat) (tw_sort_l196 N h ((f0 + 1 : Nat) : Int) (n : Int) (kp : Int) K fu) K r) Φ := by
      intro d hd
      have cl2 := cqN_le q (k + 1)
      unfold tw_sort_l196_j222
      rw [tn, e43, show w32 (((f0 + 1 : Nat) : Int) - 1 + (q k : Int)) = ((f0 + q k : Nat) : Int) by rw [w32_i (by omega) (by omega)]; omega, show w32 (((f0 + 1 : Nat) : Int) - 1 + (k : Int)) = ((f0 + k : Nat) : Int) by rw [w32_i (by omega) (by omega)]; omega, show w32 (((cqN q k : Nat) : Int) + (d : Int)) = ((cqN q (k + 1) : Nat) : Int) by rw [w32_i (by omega) (by omega)]; omega, inc32 (by omega)]
      refine Ev.g (by omega) (Ev.c (t_comeLine (ax := 0) (fr := f0 + q k) (to := f0 + k) (by omega) L kS n1 n2 hk k40 (by rw [aL]; omega) (by omega) (fun j hj => by omega)) (fun r' _ z => ?_))
      obtain ⟨L', X'⟩ := z
      refine ih (k + 1) fu r' (by omega) (by omega) (X.tr X') (kS.lnp X' k40 n1 n2) (L'.cg (fun j hj => ?_))
      unfold upL
      by_cases e : j = f0 + k
      · have e1 : (if f0 ≤ j ∧ j < f0 + (k + 1) then srQ f0 n q j else j) = f0 + q k := by
          rw [if_pos (by omega)]
          unfold srQ
          rw [if_pos (by omega), e, show f0 + k - f0 = k by omega]
        exact ⟨Or.inl e, by rw [if_pos e, e1]; rfl, by rw [if_pos e, e1]⟩
      · have e1 : (if f0 ≤ j ∧ j < f0 + (k + 1) then srQ f0 n q j else j) = if f0 ≤ j ∧ j < f0 + k then srQ f0 n q j else j := by
          by_cases c : f0 ≤ j ∧ j < f0 + k
          · rw [if_pos c, if_pos (by omega)]
          · rw [if_neg c, if_neg (by omega)]
        exact ⟨Or.inr hj, by rw [if_neg e, e1], by rw [if_neg e, e1]⟩
    unfold tw_sort_l196
    rw [tn, e43]
    refine Ev.f (by omega) (Ev.g (by omega) ?_)
    by_cases e : (q k : Int) = (k : Int)
    · refine Ev.g e (NX 0 ?_)
      show _ = cqN q k + _
      rw [if_neg (by omega)]
    · refine Ev.f e (NX 1 ?_)
      show _ = cqN q k + _
      rw [if_pos (by omega)]
theorem srQ_lt {n : Nat} {q : Nat → Nat} (lq : ∀ j, j < n → q j < n) (hn : f0 + n ≤ L) (hj : j < L) : srQ f0 n q j < L := by
  unfold srQ
  split
  · have := lq (j - f0) (by omega); omega
  · exact hj
theorem srQ_inj {n j' : Nat} {q : Nat → Nat} (lq : ∀ j, j < n → q j < n) (iq : ∀ j j', j < n → j' < n → q j = q j' → j = j') (e : srQ f0 n q j = srQ f0 n q j') : j = j' := by
  unfold srQ at e
  by_cases c1 : f0 ≤ j ∧ j < f0 + n
  · rw [if_pos c1] at e
    have := lq (j - f0) (by omega)
    by_cases c2 : f0 ≤ j' ∧ j' < f0 + n
    · rw [if_pos c2] at e
      have := iq (j - f0) (j' - f0) (by omega) (by omega) (by omega); omega
    · rw [if_neg c2] at e; omega
  · rw [if_neg c1] at e
    by_cases c2 : f0 ≤ j' ∧ j' < f0 + n
    · rw [if_pos c2] at e
      have := lq (j' - f0) (by omega); omega
    · rw [if_neg c2] at e; exact e
end State44
