/-! ===== PHASE 2: the acts: insert, remove, move ===== -/
section State30
variable {N x h u b nv nv' pa un fs i t s k n a A j : Nat} {σ σ' σ1 τ τ' τ'' r f : gMem} {P : Nat → Nat → Prop} {W : Nat → Prop} {own rt : Nat → Nat} {S S' : Sh} {Gs : Nat → Sh} {g : Nat → Nat → Vl} {v w p q : Int} {ax : Int} {mk : Nat → Int} {fl : Nat → Option Nat}
def cdI : List (String × Int) := [("java/lang/IllegalArgumentException", 1), ("java/lang/IndexOutOfBoundsException", 2), ("java/lang/IllegalStateException", 3)]
def cdM : List (String × Int) := [("java/lang/IllegalArgumentException", 1), ("java/lang/IndexOutOfBoundsException", 2)]
theorem thrR {y : Nat} {s : gMem} {k : Nat → gMem → Option gR} : gThrR ((.inl (some (vR y)), s) : gR) k = k y s := rfl
theorem thrRE {E : String} {s : gMem} {k : Nat → gMem → Option gR} : gThrR ((.inr E, s) : gR) k = some (.inr E, s) := rfl
/-- where the marks of the working sheet lie -/
def axA (σ : gMem) (a : Nat) (ax : Int) : Nat := mR σ a (if ax ≠ 0 then 1 else 0)
theorem c_marksOf (l : LYc x σ) (e8 : mR σ x 8 = a) (c : ShC σ a S) : x1_marksOf x ax σ = some (if ax = 0 ∨ ax = 1 then (.inl (some (vR (axA σ a ax))), σ) else (.inr "java/lang/IllegalArgumentException", wX σ 6)) := by
  unfold x1_marksOf x9_marks axA
  rw [e8]
  by_cases c0 : ax = 0
  · rw [if_pos c0, if_pos l.1.1, if_pos c.1.1, if_neg (fun z => z c0), if_pos c.1.1, Option.bind_some, if_pos (Or.inl c0), if_neg (fun z => z c0)]
  · rw [if_neg c0]
    by_cases c1 : ax = 1
    · rw [if_pos c1, if_pos l.1.1, if_pos c.1.1, if_pos c0, if_pos c.1.1, Option.bind_some, if_pos (Or.inr c1), if_pos c0]
    · rw [if_neg c1, if_neg (fun z => z.elim c0 c1)]
theorem axA_ls (c : ShC σ a S) : LsC σ (axA σ a ax) (axL S ax) := by
  unfold axA axL
  by_cases c0 : ax ≠ 0
  · rw [if_pos c0, if_pos c0]; exact c.1.2.2.1
  · rw [if_neg c0, if_neg c0]; exact c.1.2.1
theorem ShT.axn (k : ShT τ h nv u S) (hu : u < 122) : tw_linesOf h u ax τ = some ((axL S ax).length : Int) := by
  have ln := k.ln
  rw [t_linesOf hu]
  unfold axL
  by_cases c : ax ≠ 0
  · have e : tLn τ h u ax = tLn τ h u 1 := by unfold tLn; rw [if_pos c, if_pos (by decide)]
    rw [if_pos c, e, ln.2.1]
  · have e : tLn τ h u ax = tLn τ h u 0 := by unfold tLn; rw [if_neg c, if_neg (by decide)]
    rw [if_neg c, e, ln.1.1]
theorem t_setLines {u : Nat} (hu : u < 122) : tw_setLines h u ax v τ = some (wI τ (if ax ≠ 0 then h + 2 else h + 1) u v) := by
  unfold tw_setLines
  by_cases c : ax ≠ 0
  · rw [if_pos c, if_pos c, if_pos (by omega), tn]; rfl
  · rw [if_neg c, if_neg c, if_pos (by omega), tn]; rfl
theorem axM_v (ha : ax = 0 ∨ ax = 1) : ((axM ax : Nat) : Int) = if ax ≠ 0 then 10 else 32 := by rcases ha with e | e <;> subst e <;> rfl
/-- the sheet that a step kept -/
theorem kept_k (R : Rl x h t nv (if pa = 40 then 40 else pa + 1) 0 fs (stG pa Gs) g own rt σ τ) : ShT τ h nv (tsN fs (if pa = 40 then 40 else pa + 1)) (Gs 0) ∧ tsN fs (if pa = 40 then 40 else pa + 1) ≠ 40 ∧ tsN fs (if pa = 40 then 40 else pa + 1) < 122 := by
  obtain ⟨c5, n1, n4, pu, c8, p4, u4⟩ := R.c5
  have hv : rtV nv (if pa = 40 then 40 else pa + 1) 0 (if pa = 40 then 40 else pa + 1) := by unfold rtV; split <;> omega
  have k := R.shT hv
  have e : stG pa Gs (if pa = 40 then 40 else pa + 1) = Gs 0 := by unfold stG; rw [if_pos rfl]
  rw [e] at k
  have lt := tsN_lt (fs := fs) hv n4 p4 (by decide)
  refine ⟨k, fun z => ?_, by omega⟩
  have := tsN_inj (fs := fs) hv (show rtV nv (if pa = 40 then 40 else pa + 1) 0 0 from Or.inl rfl) n4 p4 (by decide) z
  split at this <;> omega
theorem ShT.lnp (k : ShT τ h nv u S) (e : Ex (LnP h ax) τ r) (hu : u ≠ 40) (n1 : S.1.1.length ≤ 32) (n2 : S.1.2.length ≤ 10) : ShT r h nv u S :=
  k.ex e (fun a k p q => by unfold LnP at p; unfold SlP at q; omega) (fun a k p => p.co) (LnP.grw e (fun _ _ p => p)) (Nat.le_refl _) n1 n2
section Ins
variable {K : gMem → Option (Int × gMem)} {Φ : Int × gMem → Prop} {at' kp : Nat}
/-- lines behind a place come one place further on -/
theorem ins_l (hN : 100 ≤ N) (n1 : S.1.1.length ≤ 32) (n2 : S.1.2.length ≤ 10) (hk : kp < 122) (k40 : kp ≠ 40) (ha : 1 ≤ at') (ht : (axL S ax).length + 1 ≤ axM ax) (hK : ∀ r, Ex (LnP h ax) τ r → LnT h nv r ax S (fun j => j < (axL S ax).length + 1 ∧ j ≠ at' - 1) (fun j => gl (axL S ax) (if at' ≤ j then j - 1 else j)) (fun j => some (if at' ≤ j then j - 1 else j)) → Ev (K r) Φ) : ∀ (m k fu : Nat) (r : gMem), k + m = (axL S ax).length + 1 → at' ≤ k → m < fu → Ex (LnP h ax) τ r → ShT r h nv kp S → LnT h nv r ax S (fun j => (j < (axL S ax).length ∨ j < k) ∧ j ≠ at' - 1) (fun j => gl (axL S ax) (if at' ≤ j ∧ j < k then j - 1 else j)) (fun j => some (if at' ≤ j ∧ j < k then j - 1 else j)) → Ev (tw_insert_l85 N h ax at' (axL S ax).length kp K fu k r) Φ := by
  have a32 := axM_le ax
  intro m
  induction m with
  | zero =>
    intro k fu r h1 h2 h3 X kS L
    obtain ⟨fu, rfl⟩ : ∃ j, fu = j + 1 := ⟨fu - 1, by omega⟩
    unfold tw_insert_l85
    refine Ev.g (by omega) (hK r X (L.cg (fun j hj => ?_)))
    have e : (if at' ≤ j ∧ j < k then j - 1 else j) = if at' ≤ j then j - 1 else j := by
      by_cases c : at' ≤ j
      · rw [if_pos ⟨c, by omega⟩, if_pos c]
      · rw [if_neg (fun z => c z.1), if_neg c]
    exact ⟨⟨Or.inr (by omega), hj.2⟩, by rw [e], by rw [e]⟩
  | succ m ih =>
    intro k fu r h1 h2 h3 X kS L
    obtain ⟨fu, rfl⟩ : ∃ j, fu = j + 1 := ⟨fu - 1, by omega⟩
    unfold tw_insert_l85
    rw [show w32 ((k : Int) - 1) = ((k - 1 : Nat) : Int) by rw [w32_i (by omega) (by omega)]; omega, inc32 (by omega)]
    refine Ev.f (by omega) (Ev.c (t_comeLine (fr := k - 1) (to := k) hN L kS n1 n2 hk k40 (by omega) (by omega) (fun j hj => by omega)) (fun r' _ z => ?_))
    obtain ⟨L', X'⟩ := z
    refine ih (k + 1) fu r' (by omega) (by omega) (by omega) (X.tr X') (kS.lnp X' k40 n1 n2) (L'.cg (fun j hj => ?_))
    unfold upL
    by_cases e : j = k
    · subst e
      refine ⟨Or.inl rfl, ?_, ?_⟩
      · rw [if_pos rfl, if_pos ⟨h2, by omega⟩]
      · rw [if_pos rfl, if_pos ⟨h2, by omega⟩]
    · have e2 : (if at' ≤ j ∧ j < k + 1 then j - 1 else j) = if at' ≤ j ∧ j < k then j - 1 else j := by
        by_cases c : at' ≤ j ∧ j < k
        · rw [if_pos c, if_pos ⟨c.1, by omega⟩]
        · rw [if_neg c, if_neg (fun z => c ⟨z.1, by omega⟩)]
      exact ⟨Or.inr ⟨by omega, hj.2⟩, by rw [if_neg e, e2], by rw [if_neg e, e2]⟩
end Ins
section Del
variable {K : gMem → Option gMem} {Φ : gMem → Prop} {at' kp : Nat}
theorem del_l (hN : 100 ≤ N) (n1 : S.1.1.length ≤ 32) (n2 : S.1.2.length ≤ 10) (hk : kp < 122) (k40 : kp ≠ 40) (ha : 1 ≤ at') (hK : ∀ r, Ex (LnP h ax) τ r → LnT h nv r ax S (fun j => j < (axL S ax).length) (fun j => gl (axL S ax) (if at' ≤ j + 1 ∧ j + 1 < (axL S ax).length then j + 1 else j)) (fun j => some (if at' ≤ j + 1 ∧ j + 1 < (axL S ax).length then j + 1 else j)) → Ev (K r) Φ) : ∀ (m k fu : Nat) (r : gMem), k + m = (axL S ax).length → at' ≤ k → m < fu → Ex (LnP h ax) τ r → ShT r h nv kp S → LnT h nv r ax S (fun j => j < (axL S ax).length) (fun j => gl (axL S ax) (if at' ≤ j + 1 ∧ j + 1 < k then j + 1 else j)) (fun j => some (if at' ≤ j + 1 ∧ j + 1 < k then j + 1 else j)) → Ev (tw_goLine_l12 N h ax kp (axL S ax).length K fu k r) Φ := by
  have a32 := axM_le ax
  have al := axL_le (ax := ax) n1 n2
  intro m
  induction m with
  | zero =>
    intro k fu r h1 h2 h3 X kS L
    obtain ⟨fu, rfl⟩ : ∃ j, fu = j + 1 := ⟨fu - 1, by omega⟩
    obtain rfl : k = (axL S ax).length := by omega
    unfold tw_goLine_l12
    exact Ev.g (by omega) (hK r X L)
  | succ m ih =>
    intro k fu r h1 h2 h3 X kS L
    obtain ⟨fu, rfl⟩ : ∃ j, fu = j + 1 := ⟨fu - 1, by omega⟩
    unfold tw_goLine_l12
    rw [show w32 ((k : Int) - 1) = ((k - 1 : Nat) : Int) by rw [w32_i (by omega) (by omega)]; omega, inc32 (by omega)]
    refine Ev.f (by omega) (Ev.c (t_comeLine (fr := k) (to := k - 1) hN L kS n1 n2 hk k40 (by omega) (by omega) (fun j hj => by omega)) (fun r' _ z => ?_))
    obtain ⟨L', X'⟩ := z
    refine ih (k + 1) fu r' (by omega) (by omega) (by omega) (X.tr X') (kS.lnp X' k40 n1 n2) (L'.cg (fun j hj => ?_))
    unfold upL
    by_cases e : j = k - 1
    · subst e
      have e1 : (if at' ≤ k - 1 + 1 ∧ k - 1 + 1 < k + 1 then k - 1 + 1 else k - 1) = k := by rw [if_pos (by omega)]; omega
      exact ⟨Or.inl rfl, by rw [if_pos rfl, e1], by rw [if_pos rfl, e1]⟩
    · have e2 : (if at' ≤ j + 1 ∧ j + 1 < k + 1 then j + 1 else j) = if at' ≤ j + 1 ∧ j + 1 < k then j + 1 else j := by
        by_cases c : at' ≤ j + 1 ∧ j + 1 < k
        · rw [if_pos c, if_pos ⟨c.1, by omega⟩]
        · rw [if_neg c, if_neg (fun z => c ⟨z.1, by omega⟩)]
      exact ⟨Or.inr hj, by rw [if_neg e, e2], by rw [if_neg e, e2]⟩
end Del
/-- what the working sheet's count and other axis are behind writes to lines -/
theorem ln_co (kS : ShT τ h nv 40 S) (n1 : S.1.1.length ≤ 32) (n2 : S.1.2.length ≤ 10) (E : if ax ≠ 0 then mI r (h + 1) 40 = mI τ (h + 1) 40 ∧ ∀ j, j < 32 → mI r (h + 3) (32 * 40 + j) = mI τ (h + 3) (32 * 40 + j) else mI r (h + 2) 40 = mI τ (h + 2) 40 ∧ ∀ j, j < 10 → mI r (h + 4) (10 * 40 + j) = mI τ (h + 4) (10 * 40 + j)) : if ax ≠ 0 then mI r (h + 1) 40 = S.1.1.length ∧ ∀ j, j < S.1.1.length → mI r (h + 3) (32 * 40 + j) = gl S.1.1 j else mI r (h + 2) 40 = S.1.2.length ∧ ∀ j, j < S.1.2.length → mI r (h + 4) (10 * 40 + j) = gl S.1.2 j := by
  by_cases c : ax ≠ 0
  · rw [if_pos c] at E ⊢
    exact ⟨by rw [E.1]; exact kS.1, fun j hj => by rw [E.2 j (by omega)]; exact kS.2.2.1 j hj⟩
  · rw [if_neg c] at E ⊢
    exact ⟨by rw [E.1]; exact kS.2.1, fun j hj => by rw [E.2 j (by omega)]; exact kS.2.2.2.1 j hj⟩
end State30
