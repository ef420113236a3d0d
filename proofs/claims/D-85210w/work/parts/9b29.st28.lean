/-! ===== PHASE 2: sheets laid anew: the twin's lines ===== -/
section Lay2
variable {N h nv kp fr to at' n : Nat} {D : Nat → Prop} {ax v : Int} {τ r r' : gMem} {S : Sh} {mk : Nat → Int} {f : Nat → Option Nat} {P : Nat → Nat → Prop}
def upL {α : Type} (g : Nat → α) (j : Nat) (v : α) : Nat → α := fun k => if k = j then v else g k
/-- cell i of line k -/
def onl (ax : Int) (k i : Nat) : Nat := if ax ≠ 0 then 10 * i + k else 10 * k + i
def lgL (ax : Int) : Nat := if ax ≠ 0 then 32 else 10
def crL (S : Sh) (ax : Int) : Nat := if ax ≠ 0 then S.1.1.length else S.1.2.length
def axL (S : Sh) (ax : Int) : List Int := if ax ≠ 0 then S.1.2 else S.1.1
def lnC (S : Sh) (ax : Int) (m : Option Nat) (i : Nat) : Ct := match m with
  | none => (vE, [])
  | some q => S.2 (onl ax q i)
theorem onl_inj {j i j' i' : Nat} (h1 : j < axM ax) (h2 : i < lgL ax) (h3 : j' < axM ax) (h4 : i' < lgL ax) (e : onl ax j i = onl ax j' i') : j = j' ∧ i = i' := by
  unfold axM at h1 h3
  unfold lgL at h2 h4
  unfold onl at e
  by_cases c : ax ≠ 0
  · rw [if_pos c] at h1 h2 h3 h4 e; rw [if_pos c] at e; omega
  · rw [if_neg c] at h1 h2 h3 h4 e; rw [if_neg c] at e; omega
theorem onl_lt {j i : Nat} (h1 : j < axM ax) (h2 : i < lgL ax) : onl ax j i < 320 := by
  unfold axM at h1
  unfold lgL at h2
  unfold onl
  by_cases c : ax ≠ 0
  · rw [if_pos c] at h1 h2 ⊢; omega
  · rw [if_neg c] at h1 h2 ⊢; omega
/-- lines of the working sheet: their marks, their contents out of sheet S -/
def LnT (h nv : Nat) (r : gMem) (ax : Int) (S : Sh) (D : Nat → Prop) (mk : Nat → Int) (f : Nat → Option Nat) : Prop := ∀ j, D j → tLi r h 40 ax j = mk j ∧ ∀ i, i < crL S ax → CtB r h nv (mI r (h + 5) (12800 + onl ax j i)) (lnC S ax (f j) i)
def LnP (h : Nat) (ax : Int) (a k : Nat) : Prop := (ax = 0 ∧ a = h + 3 ∧ 1280 ≤ k ∧ k < 1312) ∨ (¬ ax = 0 ∧ a = h + 4 ∧ 400 ≤ k ∧ k < 410) ∨ (a = h + 5 ∧ 12800 ≤ k ∧ k < 13120)
theorem LnP.sl {a k : Nat} (p : LnP h ax a k) : SlP h 40 a k := by unfold LnP at p; unfold SlP; omega
theorem LnP.co {a k : Nat} (p : LnP h ax a k) : ¬ CoP τ h a k := Qt.co (by unfold LnP at p; unfold Qt; omega)
theorem LnP.grw (e : Ex P r r') (hP : ∀ a k, P a k → LnP h ax a k) : Grw r r' h := by
  have n : ∀ k, ¬ P h k := fun k p => by have := hP _ _ p; unfold LnP at this; omega
  unfold Grw
  rw [e.rI (n 25), e.rI (n 19), e.rI (n 24)]
  exact ⟨Int.le_refl _, Int.le_refl _, Int.le_refl _⟩
/-- where a line's mark lies -/
def mlA (h : Nat) (ax : Int) : Nat := if ax ≠ 0 then h + 4 else h + 3
def mlK (ax : Int) (k : Nat) : Nat := if ax ≠ 0 then 400 + k else 1280 + k
theorem tLi_ml (k : Nat) : tLi r h 40 ax k = mI r (mlA h ax) (mlK ax k) := by
  unfold tLi mlA mlK
  by_cases c : ax ≠ 0
  · rw [if_pos c, if_pos c, if_pos c]
  · rw [if_neg c, if_neg c, if_neg c]
theorem mlA_ne : mlA h ax ≠ h + 5 ∧ mlA h ax ≠ h := by unfold mlA; split <;> omega
theorem mlP {k : Nat} (hk : k < axM ax) : LnP h ax (mlA h ax) (mlK ax k) := by
  unfold axM at hk
  unfold LnP mlA mlK
  by_cases c : ax ≠ 0
  · rw [if_pos c] at hk ⊢; rw [if_pos c]; omega
  · rw [if_neg c] at hk ⊢; rw [if_neg c]; omega
theorem mlK_inj {k k' : Nat} (e : mlK ax k = mlK ax k') : k = k' := by unfold mlK at e; split at e <;> omega
theorem t_setLine (hk : to < axM ax) : tw_setLine h 40 ax to v r = some (wI r (mlA h ax) (mlK ax to) v) := by
  unfold axM at hk
  unfold tw_setLine mlA mlK
  by_cases c : ax ≠ 0
  · rw [if_pos c] at hk
    rw [if_pos c, if_pos c, if_pos c, if_pos (by omega), show (10 * (40 : Int) + (to : Int)).toNat = 400 + to by omega]
    rfl
  · rw [if_neg c] at hk
    rw [if_neg c, if_neg c, if_neg c, if_pos (by omega), show (32 * (40 : Int) + (to : Int)).toNat = 1280 + to by omega]
    rfl
theorem t_onLine {j i : Nat} (h1 : j < axM ax) (h2 : i < lgL ax) : tw_onLine ax j i r = some ((onl ax j i : Nat) : Int) := by
  have lt := onl_lt h1 h2
  unfold onl at lt
  unfold tw_onLine onl
  by_cases c : ax ≠ 0
  · rw [if_pos c] at lt
    rw [if_pos c, if_pos c, w32_i (by omega) (by omega)]
    exact congrArg some (by omega)
  · rw [if_neg c] at lt
    rw [if_neg c, if_neg c, w32_i (by omega) (by omega)]
    exact congrArg some (by omega)
theorem t_longOf : tw_longOf ax r = some ((lgL ax : Nat) : Int) := by
  unfold tw_longOf lgL
  by_cases c : ax ≠ 0
  · rw [if_pos c, if_pos c]; rfl
  · rw [if_neg c, if_neg c]; rfl
theorem lgL_le : lgL ax ≤ 32 := by unfold lgL; split <;> omega
theorem crL_le (n1 : S.1.1.length ≤ 32) (n2 : S.1.2.length ≤ 10) : crL S ax ≤ lgL ax := by
  unfold crL lgL
  by_cases c : ax ≠ 0
  · rw [if_pos c, if_pos c]; exact n1
  · rw [if_neg c, if_neg c]; exact n2
theorem axL_le (n1 : S.1.1.length ≤ 32) (n2 : S.1.2.length ≤ 10) : (axL S ax).length ≤ axM ax := by
  unfold axL axM
  by_cases c : ax ≠ 0
  · rw [if_pos c, if_pos c]; exact n2
  · rw [if_neg c, if_neg c]; exact n1
theorem onl_in {j i : Nat} (h1 : j < (axL S ax).length) (h2 : i < crL S ax) (n2 : S.1.2.length ≤ 10) : inB S.1.1.length S.1.2.length (onl ax j i) := by
  unfold axL at h1
  unfold crL at h2
  unfold inB onl
  by_cases c : ax ≠ 0
  · rw [if_pos c] at h1 h2 ⊢; omega
  · rw [if_neg c] at h1 h2 ⊢; omega
/-- cells of one line are copied -/
def CLn (h : Nat) (ax : Int) (kp fr to : Nat) (τ r : gMem) (i : Nat) : Prop := Ex (fun a k => a = h + 5 ∧ ∃ j, j < lgL ax ∧ k = 12800 + onl ax to j) τ r ∧ ∀ j, j < i → mI r (h + 5) (12800 + onl ax to j) = mI τ (h + 5) (320 * kp + onl ax fr j)
theorem t_come_l {K : gMem → Option gMem} {Φ : gMem → Prop} (hf : fr < axM ax) (ht : to < axM ax) (hk : kp < 122) (k40 : kp ≠ 40) (hK : ∀ r, CLn h ax kp fr to τ r (lgL ax) → Ev (K r) Φ) : ∀ (m i fu : Nat) (r : gMem), i + m = lgL ax → m < fu → CLn h ax kp fr to τ r i → Ev (tw_comeLine_l19 N h ax fr kp to K fu i r) Φ := by
  have l32 := lgL_le (ax := ax)
  intro m
  induction m with
  | zero =>
    intro i fu r h1 h2 I
    obtain ⟨fu, rfl⟩ : ∃ j, fu = j + 1 := ⟨fu - 1, by omega⟩
    unfold tw_comeLine_l19
    rw [t_longOf, Option.bind_some]
    refine Ev.g (by omega) (hK r ?_)
    rw [show lgL ax = i by omega]; exact I
  | succ m ih =>
    intro i fu r h1 h2 I
    obtain ⟨fu, rfl⟩ : ∃ j, fu = j + 1 := ⟨fu - 1, by omega⟩
    obtain ⟨X, I1⟩ := I
    have lf := onl_lt hf (show i < lgL ax by omega)
    have lt := onl_lt ht (show i < lgL ax by omega)
    unfold tw_comeLine_l19
    rw [t_longOf, Option.bind_some, t_onLine ht (by omega), Option.bind_some, t_onLine hf (by omega), Option.bind_some, show (12800 + ((onl ax to i : Nat) : Int)).toNat = 12800 + onl ax to i by omega, show (320 * (kp : Int) + ((onl ax fr i : Nat) : Int)).toNat = 320 * kp + onl ax fr i by omega, inc32 (by omega)]
    refine Ev.f (by omega) (Ev.g (by omega) (Ev.g (by omega) (Ev.l (ih (i + 1) fu _ (by omega) (by omega) ⟨X.I ⟨rfl, i, by omega, rfl⟩, fun j hj => ?_⟩))))
    have rd : ∀ y, mI r (h + 5) (320 * kp + onl ax fr i) = y → y = mI τ (h + 5) (320 * kp + onl ax fr i) := fun y hy => by
      rw [← hy]
      exact X.rI (fun p => by
        obtain ⟨-, j, hj, e⟩ := p
        have := onl_lt ht hj
        omega)
    by_cases c : j = i
    · subst c
      rw [mIwI2 ⟨rfl, rfl⟩, mI_w32]
      exact rd _ rfl
    · rw [mIwI1 (fun y => c (onl_inj ht (by omega) ht (by omega) (show onl ax to j = onl ax to i by omega)).2)]
      exact I1 j (by omega)
/-- what a line that came leaves -/
theorem t_comeLine (hN : 100 ≤ N) (L : LnT h nv τ ax S D mk f) (kS : ShT τ h nv kp S) (n1 : S.1.1.length ≤ 32) (n2 : S.1.2.length ≤ 10) (hk : kp < 122) (k40 : kp ≠ 40) (hf : fr < (axL S ax).length) (ht : to < axM ax) (hn : ∀ j, D j → j < axM ax) : Ev (tw_comeLine N h ax fr kp to τ) (fun r => LnT h nv r ax S (fun j => j = to ∨ D j) (upL mk to (gl (axL S ax) fr)) (upL f to (some fr)) ∧ Ex (LnP h ax) τ r) := by
  have al := axL_le (ax := ax) n1 n2
  have cl := crL_le (ax := ax) n1 n2
  have ln := kS.ln
  have em : tLi τ h kp ax fr = gl (axL S ax) fr := by
    unfold axL at hf ⊢
    by_cases c : ax ≠ 0
    · rw [if_pos c] at hf ⊢
      have e : tLi τ h kp ax fr = tLi τ h kp 1 fr := by unfold tLi; rw [if_pos c, if_pos (by decide)]
      rw [e]; exact ln.2.2 fr hf
    · rw [if_neg c] at hf ⊢
      have e : tLi τ h kp ax fr = tLi τ h kp 0 fr := by unfold tLi; rw [if_neg c, if_neg (by decide)]
      rw [e]; exact ln.1.2 fr hf
  unfold tw_comeLine
  rw [t_lineAt hk (show fr < axM ax by omega), Option.bind_some, em, t_setLine ht, Option.bind_some]
  have X0 : Ex (fun a k => a = mlA h ax ∧ k = mlK ax to) τ (wI τ (mlA h ax) (mlK ax to) (gl (axL S ax) fr)) := Ex.rf.I ⟨rfl, rfl⟩
  have g32v : w32 (gl (axL S ax) fr) = gl (axL S ax) fr := by
    rw [← em]
    unfold tLi
    split <;> exact mI_w32
  have nA := mlA_ne (h := h) (ax := ax)
  refine t_come_l (τ := wI τ (mlA h ax) (mlK ax to) (gl (axL S ax) fr)) (by omega) ht hk k40 (fun r I => Ev.r ?_) (lgL ax) 0 N _ (by omega) (by have := lgL_le (ax := ax); omega) ⟨Ex.rf, fun j hj => by omega⟩
  obtain ⟨X1, I1⟩ := I
  have XX : Ex (fun a k => (a = mlA h ax ∧ k = mlK ax to) ∨ (a = h + 5 ∧ ∃ j, j < lgL ax ∧ k = 12800 + onl ax to j)) τ r := (X0.mono (fun a k p => Or.inl p)).tr (X1.mono (fun a k p => Or.inr p))
  have XP : ∀ a k, ((a = mlA h ax ∧ k = mlK ax to) ∨ (a = h + 5 ∧ ∃ j, j < lgL ax ∧ k = 12800 + onl ax to j)) → LnP h ax a k := fun a k p => by
    rcases p with ⟨p1, p2⟩ | ⟨p1, j, hj, p2⟩
    · rw [p1, p2]; exact mlP ht
    · have := onl_lt ht hj
      unfold LnP; omega
  have gw := LnP.grw XX XP
  have toB : ∀ {c ct}, CtB τ h nv c ct → CtB r h nv c ct := fun k => k.ex XX (fun a k p => (XP a k p).co) gw (Nat.le_refl _)
  refine ⟨fun j hj => ?_, XX.mono XP⟩
  rw [tLi_ml]
  unfold upL
  by_cases e : j = to
  · subst e
    rw [if_pos rfl, if_pos rfl]
    refine ⟨?_, fun i hi => ?_⟩
    · rw [X1.rI (fun p => nA.1 p.1), mIwI2 ⟨rfl, rfl⟩, g32v]
    · rw [I1 i (by omega), X0.rI (fun p => nA.1 p.1.symm)]
      exact toB (kS.2.2.2.2 _ (onl_in hf hi n2))
  · rw [if_neg e, if_neg e]
    have hj' : D j := hj.resolve_left e
    have jM := hn j hj'
    obtain ⟨L1, L2⟩ := L j hj'
    rw [tLi_ml] at L1
    refine ⟨?_, fun i hi => ?_⟩
    · rw [XX.rI (fun p => by
        rcases p with ⟨-, p⟩ | ⟨p, -⟩
        · exact e (mlK_inj p)
        · exact nA.1 p)]
      exact L1
    · rw [XX.rI (fun p => by
        rcases p with ⟨p, -⟩ | ⟨-, i', hi', p⟩
        · exact nA.1 p.symm
        · exact e (onl_inj (show j < axM ax by omega) (show i < lgL ax by omega) ht hi' (show onl ax j i = onl ax to i' by omega)).1)]
      exact toB (L2 i hi)
/-- cells of one line are emptied -/
theorem t_empty_l {K : gMem → Option gMem} {Φ : gMem → Prop} (ht : to < axM ax) (hK : ∀ r, Ex (fun a k => a = h + 5 ∧ ∃ j, j < lgL ax ∧ k = 12800 + onl ax to j) τ r → (∀ j, j < lgL ax → mI r (h + 5) (12800 + onl ax to j) = 0) → Ev (K r) Φ) : ∀ (m i fu : Nat) (r : gMem), i + m = lgL ax → m < fu → Ex (fun a k => a = h + 5 ∧ ∃ j, j < lgL ax ∧ k = 12800 + onl ax to j) τ r → (∀ j, j < i → mI r (h + 5) (12800 + onl ax to j) = 0) → Ev (tw_emptyLine_l2 N h ax to K fu i r) Φ := by
  have l32 := lgL_le (ax := ax)
  intro m
  induction m with
  | zero =>
    intro i fu r h1 h2 X I
    obtain ⟨fu, rfl⟩ : ∃ j, fu = j + 1 := ⟨fu - 1, by omega⟩
    unfold tw_emptyLine_l2
    rw [t_longOf, Option.bind_some]
    exact Ev.g (by omega) (hK r X (fun j hj => I j (by omega)))
  | succ m ih =>
    intro i fu r h1 h2 X I
    obtain ⟨fu, rfl⟩ : ∃ j, fu = j + 1 := ⟨fu - 1, by omega⟩
    have lt := onl_lt ht (show i < lgL ax by omega)
    unfold tw_emptyLine_l2
    rw [t_longOf, Option.bind_some, t_onLine ht (by omega), Option.bind_some, show (12800 + ((onl ax to i : Nat) : Int)).toNat = 12800 + onl ax to i by omega, inc32 (by omega)]
    refine Ev.f (by omega) (Ev.g (by omega) (Ev.l (ih (i + 1) fu _ (by omega) (by omega) (X.I ⟨rfl, i, by omega, rfl⟩) (fun j hj => ?_))))
    by_cases c : j = i
    · rw [c, mIwI2 ⟨rfl, rfl⟩, w32_i (by omega) (by omega)]
    · rw [mIwI1 (fun y => c (onl_inj ht (by omega) ht (by omega) (show onl ax to j = onl ax to i by omega)).2)]
      exact I j (by omega)
theorem t_emptyLine (hN : 100 ≤ N) (L : LnT h nv τ ax S D mk f) (n1 : S.1.1.length ≤ 32) (n2 : S.1.2.length ≤ 10) (ht : to < axM ax) (hn : ∀ j, D j → j < axM ax) : Ev (tw_emptyLine N h ax to τ) (fun r => LnT h nv r ax S (fun j => j = to ∨ D j) (upL mk to (tLi τ h 40 ax to)) (upL f to none) ∧ Ex (LnP h ax) τ r) := by
  have cl := crL_le (ax := ax) n1 n2
  have nA := mlA_ne (h := h) (ax := ax)
  unfold tw_emptyLine
  refine t_empty_l (τ := τ) ht (fun r X I => Ev.r ?_) (lgL ax) 0 N τ (by omega) (by have := lgL_le (ax := ax); omega) Ex.rf (fun j hj => by omega)
  have XP : ∀ a k, (a = h + 5 ∧ ∃ j, j < lgL ax ∧ k = 12800 + onl ax to j) → LnP h ax a k := fun a k p => by
    obtain ⟨p1, j, hj, p2⟩ := p
    have := onl_lt ht hj
    unfold LnP; omega
  have gw := LnP.grw X XP
  have toB : ∀ {c ct}, CtB τ h nv c ct → CtB r h nv c ct := fun k => k.ex X (fun a k p => (XP a k p).co) gw (Nat.le_refl _)
  refine ⟨fun j hj => ?_, X.mono XP⟩
  have jM : j < axM ax := hj.elim (fun e => by rw [e]; exact ht) (hn j)
  rw [tLi_ml, tLi_ml]
  have em : mI r (mlA h ax) (mlK ax j) = mI τ (mlA h ax) (mlK ax j) := X.rI (fun p => nA.1 p.1)
  rw [em]
  unfold upL
  by_cases e : j = to
  · subst e
    rw [if_pos rfl, if_pos rfl]
    refine ⟨rfl, fun i hi => ?_⟩
    rw [I i (by omega)]
    exact Or.inl ⟨rfl, rfl⟩
  · obtain ⟨L1, L2⟩ := L j (hj.resolve_left e)
    rw [tLi_ml] at L1
    rw [if_neg e, if_neg e]
    refine ⟨L1, fun i hi => ?_⟩
    rw [X.rI (fun p => by
      obtain ⟨-, i', hi', p⟩ := p
      exact e (onl_inj (show j < axM ax by omega) (show i < lgL ax by omega) ht hi' (show onl ax j i = onl ax to i' by omega)).1)]
    exact toB (L2 i hi)
/-- a mark is set -/
theorem LnT.mark (L : LnT h nv τ ax S D mk f) (n1 : S.1.1.length ≤ 32) (n2 : S.1.2.length ≤ 10) (ht : to < axM ax) (hv : g32 v) : LnT h nv (wI τ (mlA h ax) (mlK ax to) v) ax S D (upL mk to v) f := by
  have nA := mlA_ne (h := h) (ax := ax)
  have X : Ex (fun a k => a = mlA h ax ∧ k = mlK ax to) τ (wI τ (mlA h ax) (mlK ax to) v) := Ex.rf.I ⟨rfl, rfl⟩
  have XP : ∀ a k, (a = mlA h ax ∧ k = mlK ax to) → LnP h ax a k := fun a k p => by rw [p.1, p.2]; exact mlP ht
  have gw := LnP.grw X XP
  intro j hj
  obtain ⟨L1, L2⟩ := L j hj
  rw [tLi_ml] at L1 ⊢
  unfold upL
  refine ⟨?_, fun i hi => ?_⟩
  · by_cases e : j = to
    · rw [if_pos e, e, mIwI2 ⟨rfl, rfl⟩, w32_id hv]
    · rw [if_neg e, mIwI1 (fun y => e (mlK_inj y.2))]; exact L1
  · rw [mIwI1 (fun y => nA.1 y.1.symm)]
    exact (L2 i hi).ex X (fun a k p => (XP a k p).co) gw (Nat.le_refl _)
theorem LnT.cg {D' : Nat → Prop} {mk' : Nat → Int} {f' : Nat → Option Nat} (L : LnT h nv τ ax S D mk f) (h1 : ∀ j, D' j → D j ∧ mk j = mk' j ∧ f j = f' j) : LnT h nv τ ax S D' mk' f' := fun j hj => by
  obtain ⟨d, e1, e2⟩ := h1 j hj
  rw [← e1, ← e2]; exact L j d
theorem LnT.ex (L : LnT h nv τ ax S D mk f) (n1 : S.1.1.length ≤ 32) (n2 : S.1.2.length ≤ 10) (hn : ∀ j, D j → j < axM ax) (e : Ex P τ r) (hP : ∀ a k, P a k → ¬ LnP h ax a k ∧ ¬ CoP τ h a k) (g : Grw τ r h) : LnT h nv r ax S D mk f := by
  have cl := crL_le (ax := ax) n1 n2
  intro j hj
  have jM := hn j hj
  obtain ⟨L1, L2⟩ := L j hj
  rw [tLi_ml] at L1 ⊢
  refine ⟨by rw [e.rI (fun p => (hP _ _ p).1 (mlP (by omega)))]; exact L1, fun i hi => ?_⟩
  have lt := onl_lt (show j < axM ax by omega) (show i < lgL ax by omega)
  rw [e.rI (fun p => (hP _ _ p).1 (by unfold LnP; omega))]
  exact (L2 i hi).ex e (fun a k p => (hP a k p).2) g (Nat.le_refl _)
/-- a sheet's own lines -/
theorem ShT.lines (k : ShT τ h nv 40 S) (n2 : S.1.2.length ≤ 10) : LnT h nv τ ax S (fun j => j < (axL S ax).length) (gl (axL S ax)) (fun j => some j) := by
  have ln := k.ln
  intro j hj
  refine ⟨?_, fun i hi => ?_⟩
  · unfold axL at hj ⊢
    by_cases c : ax ≠ 0
    · rw [if_pos c] at hj ⊢
      have e : tLi τ h 40 ax j = tLi τ h 40 1 j := by unfold tLi; rw [if_pos c, if_pos (by decide)]
      rw [e]; exact ln.2.2 j hj
    · rw [if_neg c] at hj ⊢
      have e : tLi τ h 40 ax j = tLi τ h 40 0 j := by unfold tLi; rw [if_neg c, if_neg (by decide)]
      rw [e]; exact ln.1.2 j hj
  · exact k.2.2.2.2 _ (onl_in hj hi n2)
/-- the sheet that these lines make -/
def lnS (S : Sh) (ax : Int) (n : Nat) (mk : Nat → Int) (f : Nat → Option Nat) : Sh :=
  if ax ≠ 0 then ((S.1.1, lst n mk), fun k => lnC S ax (f (k % 10)) (k / 10)) else ((lst n mk, S.1.2), fun k => lnC S ax (f (k / 10)) (k % 10))
theorem LnT.sheet (L : LnT h nv r ax S (fun j => j < n) mk f) (hn : n ≤ axM ax) (n2 : S.1.2.length ≤ 10) (cn : tLn r h 40 ax = (n : Int)) (co : if ax ≠ 0 then mI r (h + 1) 40 = S.1.1.length ∧ ∀ j, j < S.1.1.length → mI r (h + 3) (32 * 40 + j) = gl S.1.1 j else mI r (h + 2) 40 = S.1.2.length ∧ ∀ j, j < S.1.2.length → mI r (h + 4) (10 * 40 + j) = gl S.1.2 j) : ShT r h nv 40 (lnS S ax n mk f) := by
  unfold LnT at L
  unfold axM at hn
  unfold lnS
  unfold tLn at cn
  by_cases c : ax ≠ 0
  · rw [if_pos c] at co hn cn ⊢
    refine ⟨co.1, by rw [cn]; show (n : Int) = ((lst n mk).length : Int); rw [lst_len], co.2, fun j hj => ?_, fun k hk => ?_⟩
    · have hj' : j < n := by have : j < (lst n mk).length := hj; rw [lst_len] at this; exact this
      show mI r (h + 4) (10 * 40 + j) = gl (lst n mk) j
      rw [gl_lst hj']
      have := (L j hj').1
      unfold tLi at this
      rw [if_pos c] at this; exact this
    · have hk' : k / 10 < S.1.1.length ∧ k % 10 < n := by
        have : k / 10 < S.1.1.length ∧ k % 10 < (lst n mk).length := hk
        rw [lst_len] at this; exact this
      have cr : crL S ax = S.1.1.length := by unfold crL; rw [if_pos c]
      have := (L (k % 10) hk'.2).2 (k / 10) (by rw [cr]; exact hk'.1)
      unfold onl at this
      rw [if_pos c, show 12800 + (10 * (k / 10) + k % 10) = 320 * 40 + k by omega] at this
      exact this
  · rw [if_neg c] at co hn cn ⊢
    refine ⟨by rw [cn]; show (n : Int) = ((lst n mk).length : Int); rw [lst_len], co.1, fun j hj => ?_, co.2, fun k hk => ?_⟩
    · have hj' : j < n := by have : j < (lst n mk).length := hj; rw [lst_len] at this; exact this
      show mI r (h + 3) (32 * 40 + j) = gl (lst n mk) j
      rw [gl_lst hj']
      have := (L j hj').1
      unfold tLi at this
      rw [if_neg c] at this; exact this
    · have hk' : k / 10 < n ∧ k % 10 < S.1.2.length := by
        have : k / 10 < (lst n mk).length ∧ k % 10 < S.1.2.length := hk
        rw [lst_len] at this; exact this
      have cr : crL S ax = S.1.2.length := by unfold crL; rw [if_neg c]
      have := (L (k / 10) hk'.1).2 (k % 10) (by rw [cr]; exact hk'.2)
      unfold onl at this
      rw [if_neg c, show 12800 + (10 * (k / 10) + k % 10) = 320 * 40 + k by omega] at this
      exact this
end Lay2
