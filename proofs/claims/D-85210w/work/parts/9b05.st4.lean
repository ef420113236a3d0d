/-! ===== PHASE 2: the state: the class keeps a step ===== -/
section State4
variable {N x h nv pa un : Nat} {σ σ' σ'' s : gMem} {W : Nat → Prop} {own own' rt rt' : Nat → Nat} {Gs Gs' : Nat → Sh} {g : Nat → Nat → Vl} {S S' : Sh} {a A i k : Nat}
/-- what a step may write -/
def StW (x a : Nat) : Prop := a = x ∨ a = x + 9
/-- the frame of a class's step -/
def StF (x : Nat) (σ r : gMem) : Prop := Kz (StW x) σ r ∧ mR r x = mR σ x ∧ (∀ j, j ≠ 10 → j ≠ 13 → j ≠ 14 → mI r x j = mI σ x j) ∧ mL r x = mL σ x ∧ mZ r ≤ mZ σ + 36 ∧ mS r ≤ mS σ + 397
theorem StW.t (l : LYc x σ) {a : Nat} (w : StW x a) : mT σ a = 1 ∨ mT σ a = 105 := by
  rcases w with w | w
  · rw [w]; exact Or.inl l.1.1
  · rw [w]; exact Or.inr (l.T (9, 105, 40) (by decide)).1
theorem StW.wn (l : LYc x σ) : WN σ (StW x) := ⟨fun w => by have := StW.t l w; rw [l.z0] at this; omega, fun a w => by have := StW.t l w; omega⟩
def sft (i : Nat) : Nat := if 1 ≤ i ∧ i < 40 then i + 1 else i
/-- there is room for one more step -/
theorem c_step0 (hN : 500 ≤ N) (R : RCl x h nv pa un Gs g own rt σ) (p : pa < 40) : Ev (x1_step_j47 N x σ) (fun r => RCl x h nv (pa + 1) 0 (fun i => if i = pa + 1 then Gs 0 else Gs i) g (fun b => if mZ σ ≤ b then mZ σ else own b) (fun i => if i = pa + 1 then mZ σ else rt i) r ∧ StF x σ r ∧ mI r x 10 = 0) := by
  obtain ⟨r1, ⟨r2, r2'⟩, ⟨r3, r4, r5, r6, r7, r8⟩, r9, r10, r11, V, r12⟩ := R
  have ok := r1.ok
  have z := r1.z
  have e11 := r1.R (11, 9) (by decide)
  have t9 := r1.T (9, 105, 40) (by decide)
  dsimp only at e11 t9
  have v0 : rtV nv pa un 0 := Or.inl rfl
  have e8 : mR σ x 8 = rt 0 := r10 0 v0
  obtain ⟨c0, -, -⟩ := r9.1 0 v0
  rw [← e8] at c0
  unfold x1_step_j47
  refine Ev.g r1.1.1 (Ev.g c0.1.1 (Ev.c (c_twin (by omega) ok z c0) (fun r _ q => ?_)))
  obtain ⟨q1, q2, q3, q4, q5, q6⟩ := q
  rw [e11, q1, r4, tn]
  have lx : x < mZ σ := gOk_lt ok (by rw [r1.1.1]; decide)
  have l9 : x + 9 < mZ σ := by omega
  have tr9 := q2.2.2.1 (x + 9) l9
  refine Ev.g (by rw [tr9.1]; exact t9.1) (Ev.g (Or.inr (by rw [q5.1.1.1]; decide)) (Ev.g (by rw [tr9.2, t9.2]; omega) (Ev.l ?_)))
  have i13 : mI (wR r.2 (x + 9) pa (mZ σ)) x 13 = pa := by rw [mI_wR, (q2.2.2.2 x lx (fun f => f) 13).1]; exact r4
  rw [i13, inc32 (by omega)]
  refine Ev.l (Ev.l (Ev.l ?_))
  obtain ⟨fin, hf⟩ : ∃ fin, fin = wI (wI (wI (wR r.2 (x + 9) pa (mZ σ)) x 13 ((pa + 1 : Nat) : Int)) x 14 0) x 10 0 := ⟨_, rfl⟩
  rw [← hf]
  have Kr : Kz (StW x) σ fin := by
    rw [hf]
    exact (((((q2.mono (fun _ f => f.elim)).wR (Or.inr (Or.inr rfl))).wI (Or.inr (Or.inl rfl))).wI (Or.inr (Or.inl rfl))).wI (Or.inr (Or.inl rfl)))
  have Kf : Kz (StW x) r.2 fin := by
    rw [hf]
    exact ((((Kz.rf q2.ok).wR (Or.inr (Or.inr rfl))).wI (Or.inr (Or.inl rfl))).wI (Or.inr (Or.inl rfl))).wI (Or.inr (Or.inl rfl))
  have fR : ∀ b j, ¬ (b = x + 9 ∧ j = pa) → mR fin b j = mR r.2 b j := fun b j hb => by
    rw [hf, mR_wI, mR_wI, mR_wI, mR_wR, if_neg hb]
  have fP : mR fin (x + 9) pa = mZ σ := by rw [hf, mR_wI, mR_wI, mR_wI, mR_wR, if_pos ⟨rfl, rfl⟩]
  have fI : ∀ j, j ≠ 10 → j ≠ 13 → j ≠ 14 → mI fin x j = mI σ x j := fun j j1 j2 j3 => by
    rw [hf, mIwI1 (by omega), mIwI1 (by omega), mIwI1 (by omega), mI_wR]; exact (q2.2.2.2 x lx (fun f => f) j).1
  have i10 : mI fin x 10 = 0 := by rw [hf]; simp (disch := omega) only [mIwI1, mIwI2, w32_i]
  have i13' : mI fin x 13 = ((pa + 1 : Nat) : Int) := by rw [hf]; simp (disch := omega) only [mIwI1, mIwI2, w32_i]
  have i14' : mI fin x 14 = 0 := by rw [hf]; simp (disch := omega) only [mIwI1, mIwI2, w32_i]
  have Rx : mR fin x = mR σ x := by
    funext j
    rw [fR x j (by omega)]; exact (q2.2.2.2 x lx (fun f => f) j).2.2
  have tS : ∀ {a}, StW x a → mT σ a < 90 ∨ 100 ≤ mT σ a := fun w => by have := StW.t r1 w; omega
  have fT : ∀ b, mT fin b = mT r.2 b := fun b => by rw [hf]; rfl
  have lyF : LYc x fin := r1.kp Kr (fun w => by have := StW.t r1 w; rw [r1.z0] at this; omega) (fun a w => tS w) (fun a j w rk => by
    rcases w with w | w
    · rw [w]; exact congrFun Rx j
    · unfold RK at rk; omega) (fun q hq ht => by
    exfalso
    rw [fT] at ht
    rcases hq with hq | hq
    · -- new cells are of the new sheet
      have := q6 q hq; omega
    · have := StW.t r1 hq
      have lt : q < mZ σ := gOk_lt ok (by omega)
      rw [(q2.2.2.1 q lt).1] at ht
      omega)
  have ge : mZ σ ≤ mZ fin := Kr.1
  have n0 := q5.1
  -- the new sheet
  have x0 : x ≠ 0 := fun e => by have a := r1.1.1; rw [e, r1.z0] at a; cases a
  have WNr : WN r.2 (StW x) := ⟨fun w => by unfold StW at w; omega, fun a w => by
    have t := StW.t r1 w
    have lt : a < mZ σ := gOk_lt ok (by omega)
    rw [(q2.2.2.1 a lt).1]
    omega⟩
  have zr : 0 < mZ r.2 := by have := q2.1; omega
  have sc1 := r9.new (k := pa + 1) q2 ok z (fun b => if mZ σ ≤ b then mZ σ else own b) (fun b hb => if_neg (show ¬ mZ σ ≤ b by omega)) (Nat.le_refl _) q5.1 (q5.ow ⟨if_pos (Nat.le_refl _), if_pos (show mZ σ ≤ mZ σ + 3 by omega), fun k hk => if_pos (show mZ σ ≤ mZ σ + 4 + k by omega)⟩) (fun b hb => by have := q5.2.1 b hb; unfold OutS; omega)
  have sc2 := sc1.kp Kf q2.ok zr WNr (fun a w => by unfold StW at w; unfold OutS; omega)
  have t2 := (r1.T (2, 104, 40) (by decide)).1
  have t10 := (r1.T (10, 105, 40) (by decide)).1
  dsimp only at t2 t10
  refine Ev.r ⟨⟨lyF, ⟨r2, by omega⟩, ⟨by rw [fI 5 (by decide) (by decide) (by decide)]; exact r3, i13', i14', r6, r7, by omega⟩, sc2.cg (va := fun j => j = pa + 1 ∨ rtV nv pa un j) (fun i hi => ?_) (fun i hi => ?_) (fun i hi => rfl), fun i hi => ?_, fun k hk => (r11 k hk).kp Kr ok t2 (fun w => by unfold StW at w; omega) (fun a w o => by unfold StW at w; unfold OutS at o; omega), V, r12.kp Kr ok (fun i hi w => by unfold StW at w; omega)⟩, ⟨Kr, Rx, fI, ?_, ?_, ?_⟩, i10⟩
  · unfold rtV at hi ⊢; omega
  · rfl
  · have c10 : mR fin (x + 10) = mR σ (x + 10) := by
      funext j; exact Kr.rR ok (show mT σ (x + 10) ≠ 0 by rw [t10]; decide) (fun w => by unfold StW at w; omega) j
    have c2 : mR fin (x + 2) = mR σ (x + 2) := by
      funext j; exact Kr.rR ok (show mT σ (x + 2) ≠ 0 by rw [t2]; decide) (fun w => by unfold StW at w; omega) j
    show rtA x fin i = if i = pa + 1 then mZ σ else rt i
    unfold rtA
    rw [c10, c2, Rx]
    by_cases e : i = pa + 1
    · rw [if_neg (by omega), if_pos (by omega), if_pos e, e, Nat.add_sub_cancel]; exact fP
    · have hi' : rtV nv pa un i := by unfold rtV at hi ⊢; omega
      rw [if_neg e, ← r10 i hi']
      unfold rtA
      by_cases c0' : i = 0
      · rw [if_pos c0', if_pos c0']
      · rw [if_neg c0', if_neg c0']
        by_cases c1 : i ≤ 40
        · rw [if_pos c1, if_pos c1, fR _ _ (by omega)]; exact (q2.2.2.2 _ l9 (fun f => f) _).2.2
        · rw [if_neg c1, if_neg c1]
          by_cases c3 : i ≤ 80
          · rw [if_pos c3, if_pos c3]
          · rw [if_neg c3, if_neg c3]
            have v := r11 (i - 81) (by unfold rtV at hi; omega)
            exact Kr.rR ok (by rw [v.1]; decide) (fun w => by have := v.2.1; unfold StW at w; unfold OutS at this; omega) 0
  · funext j
    rw [hf]
    exact (q2.2.2.2 x lx (fun f => f) j).2.1
  · rw [hf]; show mZ r.2 ≤ _; omega
  · rw [hf]; show mS r.2 ≤ _; omega
/-- the oldest step is let go -/
theorem c_shift_l {K : gMem → Option gMem} {Φ : gMem → Prop} (r1 : LYc x σ) (hr : ∀ i, i < 40 → gAsg 5 (mT σ (mR σ (x + 9) i)) = true ∨ mR σ (x + 9) i = 0) (hK : ∀ s, Kz (fun a => a = x + 9) σ s → s.1 = σ.1 → s.2.1 = σ.2.1 → mZ s = mZ σ → mS s = mS σ → mT s = mT σ → mN s = mN σ → (∀ a j, a ≠ x + 9 → mR s a j = mR σ a j) → (∀ j, j < 39 → mR s (x + 9) j = mR σ (x + 9) (j + 1)) → Ev (K s) Φ) : ∀ (m i f : Nat) (s : gMem), i + m = 40 → m < f → 1 ≤ i → Kz (fun a => a = x + 9) σ s → s.1 = σ.1 → s.2.1 = σ.2.1 → mZ s = mZ σ → mS s = mS σ → mT s = mT σ → mN s = mN σ → (∀ a j, a ≠ x + 9 → mR s a j = mR σ a j) → (∀ j, j + 1 < i → mR s (x + 9) j = mR σ (x + 9) (j + 1)) → (∀ j, i ≤ j + 1 → mR s (x + 9) j = mR σ (x + 9) j) → Ev (x1_step_l11 N x K f i s) Φ := by
  have e11 := r1.R (11, 9) (by decide)
  have t9 := r1.T (9, 105, 40) (by decide)
  dsimp only at e11 t9
  intro m
  induction m with
  | zero =>
    intro i f s h1 h2 h3 k1 k2 k3 k4 k5 k6 k7 k8 k9 k10
    obtain ⟨f, rfl⟩ : ∃ j, f = j + 1 := ⟨f - 1, by omega⟩
    unfold x1_step_l11
    exact Ev.g (by omega) (hK s k1 k2 k3 k4 k5 k6 k7 k8 (fun j hj => k9 j (by omega)))
  | succ m ih =>
    intro i f s h1 h2 h3 k1 k2 k3 k4 k5 k6 k7 k8 k9 k10
    obtain ⟨f, rfl⟩ : ∃ j, f = j + 1 := ⟨f - 1, by omega⟩
    have ex : mR s x 11 = x + 9 := by rw [k8 x 11 (by omega)]; exact e11
    have w1 : ((i : Int) - 1).toNat = i - 1 := by omega
    unfold x1_step_l11
    rw [ex, k6, k7, tn, w1, k10 i (by omega), inc32 (by omega)]
    refine Ev.f (by omega) (Ev.g r1.1.1 (Ev.g t9.1 (Ev.g (by rw [t9.2]; omega) (Ev.g (by rcases hr i (by omega) with e | e; exact Or.inr e; exact Or.inl e) (Ev.g (by rw [t9.2]; omega) (Ev.l (ih (i + 1) f _ (by omega) (by omega) (by omega) (k1.wR (Or.inr rfl)) k2 k3 k4 k5 k6 k7 ?_ ?_ ?_)))))))
    · intro a j ha
      rw [mR_wR, if_neg (fun z => ha z.1)]; exact k8 a j ha
    · intro j hj
      rw [mR_wR]
      by_cases e : j = i - 1
      · rw [if_pos ⟨rfl, e⟩, e, show i - 1 + 1 = i by omega]
      · rw [if_neg (fun z => e z.2)]; exact k9 j (by omega)
    · intro j hj
      rw [mR_wR, if_neg (fun z => by omega)]; exact k10 j (by omega)
theorem StF.mk2 {s : gMem} (K : Kz (StW x) σ s) (eR : mR s x = mR σ x) (eI : ∀ j, j ≠ 10 → j ≠ 13 → j ≠ 14 → mI s x j = mI σ x j) (eL : mL s x = mL σ x) (eZ : mZ s = mZ σ) (eS : mS s = mS σ) {r : gMem} (f : StF x s r) : StF x σ r := by
  obtain ⟨f1, f2, f3, f4, f5, f6⟩ := f
  exact ⟨K.tr f1, by rw [f2, eR], fun j a b c => by rw [f3 j a b c, eI j a b c], by rw [f4, eL], by omega, by omega⟩
/-- the class's step -/
theorem c_step (hN : 500 ≤ N) (R : RCl x h nv pa un Gs g own rt σ) : ∃ own' rt', Ev (x1_step N x σ) (fun r => RCl x h nv (if pa = 40 then 40 else pa + 1) 0 (fun i => if i = (if pa = 40 then 40 else pa + 1) then Gs 0 else if pa = 40 then Gs (sft i) else Gs i) g own' rt' r ∧ StF x σ r ∧ mI r x 10 = 0) := by
  have R0 := R
  obtain ⟨r1, ⟨r2, r2'⟩, ⟨r3, r4, r5, r6, r7, r8⟩, r9, r10, r11, V, r12⟩ := R
  by_cases p : pa = 40
  · subst p
    have un0 : un = 0 := by omega
    subst un0
    refine ⟨fun b => if mZ σ ≤ b then mZ σ else own b, fun i => if i = 40 then mZ σ else rt (sft i), ?_⟩
    unfold x1_step
    have ok := r1.ok
    have z := r1.z
    have lx : x < mZ σ := gOk_lt ok (by rw [r1.1.1]; decide)
    have t2 := (r1.T (2, 104, 40) (by decide)).1
    have t9 := (r1.T (9, 105, 40) (by decide)).1
    have t10 := (r1.T (10, 105, 40) (by decide)).1
    dsimp only at t2 t9 t10
    refine Ev.g r1.1.1 (Ev.f (by rw [r4]; decide) (c_shift_l (σ := σ) r1 (fun i hi => ?_) (fun s k1 k2 k3 k4 k5 k6 k7 k8 k9 => ?_) 39 1 N σ (by omega) (by omega) (by omega) (Kz.rf ok) rfl rfl rfl rfl rfl rfl (fun _ _ _ => rfl) (fun j hj => by omega) (fun j _ => rfl)))
    · left
      have v := r9.1 (i + 1) (by unfold rtV; omega)
      have := r10 (i + 1) (by unfold rtV; omega)
      unfold rtA at this
      rw [if_neg (by omega), if_pos (by omega), Nat.add_sub_cancel] at this
      rw [this, v.1.1.1]; decide
    · have sI : ∀ a j, mI s a j = mI σ a j := fun a j => by unfold mI; rw [k2]
      refine Ev.g (by rw [k6]; exact r1.1.1) (Ev.l ?_)
      have i13 : mI s x 13 = 40 := by rw [sI]; exact r4
      rw [i13, show w32 ((40 : Int) - 1) = 39 by rw [w32_i (by omega) (by omega)]; decide]
      have K27 : Kz (StW x) σ (wI s x 13 39) := (k1.mono (fun a e => Or.inr e)).wI (Or.inr (Or.inl rfl))
      have R27 : ∀ a j, a ≠ x + 9 → mR (wI s x 13 39) a j = mR σ a j := fun a j ha => k8 a j ha
      have P27 : ∀ j, j < 39 → mR (wI s x 13 39) (x + 9) j = mR σ (x + 9) (j + 1) := k9
      have I27 : ∀ j, j ≠ 13 → mI (wI s x 13 39) x j = mI σ x j := fun j hj => by rw [mIwI1 (by omega)]; exact sI x j
      have I13 : mI (wI s x 13 39) x 13 = 39 := by rw [mIwI2 ⟨rfl, rfl⟩, w32_i (by omega) (by omega)]
      have T27 : mT (wI s x 13 39) = mT σ := k6
      have Z27 : mZ (wI s x 13 39) = mZ σ := k4
      have S27 : mS (wI s x 13 39) = mS σ := k5
      have L27 : mL (wI s x 13 39) x = mL σ x := by funext j; show mL s x j = _; unfold mL; rw [k3]
      generalize wI s x 13 39 = s27 at K27 R27 P27 I27 I13 T27 Z27 S27 L27 ⊢
      have Rx : mR s27 x = mR σ x := by funext j; exact R27 x j (by omega)
      have ly : LYc x s27 := r1.kp K27 (fun w => by have := StW.t r1 w; rw [r1.z0] at this; omega) (fun a w => by have := StW.t r1 w; omega) (fun a j w rk => by
        rcases w with w | w
        · rw [w]; exact congrFun Rx j
        · unfold RK at rk; omega) (fun q hq ht => by
        exfalso
        rw [T27] at ht
        rcases hq with hq | hq
        · rw [ok q hq] at ht; cases ht
        · have := StW.t r1 hq; omega)
      have WNs := StW.wn r1
      have sc1 := r9.kp K27 ok z WNs (fun a w => by unfold StW at w; unfold OutS; omega)
      have sc2 : SC x h own (fun i => rt (sft i)) (rtV nv 39 0) (fun i => Gs (sft i)) s27 := sc1.re (p := sft) (fun i hi => by unfold rtV at hi ⊢; unfold sft; split <;> omega) (fun i j hi hj e => by
        unfold rtV at hi hj
        unfold sft at e
        split at e <;> split at e <;> omega) (fun i _ => rfl) (fun i _ => rfl)
      have R27' : RCl x h nv 39 0 (fun i => Gs (sft i)) g own (fun i => rt (sft i)) s27 := by
        refine ⟨ly, ⟨r2, by omega⟩, ⟨by rw [I27 5 (by decide)]; exact r3, I13, by rw [I27 14 (by decide)]; exact r5, r6, r7, by omega⟩, sc2, fun i hi => ?_, fun k hk => (r11 k hk).kp K27 ok t2 (fun w => by unfold StW at w; omega) (fun a w o => by unfold StW at w; unfold OutS at o; omega), V, r12.kp K27 ok (fun i hi w => by unfold StW at w; omega)⟩
        have hv : rtV nv 40 0 (sft i) := by unfold rtV at hi ⊢; unfold sft; split <;> omega
        show rtA x s27 i = rt (sft i)
        rw [← r10 _ hv]
        unfold rtA
        rw [Rx]
        unfold rtV at hi
        by_cases c0 : i = 0
        · have : sft i = 0 := by unfold sft; rw [if_neg (by omega)]; exact c0
          rw [if_pos c0, if_pos this]
        · by_cases c1 : i ≤ 40
          · have : sft i = i + 1 := by unfold sft; rw [if_pos (by omega)]
            rw [if_neg c0, if_pos c1, this, if_neg (by omega), if_pos (by omega), P27 _ (by omega), show i - 1 + 1 = i + 1 - 1 by omega]
          · have : sft i = i := by unfold sft; rw [if_neg (by omega)]
            rw [if_neg c0, if_neg c1, if_neg (by omega), this, if_neg c0, if_neg c1, if_neg (by omega), R27 (x + 2) _ (by omega)]
            have v := r11 (i - 81) (by omega)
            exact R27 _ 0 (fun e => by have := v.1; rw [e, t9] at this; cases this)
      refine (c_step0 hN R27' (by decide)).m (fun r q => ?_)
      obtain ⟨q1, q2, q3⟩ := q
      rw [Z27] at q1
      refine ⟨?_, StF.mk2 K27 Rx (fun j _ j2 _ => I27 j j2) L27 Z27 S27 q2, q3⟩
      have e0 : sft 0 = 0 := rfl
      rw [e0] at q1
      exact q1
  · have p4 : pa < 40 := by omega
    refine ⟨fun b => if mZ σ ≤ b then mZ σ else own b, fun i => if i = pa + 1 then mZ σ else rt i, ?_⟩
    unfold x1_step
    rw [if_neg p]
    refine Ev.g r1.1.1 (Ev.g (by rw [r4]; omega) ((c_step0 hN R0 p4).m (fun r q => ?_)))
    simp only [if_neg p]
    exact q
end State4
