/-! ===== PHASE 2: the act copy: the cells, one by one ===== -/
section State68
variable {N x h t u nv nv' pa un fs i j k q0 q1 u0 u1 C Rr kp mv M0 : Nat} {σ σ' s τ τ' τ'' r f m sB rB : gMem} {P : Nat → Nat → Prop} {W : Nat → Prop} {own rt : Nat → Nat} {S S' S0 : Sh} {Gs Gs' : Nat → Sh} {g : Nat → Nat → Vl} {a A : Nat} {ct : Ct} {c c' : Int} {fl : Int → List Int × List Int} {dr dc : Int}
/-- so far both have copied so many parts -/
def CpI (x h t nv pa un fs : Nat) (g : Nat → Nat → Vl) (own rt : Nat → Nat) (kp mv : Nat) (S0 : Sh) (fl : Int → List Int × List Int) (dr dc : Int) (M0 : Nat) (sB rB : gMem) (k : Nat) (s r : gMem) : Prop :=
  ∃ Gs, Rl x h t nv pa un fs Gs g own rt (wI s x 17 (mI r h 25)) r ∧ ((Gs 0).1 = S0.1 ∧ Gs kp = S0 ∧ frV Gs = fl) ∧ (mI s x 10 = 0 ∧ mI r h 65 = 0 ∧ mI r h 0 = 0) ∧ MvC s mv nv fl dr dc ∧ mI r h 25 = ((M0 + k : Nat) : Int) ∧ (Kz (NoT x h) sB s ∧ mI s x = mI sB x ∧ mZ s ≤ mZ sB + 4 * k ∧ mS s ≤ mS sB + 13 * k) ∧ Ex (TwA h) rB r
theorem CpI.put {B d : Nat} {cS : Ct} (I : CpI x h t nv pa un fs g own rt kp mv S0 fl dr dc M0 sB rB k s r) (hkp0 : kp ≠ 0) {rr cc : Nat} (hr : rr < S0.1.1.length) (hc : cc < S0.1.2.length) {s' r' : gMem} (K : Kz (fun _ => False) s s') (zs : mZ s' ≤ mZ s + 4 * d ∧ mS s' ≤ mS s + 13 * d) (np : ∀ q, mZ s ≤ q → mT s' q = 18 → mR s' q 1 ≠ x + 1430) (e : Ex P r r') (hP : ∀ a k, P a k → ((h + 14 ≤ a ∧ a ≤ h + 26) ∨ (a = h ∧ k = 25)) ∧ ¬ CoP r h a k) (m25 : mI r' h 25 = ((M0 + (k + d) : Nat) : Int)) (mM : M0 + (k + d) ≤ 60000) (kA : CtC s' B cS) (kc : CtB r' h nv c' cS) :
    mT s' x = 1 ∧ mR s' x 8 = rt 0 ∧ mT s' (rt 0) = 8 ∧ mT s' (mR s' (rt 0) 2) = 111 ∧ rr < mN s' (mR s' (rt 0) 2) ∧ mT s' (mR s' (mR s' (rt 0) 2) rr) = 110 ∧ cc < mN s' (mR s' (mR s' (rt 0) 2) rr) ∧ CpI x h t nv pa un fs g own rt kp mv S0 fl dr dc M0 sB rB (k + d) (wR s' (mR s' (mR s' (rt 0) 2) rr) cc B) (wI r' (h + 5) (12800 + 10 * rr + cc) c') := by
  obtain ⟨Gs, R, ⟨g1, g2, g3⟩, ⟨i10, h65, h0⟩, mc, i25, ⟨KB, ix, zB, sB'⟩, XB⟩ := I
  have l := R.1.1
  have hh := R.1.2.1.1
  have ok : gOk s := l.ok
  have z : 0 < mZ s := l.z
  have tx : mT s x = 1 := l.1.1
  have z0 : mT s 0 = 0 := l.z0
  have Kw : Kz (EnW x) (wI s x 17 (mI r h 25)) (wI s' x 17 (mI r' h 25)) := kz_w17 K
  have ex : ∀ j, mR s' x j = mR s x j := fun j => K.rR ok (by omega) (fun f => f) j
  have eI : ∀ j, mI s' x j = mI s x j := fun j => K.rI ok (by omega) (fun f => f) j
  have jj : ∀ j, j ≠ 25 → mI r' h j = mI r h j := fun j hj => e.rI (fun p => by have := (hP _ _ p).1; omega)
  have bd := R.2.1.2.2.2.1
  have t1429 : mT s (x + 1429) = 6 := l.2.2.1.1
  have t1 : mT s (x + 1) = 102 := (l.T (1, 102, 400) (by decide)).1
  have R2 : Rl x h t nv pa un fs Gs g own rt (wI s' x 17 (mI r' h 25)) r' := by
    obtain ⟨n, a1, a2, a3, a4⟩ := R.2.2.1.1
    obtain ⟨b1, b2⟩ := R.2.2.1.2.1
    rw [mIwI1 (by omega)] at a2 b1 b2
    refine R.en (t' := t) Kw (by funext j; exact ex j) (fun j _ _ _ j4 => by rw [mIwI1 (by omega), mIwI1 (by omega), eI]) (fun j hj => K.rR ok (by omega) (fun f => f) j) (fun q hq ht => np q hq ht) e (fun a k p => ⟨by have := (hP a k p).1; omega, (hP a k p).2⟩) (fun b => b.ex e (fun k p => by have := (hP _ _ p).1; omega)) ⟨by omega, by rw [jj 19 (by decide)]; exact Int.le_refl _, by rw [jj 24 (by decide)]; exact Int.le_refl _⟩ (by omega) (Nat.le_refl _) (by rw [jj 19 (by decide)]; omega) (by rw [jj 24 (by decide)]; omega) ⟨n, a1, by rw [mIwI1 (by omega), eI]; exact a2, by rw [jj 40 (by decide)]; exact a3, fun k hk => ?_⟩ ⟨by rw [mIwI1 (by omega), eI, jj 41 (by decide)]; exact b1, by rw [mIwI1 (by omega), eI, jj 42 (by decide)]; exact b2⟩ ?_
    · obtain ⟨a5, a6, a7⟩ := a4 k hk
      rw [mIwI1 (by omega)] at a7
      rw [mIwI1 (by omega), K.rI ok (by omega) (fun f => f), e.rI (fun p => by have := (hP _ _ p).1; omega)]
      exact ⟨a5, a6, a7⟩
    · unfold Rpt
      rw [mIwI2 ⟨rfl, rfl⟩, w32_i (by omega) (by omega)]
  have tx' : mT s' x = 1 := by rw [K.tag ok (by omega)]; exact tx
  have z' : 0 < mZ s' := by have := K.1; omega
  have z0' : mT s' 0 = 0 := by rw [(K.2.2.1 0 z).1]; exact z0
  have kA2 : CtC (wI s' x 17 (mI r' h 25)) B cS := kA.kp (kz_to17 K.ok) K.ok z' (WN.one tx' z0')
  have R3 := both_cell2 (rr := rr) (cc := cc) R2 (by rw [mIwI1 (by omega), eI]; exact i10) (by rw [jj 65 (by decide)]; exact h65) (by rw [g1]; exact hr) (by rw [g1]; exact hc) kA2 kc
  obtain ⟨e8, C⟩ := R2.c0
  have rw0 := C.2.2.2 rr (by rw [g1]; exact hr)
  have d3 := (R2.1.2.2.2.1.1 0 (Or.inl rfl)).2.2
  have rO : OutS x h (mR s' (mR s' (rt 0) 2) rr) := d3 _ (ShW.sha (σ := wI s' x 17 (mI r' h 25)) (a := rt 0) (Or.inr (Or.inr ⟨rr, by rw [g1]; exact hr, rfl⟩)))
  have e25 : mI (wI r' (h + 5) (12800 + 10 * rr + cc) c') h 25 = mI r' h 25 := mIwI1 (by omega)
  have tR : mT s' (mR s' (mR s' (rt 0) 2) rr) = 110 := rw0.1
  refine ⟨tx', e8, C.1.1, C.2.1, ?_, tR, ?_, ⟨fun j => if j = 0 then setC (Gs 0) (10 * rr + cc) cS else Gs j, by rw [e25]; exact R3, ⟨?_, ?_, ?_⟩, ⟨?_, ?_, ?_⟩, ?_, ?_, ⟨?_, ?_, ?_, ?_⟩, ?_⟩⟩
  · have := C.2.2.1
    have this : mN s' (mR s' (rt 0) 2) = (Gs 0).1.1.length := this
    rw [this, g1]; exact hr
  · have this : mN s' (mR s' (mR s' (rt 0) 2) rr) = (Gs 0).1.2.length := rw0.2.1
    rw [this, g1]; exact hc
  · (try dsimp only)
    rw [if_pos rfl]; exact g1
  · (try dsimp only)
    rw [if_neg hkp0]; exact g2
  · rw [← g3]
    funext ver
    unfold frV
    (try dsimp only)
    by_cases c : rix ver = 0
    · rw [if_pos c, c]; rfl
    · rw [if_neg c]
  · show mI s' x 10 = 0
    rw [eI]; exact i10
  · rw [mIwI1 (by omega), jj 65 (by decide)]; exact h65
  · rw [mIwI1 (by omega), jj 0 (by decide)]; exact h0
  · exact (mc.kp K ok).kpW (W := fun a => a = mR s' (mR s' (rt 0) 2) rr) ((Kz.rf K.ok).wR (Or.inr rfl)) (fun a w => by rw [show a = mR s' (mR s' (rt 0) 2) rr from w]; exact tR) K.ok
  · rw [e25]; exact m25
  · exact (KB.tr (K.mono (fun a f => f.elim))).wR (Or.inr (by unfold OutS at rO; unfold NoT; omega))
  · show mI s' x = mI sB x
    rw [← ix]; exact funext eI
  · show mZ s' ≤ _; omega
  · show mS s' ≤ _; omega
  · exact (XB.tr (e.mono (fun a k p => by have := (hP a k p).1; unfold TwA; omega))).I (by unfold TwA; omega)
/-- one row is copied -/
theorem cp_c_in {K : gMem → Option gR} {Kt : gMem → Option (Int × gMem)} {Φ : gR → Int × gMem → Prop} (hN : 400 ≤ N) (hkp : rtV nv pa un kp) (hkp0 : kp ≠ 0) (fn : FN nv fl) (hR : q0 + Rr ≤ S0.1.1.length) (hC : q1 + C ≤ S0.1.2.length) (hU : u0 + Rr ≤ S0.1.1.length) (hV : u1 + C ≤ S0.1.2.length) (n32 : S0.1.1.length ≤ 32) (m10 : S0.1.2.length ≤ 10) (tot : M0 + cntS S0 q0 q1 C (Rr * C) ≤ 60000) (hi : i < Rr)
    (hK : ∀ s r fu', (Rr - (i + 1)) * C < fu' → CpI x h t nv pa un fs g own rt kp mv S0 fl (w32 (((u0 + 1 : Nat) : Int) - ((q0 + 1 : Nat) : Int))) (w32 (((u1 + 1 : Nat) : Int) - ((q1 + 1 : Nat) : Int))) M0 sB rB (cntS S0 q0 q1 C ((i + 1) * C)) s r → E2 (K s) (tw_copy_l203 N h ((q0 + 1 : Nat) : Int) ((q1 + 1 : Nat) : Int) ((u0 + 1 : Nat) : Int) ((u1 + 1 : Nat) : Int) Rr C (tsN fs kp : Nat) Kt fu' (((i + 1) * C : Nat) : Int) r) Φ) :
    ∀ (m j fu fu' : Nat) (s r : gMem), j + m = C → m < fu → (Rr - (i + 1)) * C + m < fu' → CpI x h t nv pa un fs g own rt kp mv S0 fl (w32 (((u0 + 1 : Nat) : Int) - ((q0 + 1 : Nat) : Int))) (w32 (((u1 + 1 : Nat) : Int) - ((q1 + 1 : Nat) : Int))) M0 sB rB (cntS S0 q0 q1 C (i * C + j)) s r → E2 (x1_copy_l246 N x ((q0 + 1 : Nat) : Int) ((q1 + 1 : Nat) : Int) ((u0 + 1 : Nat) : Int) ((u1 + 1 : Nat) : Int) Rr C (rt kp) mv i K fu j s) (tw_copy_l203 N h ((q0 + 1 : Nat) : Int) ((q1 + 1 : Nat) : Int) ((u0 + 1 : Nat) : Int) ((u1 + 1 : Nat) : Int) Rr C (tsN fs kp : Nat) Kt fu' ((i * C + j : Nat) : Int) r) Φ := by
  have mul1 : (i + 1) * C = i * C + C := Nat.succ_mul i C
  have mul2 : (i + 1) * C ≤ Rr * C := Nat.mul_le_mul_right C (by omega)
  have mul3 : Rr * C ≤ 32 * 10 := Nat.mul_le_mul (by omega) (by omega)
  have mulI : ((Rr : Int) * (C : Int)) = ((Rr * C : Nat) : Int) := by push_cast; rfl
  intro m
  induction m with
  | zero =>
    intro j fu fu' s r h1 h2 h3 I
    obtain ⟨fu, rfl⟩ : ∃ j, fu = j + 1 := ⟨fu - 1, by omega⟩
    obtain rfl : j = C := by omega
    rw [← mul1] at I ⊢
    unfold x1_copy_l246
    exact E2.lg (Int.le_refl _) (hK s r fu' (by omega) I)
  | succ m ih =>
    intro j fu fu' s r h1 h2 h3 I
    obtain ⟨fu, rfl⟩ : ∃ j, fu = j + 1 := ⟨fu - 1, by omega⟩
    obtain ⟨fu', rfl⟩ : ∃ j, fu' = j + 1 := ⟨fu' - 1, by omega⟩
    have hj : j < C := by omega
    have I0 := I
    obtain ⟨Gs, R, ⟨g1, g2, g3⟩, ⟨i10, h65, h0⟩, mc, i25, ⟨KB, ix, zB, sB'⟩, XB⟩ := I
    have l := R.1.1
    have hh := R.1.2.1.1
    have ok : gOk s := l.ok
    have z : 0 < mZ s := l.z
    have tx : mT s x = 1 := l.1.1
    have z0 : mT s 0 = 0 := l.z0
    have hz : h + 57 < mZ s := R.1.2.1.2
    have c5 := R.c5
    have bd := R.2.1.2.2.2.1
    have ts := tsN_lt (fs := fs) hkp (by omega) (by omega) (by omega)
    have C1 : ShC s (rt kp) S0 := by
      have k1 := R.shC hkp
      have d3 := (R.1.2.2.2.1.1 kp hkp).2.2
      rw [g2] at k1 d3
      exact k1.kp (W := fun a => a = x) (kz_un17 ok) ok z (WN.one (s := wI s x 17 (mI r h 25)) tx z0) (fun b hb e => by
        have := d3 b hb
        rw [show b = x from e] at this
        unfold OutS at this; omega)
    have T1 : ShT r h nv (tsN fs kp) S0 := by have := R.shT hkp; rw [g2] at this; exact this
    have rw0 := C1.2.2.2 (q0 + i) (by omega)
    have kA : CtC s (mR s (mR s (mR s (rt kp) 2) (q0 + i)) (q1 + j)) (S0.2 (10 * (q0 + i) + (q1 + j))) := rw0.2.2 (q1 + j) (by omega)
    have kB := T1.2.2.2.2 (10 * (q0 + i) + (q1 + j)) (by unfold inB; omega)
    obtain ⟨ct, hct⟩ : ∃ ct, ct = S0.2 (10 * (q0 + i) + (q1 + j)) := ⟨_, rfl⟩
    rw [← hct] at kA kB
    have cn : cntS S0 q0 q1 C (i * C + (j + 1)) = cntS S0 q0 q1 C (i * C + j) + ct.2.length := by
      show cntS S0 q0 q1 C (i * C + j) + (S0.2 (cpC q0 q1 C (i * C + j))).2.length = _
      rw [cpC_ij hj, hct]
    have le1 : cntS S0 q0 q1 C (i * C + (j + 1)) ≤ cntS S0 q0 q1 C (Rr * C) := by
      have := cntS_le (S := S0) (q0 := q0) (q1 := q1) (C := C) (k := i * C + (j + 1)) (d := Rr * C - (i * C + (j + 1)))
      rwa [show i * C + (j + 1) + (Rr * C - (i * C + (j + 1))) = Rr * C by omega] at this
    have nx := fun s r => ih (j + 1) fu fu' s r (by omega) (by omega) (by omega)
    rw [cn] at nx le1
    unfold x1_copy_l246 tw_copy_l203 tw_cellAt
    rw [mulI, w32_i (x := ((Rr * C : Nat) : Int)) (by omega) (by omega), (td_C hj).1, (td_C hj).2, show w32 (((q0 + 1 : Nat) : Int) + (i : Int)) = ((q0 + i + 1 : Nat) : Int) by rw [w32_i (by omega) (by omega)]; omega, show w32 (((q1 + 1 : Nat) : Int) + (j : Int)) = ((q1 + j + 1 : Nat) : Int) by rw [w32_i (by omega) (by omega)]; omega, show (((q0 + 1 : Nat) : Int) - 1 + (i : Int)).toNat = q0 + i by omega, show (((q1 + 1 : Nat) : Int) - 1 + (j : Int)).toNat = q1 + j by omega]
    refine E2.lf (by omega) (E2.rf (by omega) (E2.rg (by omega) (E2.rg (by omega) ?_)))
    rw [show (320 * ((tsN fs kp : Nat) : Int) + 10 * (((q0 + i + 1 : Nat) : Int) - 1) + ((q1 + j + 1 : Nat) : Int) - 1).toNat = 320 * tsN fs kp + (10 * (q0 + i) + (q1 + j)) by omega]
    rw [if_pos (show 0 ≤ 320 * ((tsN fs kp : Nat) : Int) + 10 * (((q0 + i + 1 : Nat) : Int) - 1) + ((q1 + j + 1 : Nat) : Int) - 1 ∧ 320 * ((tsN fs kp : Nat) : Int) + 10 * (((q0 + i + 1 : Nat) : Int) - 1) + ((q1 + j + 1 : Nat) : Int) - 1 < ((39040 : Nat) : Int) by omega), Option.bind_some]
    refine E2.lg C1.1.1 (E2.lg C1.2.1 (E2.lg (by rw [C1.2.2.1]; omega) (E2.lg rw0.1 (E2.lg (by rw [rw0.2.1]; omega) (E2.lg kA.node ?_)))))
    -- the cell is put
    have PUT : ∀ (B : Nat) (c' : Int) (cS : Ct) (s' r' : gMem), cS.2.length = ct.2.length → Kz (fun _ => False) s s' → mZ s' ≤ mZ s + 4 * ct.2.length ∧ mS s' ≤ mS s + 13 * ct.2.length → (∀ q, mZ s ≤ q → mT s' q = 18 → mR s' q 1 ≠ x + 1430) → Ex (CyP h (M0 + cntS S0 q0 q1 C (i * C + j)) ct.2.length) r r' → mI r' h 25 = ((M0 + (cntS S0 q0 q1 C (i * C + j) + ct.2.length) : Nat) : Int) → CtC s' B cS → CtB r' h nv c' cS → E2 (x1_copy_l246_j313 N x ((q0 + 1 : Nat) : Int) ((q1 + 1 : Nat) : Int) ((u0 + 1 : Nat) : Int) ((u1 + 1 : Nat) : Int) Rr C (rt kp) mv i j B (x1_copy_l246 N x ((q0 + 1 : Nat) : Int) ((q1 + 1 : Nat) : Int) ((u0 + 1 : Nat) : Int) ((u1 + 1 : Nat) : Int) Rr C (rt kp) mv i K fu) K s') (tw_copy_l203_j259 N h ((q0 + 1 : Nat) : Int) ((q1 + 1 : Nat) : Int) ((u0 + 1 : Nat) : Int) ((u1 + 1 : Nat) : Int) Rr C (tsN fs kp : Nat) ((i * C + j : Nat) : Int) c' (tw_copy_l203 N h ((q0 + 1 : Nat) : Int) ((q1 + 1 : Nat) : Int) ((u0 + 1 : Nat) : Int) ((u1 + 1 : Nat) : Int) Rr C (tsN fs kp : Nat) Kt fu') Kt r') Φ := by
      intro B c' cS s' r' eL K' zs np e m25 kA' kc'
      obtain ⟨p1, p2, p3, p4, p5, p6, p7, p8⟩ := CpI.put (d := ct.2.length) I0 hkp0 (rr := u0 + i) (cc := u1 + j) (by omega) (by omega) K' zs np e (fun a k p => by
        rcases p with p | ⟨p, p'⟩ | ⟨p, p'⟩
        · unfold CpR at p
          exact ⟨by omega, fun y => by rcases y with ⟨o, o1, o2, o3, o4⟩ | y | ⟨o, o1, o2, o3, o4⟩ <;> omega⟩
        · exact ⟨by omega, fun y => by rcases y with ⟨o, o1, o2, o3, o4⟩ | y | ⟨o, o1, o2, o3, o4⟩ <;> omega⟩
        · exact ⟨by omega, fun y => by rcases y with ⟨o, o1, o2, o3, o4⟩ | y | ⟨o, o1, o2, o3, o4⟩ <;> omega⟩) m25 (by omega) kA' kc'
      unfold x1_copy_l246_j313 tw_copy_l203_j259 tw_setCell
      rw [(td_C hj).1, (td_C hj).2, show w32 (((u0 + 1 : Nat) : Int) + (i : Int)) = ((u0 + i + 1 : Nat) : Int) by rw [w32_i (by omega) (by omega)]; omega, show w32 (((u1 + 1 : Nat) : Int) + (j : Int)) = ((u1 + j + 1 : Nat) : Int) by rw [w32_i (by omega) (by omega)]; omega, show (((u0 + 1 : Nat) : Int) - 1 + (i : Int)).toNat = u0 + i by omega, show (((u1 + 1 : Nat) : Int) - 1 + (j : Int)).toNat = u1 + j by omega, p2, inc32 (by omega), inc32 (by omega)]
      refine E2.lg p1 (E2.lg p3 (E2.lg p4 (E2.lg (by omega) (E2.lg p6 (E2.lg kA'.asg (E2.lg (by omega) (E2.ll (E2.rg (by omega) (E2.rg (by omega) ?_)))))))))
      rw [if_pos (by omega), show (12800 + 10 * (((u0 + i + 1 : Nat) : Int) - 1) + ((u1 + j + 1 : Nat) : Int) - 1).toNat = 12800 + 10 * (u0 + i) + (u1 + j) by omega]
      exact E2.re rfl (nx _ _ p8)
    by_cases hf : ct.2 = []
    · have l0 : ct.2.length = 0 := by rw [hf]; rfl
      have n21 : ¬ mT s (mR s (mR s (mR s (rt kp) 2) (q0 + i)) (q1 + j)) = 21 := fun e => (kA.form z0).mp e hf
      refine E2.lf n21 ?_
      rcases t_formC (s := r) kB bd.2.1 with ⟨f1, f2⟩ | ⟨f1, q, f2, f3, f4, f5, f6, f7, f8, f9, f10⟩
      · refine E2.re f1 (E2.rg rfl ?_)
        exact PUT _ _ ct s r rfl (Kz.rf ok) (by omega) (fun q hq ht => by rw [ok q hq] at ht; cases ht) Ex.rf (by rw [i25, l0]; rfl) kA kB
      · exact absurd hf f10
    · have t21 := (kA.form z0).mpr hf
      obtain ⟨x44, fin, y1, y2, y3, y4, y5, y6, y7, y8⟩ := c_copyF (x := x) (N := N) (by omega) fn ok z z0 (by omega) mc kA hf (fun p hp => kB.pw p hp)
      have tA : mT (wN s 21 2) (mR s (mR s (mR s (rt kp) 2) (q0 + i)) (q1 + j)) = 21 := by rw [mT_wN, if_neg (fun e => by rw [e, ok _ (Nat.le_refl _)] at t21; cases t21)]; exact t21
      refine E2.lg t21 (E2.ll (E2.lg (Or.inr tA) (E2.lg tA (E2.le y1 (E2.le y2 (E2.le y3 ?_))))))
      rcases t_formC (s := r) kB bd.2.1 with ⟨f1, f2⟩ | ⟨f1, q, f2, f3, f4, f5, f6, f7, f8, f9, f10⟩
      · exact absurd f2 hf
      · refine E2.re f1 (E2.rf (by decide) ?_)
        rw [f2]
        have lnf := R.lnf
        rw [g3] at lnf
        refine E2.rc (t_copyFormula (f := fl) (by omega) lnf i25 (by omega) (by omega) f5 f6 f7 (by omega)) (fun x48 y => ?_)
        obtain ⟨w1, w2, w3, w4, w5⟩ := y
        rw [w1]
        refine PUT _ _ (vE, ct.2.map (shP fl _ _)) fin x48.2 (by show (ct.2.map _).length = _; rw [List.length_map]) y4 ⟨y6, y7⟩ y8 w2 (by rw [w3]; omega) y5 (Or.inr (Or.inl ⟨M0 + cntS S0 q0 q1 C (i * C + j), rfl, rfl, ?_, ?_, w5, ?_, ?_⟩))
        · show (ct.2.map _).length ≤ 60; rw [List.length_map]; exact f5
        · show _ = (((ct.2.map _).length : Nat) : Int); rw [List.length_map]; exact w4
        · show pK (lab (ct.2.map _)) ≠ 6
          rw [lab_map hf]; exact fun e => f8 (shP_kk e)
        · show ((M0 + cntS S0 q0 q1 C (i * C + j) + (ct.2.map _).length : Nat) : Int) ≤ _
          rw [List.length_map, w3]; exact Int.le_refl _
end State68
