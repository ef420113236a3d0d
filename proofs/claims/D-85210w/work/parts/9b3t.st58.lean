/-! ===== PHASE 2: the act enter: behind the reading ===== -/
section State58
variable {N x h u b0 nv nv' pa un fs i t t' q n fi la p k : Nat} {σ σ' τ τ' r s f m b : gMem} {P : Nat → Nat → Prop} {W : Nat → Prop} {own rt : Nat → Nat} {S S' : Sh} {Gs : Nat → Sh} {g : Nat → Nat → Vl} {v w v1 v2 v4 v5 c' : Int} {ct : Ct} {a A : Nat}
def cdEn : List (String × Int) := [("java/lang/IndexOutOfBoundsException", 1), ("java/lang/IllegalArgumentException", 2), ("java/lang/UnsupportedOperationException", 3)]
theorem c_parts (k : CtC σ A ct) (a0 : A ≠ 0) : dp_Content_parts A σ = some ((ct.2.length : Nat) : Int) := by
  unfold dp_Content_parts
  rcases k with k | k | k | k | k
  · exact absurd k.1 a0
  · rw [if_pos k.1, k.2.1]; rfl
  · rw [if_neg (by omega), if_pos k.1, k.2.2.2.1]; rfl
  · rw [if_neg (by omega), if_neg (by omega), if_pos k.1, k.2.1]; rfl
  · rw [if_neg (by omega), if_neg (by omega), if_neg (by omega), if_pos k.1]
    unfold x23_parts
    rw [if_pos k.1, k.2.2.2.2.2.2]
theorem RwT.ex2 {b : Nat} {l : Fm} (k : RwT τ h b nv l) (e : Ex P τ τ') (hP : ∀ o k, (o = 9 ∨ (14 ≤ o ∧ o ≤ 25)) → ¬ P (h + o) k) (g : mI τ h 19 ≤ mI τ' h 19) : RwT τ' h b nv l := by
  obtain ⟨k1, k2, k3⟩ := k
  have nI : ∀ (o k : Nat), 14 ≤ o → o ≤ 25 → mI τ' (h + o) k = mI τ (h + o) k := fun o k h1 h2 => e.rI (hP o k (Or.inr ⟨h1, h2⟩))
  have nL : ∀ (o k : Nat), 14 ≤ o → o ≤ 25 → mL τ' (h + o) k = mL τ (h + o) k := fun o k h1 h2 => e.rL (hP o k (Or.inr ⟨h1, h2⟩))
  have nt : ∀ k : Nat, mI τ' (h + 9) k = mI τ (h + 9) k := fun k => e.rI (hP 9 k (Or.inl rfl))
  have LT : ∀ (q : Nat) p, LabT τ h q p → LabT τ' h q p := by
    intro q p L
    obtain ⟨l1, l2, l3, l4, ⟨at2, l5, l6, l7⟩, l8, l9, l10, l11, l12, l13, l14⟩ := L
    refine ⟨l1, by rw [nI 14 q (by omega) (by omega)]; exact l2, by rw [nI 15 q (by omega) (by omega)]; exact l3, by rw [nL 17 q (by omega) (by omega)]; exact l4, ⟨at2, by rw [nI 18 q (by omega) (by omega)]; exact l5, l6, fun i hi => by rw [nt _]; exact l7 i hi⟩, by rw [nI 19 q (by omega) (by omega)]; exact l8, by rw [nI 20 q (by omega) (by omega)]; exact l9, by rw [nI 21 q (by omega) (by omega)]; exact l10, by rw [nI 22 q (by omega) (by omega)]; exact l11, by rw [nI 23 q (by omega) (by omega)]; exact l12, ?_, by rw [nI 25 q (by omega) (by omega)]; exact l14⟩
    rw [nI 24 q (by omega) (by omega)]; exact l13
  refine ⟨SpT.cg _ _ _ (fun q p h1 h2 L => LT q p L) (fun q h1 h2 => nI 16 q (by omega) (by omega)) k1, k2, fun i hi => ?_⟩
  obtain ⟨m1, ⟨at', m2, m3⟩, m4, m5, m6, m7⟩ := k3 i hi
  exact ⟨LT _ _ m1, ⟨at', by rw [nI 18 _ (by omega) (by omega)]; exact m2, by omega⟩, m4, by rw [nI 24 _ (by omega) (by omega)]; exact m5, m6, m7⟩
theorem CtT.toB {c : Int} (k : CtT b h c ct) (e : c = ((100000 + q : Nat) : Int)) (e2 : ct.2 = []) (q24 : (q : Int) < mI b h 24) (hat : ∃ at' : Nat, mI b (h + 12) q = at' ∧ ((at' + ct.1.2.2.length : Nat) : Int) ≤ mI b h 19) : CtB b h nv c ct := by
  rcases k with ⟨k1, -⟩ | ⟨q', k1, k2, -⟩ | ⟨q', k1, k2, k3⟩
  · omega
  · omega
  · obtain rfl : q' = q := by omega
    exact Or.inr (Or.inr ⟨q', k1, k2, k3, q24, hat⟩)
/-- the cell is written, as a step of its own -/
def EnR (x h t : Nat) (s r : gMem) (p : Nat) (a : gR) (b : Int × gMem) : Prop := RL x h t a.2 b.2 ∧ Kz (NoT x h) s a.2 ∧ mI a.2 x 17 = mI s x 17 ∧ mZ a.2 ≤ mZ s + 36 ∧ mS a.2 ≤ mS s + 397 ∧ Ex (TwA h) r b.2 ∧ a.1 = .inl (some (vI (p : Int))) ∧ b.1 = (p : Int) ∧ mI b.2 h 0 = 0
theorem en_fin (hN : 500 ≤ N) (R : Rl x h t nv pa un fs Gs g own rt s r) (hin : inS (Gs 0) v1 v2) (kA : CtC s A ct) (kc : CtB r h nv c' ct) (i56 : mI r h 56 = (p : Int)) (i0 : mI r h 0 = 0) : E2 ((x1_step N x s).bind (fun x29 => if mT x29 (mR x29 x 8) = 8 then if mT x29 (mR x29 (mR x29 x 8) 2) = 111 then if 0 ≤ (v1 - 1) ∧ (v1 - 1) < (mN x29 (mR x29 (mR x29 x 8) 2) : Int) then if mT x29 (mR x29 (mR x29 (mR x29 x 8) 2) (v1 - 1).toNat) = 110 then if A = 0 ∨ gAsg 10 (mT x29 A) = true then if 0 ≤ (v2 - 1) ∧ (v2 - 1) < (mN x29 (mR x29 (mR x29 (mR x29 x 8) 2) (v1 - 1).toNat) : Int) then gLet (wR x29 (mR x29 (mR x29 (mR x29 x 8) 2) (v1 - 1).toNat) (v2 - 1).toNat A) (fun s35 => some ((.inl (some (vI (p : Int))), s35) : gR)) else none else none else none else none else none else none)) (tw_enter_j266 N h v1 v2 c' r) (EnR x h t s r p) := by
  have l := R.1.1
  have hh := R.1.2.1.1
  obtain ⟨own', rt', fs', r2, er, b, eb, b1, R2, b3, b4, b5, b6⟩ := both_step (N := N) hN R
  unfold tw_enter_j266
  refine E2.le er (E2.re eb ?_)
  unfold inS at hin
  have c0 := R.c0.2.1
  have n32 := c0.2.1.2.2.1
  have m10 := c0.2.2.2
  obtain ⟨rr, rfl⟩ : ∃ n : Nat, v1 = ((n + 1 : Nat) : Int) := ⟨(v1 - 1).toNat, by omega⟩
  obtain ⟨cc, rfl⟩ : ∃ n : Nat, v2 = ((n + 1 : Nat) : Int) := ⟨(v2 - 1).toNat, by omega⟩
  have g0 : stG pa Gs 0 = Gs 0 := stG_0 pa Gs
  have C := R2.c0
  rw [g0] at C
  have rw0 := C.2.2.2.2 rr (by omega)
  have kA' : CtC r2 A ct := kA.kp b3.1 l.ok l.z (StW.wn l)
  have gw : Grw r b.2 h := ⟨by rw [b4.rI (fun p => by have := p.out; omega)]; exact Int.le_refl _, by rw [b4.rI (fun p => by have := p.out; omega)]; exact Int.le_refl _, by rw [b4.rI (fun p => by have := p.out; omega)]; exact Int.le_refl _⟩
  have kc' : CtB b.2 h nv c' ct := kc.ex b4 (fun a k p => p.qt.co) gw (Nat.le_refl _)
  obtain ⟨⟨Gs4, R4⟩, y1, y2⟩ := both_cell (rr := rr) (cc := cc) R2 b5 b6 (by rw [g0]; omega) (by rw [g0]; omega) kA' kc'
  rw [C.1, show (((rr + 1 : Nat) : Int) - 1).toNat = rr by omega, show (((cc + 1 : Nat) : Int) - 1).toNat = cc by omega]
  refine E2.lg C.2.1.1 (E2.lg C.2.2.1 (E2.lg (by rw [C.2.2.2.1]; omega) (E2.lg rw0.1 (E2.lg kA'.asg (E2.lg (by rw [rw0.2.1]; omega) (E2.ll ?_))))))
  unfold tw_setCell
  rw [if_pos (by omega), show (12800 + 10 * (((rr + 1 : Nat) : Int) - 1) + ((cc + 1 : Nat) : Int) - 1).toNat = 12800 + 10 * rr + cc by omega]
  refine E2.re rfl (E2.r ⟨⟨_, _, _, _, _, _, _, _, R4⟩, (b3.nt hh).tr y1, ?_, ?_, ?_, (b4.mono (fun a k p => p.ta)).tr y2, rfl, ?_, ?_⟩)
  · show mI r2 x 17 = _
    exact b3.2.2.1 17 (by decide) (by decide) (by decide)
  · exact b3.2.2.2.2.1
  · exact b3.2.2.2.2.2
  · show mI (wI b.2 (h + 5) (12800 + 10 * rr + cc) c') h 56 = _
    rw [mIwI1 (by omega), b4.rI (fun p => by have := p.out; omega)]; exact i56
  · show mI (wI b.2 (h + 5) (12800 + 10 * rr + cc) c') h 0 = 0
    rw [mIwI1 (by omega), b4.rI (fun p => by have := p.out; omega)]; exact i0
/-- the frame of reading on both sides -/
def EnF (x h : Nat) (s r m b : gMem) : Prop := FrC x s m 403 ∧ Ex (EnA r h) r b ∧ (By r (h + 9) → By b (h + 9)) ∧ Grw r b h ∧ mI b h 19 ≤ mI r h 19 + 400 ∧ mI b h 24 ≤ mI r h 24 + 1 ∧ mI b h 25 = mI r h 25 ∧ mI b h 0 = mI r h 0 ∧ mI b h 40 = mI r h 40
/-- what is done ahead of reading -/
def EnB (x h : Nat) (σ τ s r : gMem) : Prop := (Kz (NoT x h) σ s ∧ mZ s = mZ σ ∧ mS s = mS σ ∧ mI s x 17 = mI σ x 17 ∧ Ex (TwA h) τ r) ∧ (mI s x 1 = 0 ∧ mI s x 2 = 0 ∧ mI s x 3 = -1 ∧ mI r h 40 = 0 ∧ mI r h 42 = -1 ∧ mI r h 0 = 0)
theorem EnA.ta {a k : Nat} (p : EnA τ h a k) : TwA h a k := by unfold EnA at p; unfold TwA; omega
theorem en_x (R1 : Rl x h t nv pa un fs Gs g own rt s r) (F : FrC x s m k) : mR m x = mR s x ∧ mI m x = mI s x ∧ mT m x = 1 ∧ mT m (x + 1429) = 6 ∧ mR m x 24 = x + 1429 := by
  have l := R1.1.1
  have K := F.1
  have nx : ¬ RdW x x := by unfold RdW; omega
  have e : mR m x = mR s x := funext fun j => K.rR l.ok (by rw [l.1.1]; decide) nx j
  exact ⟨e, funext fun j => K.rI l.ok (by rw [l.1.1]; decide) nx j, by rw [K.tag l.ok (by rw [l.1.1]; decide)]; exact l.1.1, by rw [K.tag l.ok (by rw [l.2.2.1.1]; decide)]; exact l.2.2.1.1, by rw [e]; exact l.R (24, 1429) (by decide)⟩
/-- both have read: some ints of the object besides -/
theorem en_rl {m' b' : gMem} (R1 : Rl x h t nv pa un fs Gs g own rt s r) (F : FrC x s m k) (X : Ex (fun a j => a = x ∧ (j = 2 ∨ j = 3 ∨ j = 17)) m m') (Y : Ex (EnA r h) r b') (b9 : By r (h + 9) → By b' (h + 9)) (gw : Grw r b' h) (m25 : mI b' h 25 ≤ 60000) (m19 : mI b' h 19 ≤ mI r h 19 + 400) (m24 : mI b' h 24 ≤ mI r h 24 + 1) (n1 : mI s x 1 = 0 ∧ mI b' h 40 = 0) (n2 : Rfl x h m' b') (n3 : Rpt x h m' b') : Rl x h (t + 1) nv pa un fs Gs g own rt m' b' := by
  have l := R1.1.1
  obtain ⟨K, f16, fz, fs', np⟩ := F
  obtain ⟨e1, e2, e3, e4, e5⟩ := en_x R1 ⟨K, f16, fz, fs', np⟩
  have bd := R1.2.1.2.2.2.1
  have K2 : Kz (EnW x) m m' := X.kp K.ok (fun a k p => Or.inl p.1)
  have K1 : Kz (EnW x) s m := K.mono (fun a w => Or.inr w)
  refine R1.en (t' := t + 1) (K1.tr K2) (by rw [X.rR]; exact e1) (fun j j1 j2 j3 j4 => by rw [X.rI (by omega), e2]) (fun j hj => by rw [X.rR]; exact f16 j (by omega)) (fun q hq ht => by rw [X.rT] at ht; rw [X.rR]; exact np q hq ht) Y (fun a k p => p) b9 gw m25 (by omega) (by omega) (by omega) ⟨0, by omega, by rw [X.rI (by omega), e2]; exact n1.1, n1.2, fun k hk => absurd hk (Nat.not_lt_zero _)⟩ n2 n3
theorem en_good (hN : 500 ≤ N) (R1 : Rl x h t nv pa un fs Gs g own rt s r) (B : EnB x h σ τ s r) (hin : inS (Gs 0) v1 v2) (E : EnF x h s r m b) (i41 : mI b h 41 = 0) (i42 : mI b h 42 = mI r h 42) (i56 : mI b h 56 = ((ct.2.length : Nat) : Int)) (l60 : ct.2.length ≤ 60) (kA : CtC m A ct)
    (hC : (v4 = 0 ∧ CtB b h nv v5 ct ∧ ct.2 = []) ∨ (v4 = 1 ∧ ct.1 = vE ∧ RwT b h (mI r h 25).toNat nv ct.2 ∧ pK (lab ct.2) ≠ 6)) :
    E2 (x1_enter_j124 N x v1 v2 A ((ct.2.length : Nat) : Int) m) (tw_enter_j193 N h v1 v2 v4 v5 b) (OpO x h t cdEn σ τ) := by
  have l := R1.1.1
  have hh := R1.1.2.1.1
  obtain ⟨F, X, b9, gw, m19, m24, m25, k0, k40⟩ := E
  obtain ⟨⟨p1, p2, p3, p4, p5⟩, z1, z2, z3, z4, z5, z6⟩ := B
  obtain ⟨e1, e2, e3, e4, e5⟩ := en_x R1 F
  have F0 := F
  obtain ⟨K, f16, fz, fs', np⟩ := F
  have pt : mI s x 17 = mI r h 25 := R1.2.2.1.2.2.2.1
  have bd := R1.2.1.2.2.2.1
  have Kn : Kz (NoT x h) s m := K.mono (fun a w => by unfold RdW at w; unfold NoT; omega)
  unfold x1_enter_j124 tw_enter_j193
  refine E2.lg e3 (E2.rg (by omega) ?_)
  rw [e2, pt, m25, i56, w32_i (x := mI r h 25 + ((ct.2.length : Nat) : Int)) (by omega) (by omega)]
  by_cases big : mI r h 25 + ((ct.2.length : Nat) : Int) ≤ 60000
  · refine E2.lg big (E2.rg big (E2.ll ?_))
    obtain ⟨m', hm⟩ : ∃ m', m' = wI m x 17 (mI r h 25 + ((ct.2.length : Nat) : Int)) := ⟨_, rfl⟩
    have Xm : Ex (fun a j => a = x ∧ (j = 2 ∨ j = 3 ∨ j = 17)) m m' := by rw [hm]; exact Ex.rf.I ⟨rfl, Or.inr (Or.inr rfl)⟩
    have i17 : mI m' x 17 = mI r h 25 + ((ct.2.length : Nat) : Int) := by rw [hm, mIwI2 ⟨rfl, rfl⟩, w32_i (by omega) (by omega)]
    have j2 : mI m' x 2 = 0 := by rw [hm, mIwI1 (by omega), e2]; exact z2
    have j3 : mI m' x 3 = -1 := by rw [hm, mIwI1 (by omega), e2]; exact z3
    rw [← hm]
    have zm : 0 < mZ m := by have := K.1; have := l.z; omega
    have x0 : x ≠ 0 := fun e => by have a := l.1.1; rw [e, l.z0] at a; cases a
    have kA' : CtC m' A ct := kA.kp (W := fun a => a = x) (Xm.kp K.ok (fun a k p => p.1)) K.ok zm ⟨fun e => x0 e.symm, fun a w => by rw [show a = x from w, e3]; omega⟩
    have Km : Kz (NoT x h) s m' := Kn.tr (Xm.kp K.ok (fun a k p => by unfold NoT; omega))
    have FIN : ∀ b' c', Ex (EnA r h) r b' → (By r (h + 9) → By b' (h + 9)) → Grw r b' h → mI b' h 25 = mI r h 25 + ((ct.2.length : Nat) : Int) → (∀ j, j ≠ 25 → mI b' h j = mI b h j) → CtB b' h nv c' ct → E2 ((x1_step N x m').bind (fun x29 => if mT x29 (mR x29 x 8) = 8 then if mT x29 (mR x29 (mR x29 x 8) 2) = 111 then if 0 ≤ (v1 - 1) ∧ (v1 - 1) < (mN x29 (mR x29 (mR x29 x 8) 2) : Int) then if mT x29 (mR x29 (mR x29 (mR x29 x 8) 2) (v1 - 1).toNat) = 110 then if A = 0 ∨ gAsg 10 (mT x29 A) = true then if 0 ≤ (v2 - 1) ∧ (v2 - 1) < (mN x29 (mR x29 (mR x29 (mR x29 x 8) 2) (v1 - 1).toNat) : Int) then gLet (wR x29 (mR x29 (mR x29 (mR x29 x 8) 2) (v1 - 1).toNat) (v2 - 1).toNat A) (fun s35 => some ((.inl (some (vI ((ct.2.length : Nat) : Int))), s35) : gR)) else none else none else none else none else none else none)) (tw_enter_j266 N h v1 v2 c' b') (OpO x h t cdEn σ τ) := by
      intro b' c' Y b9' gw' w25 wj kc
      have R2 := en_rl R1 F0 Xm Y b9' gw' (by omega) (by rw [wj 19 (by decide)]; exact m19) (by rw [wj 24 (by decide)]; exact m24) ⟨z1, by rw [wj 40 (by decide)]; omega⟩ ⟨by rw [j2, wj 41 (by decide)]; exact i41.symm, by rw [j3, wj 42 (by decide)]; omega⟩ (by unfold Rpt; omega)
      refine (en_fin hN R2 hin kA' kc (by rw [wj 56 (by decide)]; exact i56) (by rw [wj 0 (by decide)]; omega)).m (fun a b2 o => ?_)
      obtain ⟨o1, o2, o3, o4, o5, o6, o7, o8, o9⟩ := o
      refine ⟨o1, ⟨(p1.tr Km).tr o2, ct.2.length, by rw [o3, i17, ← p4, pt], ?_, ?_⟩, (p5.tr (Y.mono (fun a k p => p.ta))).tr o6, Or.inl ⟨_, o7, o8, o9, by unfold g32; omega⟩⟩
      · have := Xm.rZ; omega
      · have := Xm.rS; omega
    rcases hC with ⟨e, kc, k2⟩ | ⟨e, c1, c2, c3⟩
    · refine E2.rg e ?_
      have l0 : ct.2.length = 0 := by rw [k2]; rfl
      exact FIN b v5 X b9 gw (by omega) (fun j _ => rfl) kc
    · refine E2.rf (by omega) (E2.rg (by omega) (E2.rl ?_))
      obtain ⟨s68, h68⟩ : ∃ s68, s68 = wI b (h + 26) (mI r h 25).toNat ((ct.2.length : Nat) : Int) := ⟨_, rfl⟩
      rw [← h68]
      have X68 : Ex (fun a k => a = h + 26 ∧ k = (mI r h 25).toNat) b s68 := by rw [h68]; exact Ex.rf.I ⟨rfl, rfl⟩
      rw [X68.rI (show ¬ (h = h + 26 ∧ 25 = _) by omega), X68.rI (show ¬ (h = h + 26 ∧ 56 = _) by omega), m25, i56, w32_i (x := mI r h 25 + ((ct.2.length : Nat) : Int)) (by omega) (by omega), w32_i (x := mI r h 25 + 1) (by omega) (by omega)]
      refine E2.rl ?_
      obtain ⟨b', hb⟩ : ∃ b', b' = wI s68 h 25 (mI r h 25 + ((ct.2.length : Nat) : Int)) := ⟨_, rfl⟩
      have Xb : Ex (fun a k => a = h ∧ k = 25) s68 b' := by rw [hb]; exact Ex.rf.I ⟨rfl, rfl⟩
      have i25 : mI b' h 25 = mI r h 25 + ((ct.2.length : Nat) : Int) := by rw [hb, mIwI2 ⟨rfl, rfl⟩, w32_i (by omega) (by omega)]
      rw [← hb]
      have wj : ∀ j, j ≠ 25 → mI b' h j = mI b h j := fun j hj => by rw [Xb.rI (by omega), X68.rI (by omega)]
      have Y : Ex (EnA r h) r b' := by
        refine (X.tr (X68.mono (fun a k p => ⟨Or.inr (by omega), fun z => ?_⟩))).tr (Xb.mono (fun a k p => ⟨Or.inl (by omega), fun z => ?_⟩))
        · rcases z with ⟨o, o1, o2, o3, o4⟩ | z | ⟨o, o1, o2, o3, o4⟩ <;> omega
        · rcases z with ⟨o, o1, o2, o3, o4⟩ | z | ⟨o, o1, o2, o3, o4⟩ <;> omega
      have rw2 : RwT b' h (mI r h 25).toNat nv ct.2 := (c2.ex2 X68 (fun o k ho p => by omega) (by rw [X68.rI (by omega)]; exact Int.le_refl _)).ex2 Xb (fun o k ho p => by omega) (by rw [Xb.rI (by omega)]; exact Int.le_refl _)
      refine FIN b' _ Y (fun z => ((b9 z).ex X68 (fun k p => by omega)).ex Xb (fun k p => by omega)) ⟨by omega, by rw [wj 19 (by decide)]; exact gw.2.1, by rw [wj 24 (by decide)]; exact gw.2.2⟩ i25 wj (Or.inr (Or.inl ⟨(mI r h 25).toNat, by omega, c1, l60, ?_, rw2, c3, by omega⟩))
      rw [Xb.rI (by omega), h68, mIwI2 ⟨rfl, rfl⟩, w32_i (by omega) (by omega)]
  · refine E2.lf big (E2.rf big ?_)
    have R2 := en_rl R1 F0 (m' := m) Ex.rf X b9 gw (by omega) m19 m24 ⟨z1, by omega⟩ ⟨by rw [e2, z2]; exact i41.symm, by rw [e2, z3]; omega⟩ (by unfold Rpt; rw [e2]; omega)
    refine E2.r ⟨⟨_, _, _, _, _, _, _, _, R2.cX.t0⟩, ⟨(p1.tr Kn).wX, 0, ?_, ?_, ?_⟩, (p5.tr (X.mono (fun a k p => p.ta))).I (by unfold TwA; omega), Or.inr ⟨_, 3, rfl, by decide, by rw [mIwI2 ⟨rfl, rfl⟩, w32_i (by omega) (by omega)], by decide⟩⟩
    · show mI m x 17 = _; rw [e2]; omega
    · show mZ m + 1 ≤ _; omega
    · show mS m + 6 ≤ _; omega
theorem en_bad (R1 : Rl x h t nv pa un fs Gs g own rt s r) (B : EnB x h σ τ s r) (E : EnF x h s r m b) (i41 : mI b h 41 = mI m (x + 1429) 12) (i42 : mI b h 42 = mI m (x + 1429) 13) (i0 : 0 < mI b h 41) : E2 (if mT m (mR m x 24) = 6 then gLet (wI m x 2 (mI m (mR m x 24) 12)) (fun s40 => if mT s40 (mR s40 x 24) = 6 then gLet (wI s40 x 3 (mI s40 (mR s40 x 24) 13)) (fun s44 => some ((.inr "java/lang/IllegalArgumentException", wX s44 6) : gR)) else none) else none) (tw_enter_j193 N h v1 v2 v4 v5 b) (OpO x h t cdEn σ τ) := by
  have l := R1.1.1
  have hh := R1.1.2.1.1
  obtain ⟨F, X, b9, gw, m19, m24, m25, k0, k40⟩ := E
  obtain ⟨⟨p1, p2, p3, p4, p5⟩, z1, z2, z3, z4, z5, z6⟩ := B
  obtain ⟨e1, e2, e3, e4, e5⟩ := en_x R1 F
  have F0 := F
  obtain ⟨K, f16, fz, fs', np⟩ := F
  have pt : mI s x 17 = mI r h 25 := R1.2.2.1.2.2.2.1
  have bd := R1.2.1.2.2.2.1
  have Kn : Kz (NoT x h) s m := K.mono (fun a w => by unfold RdW at w; unfold NoT; omega)
  unfold tw_enter_j193
  rw [e5]
  refine E2.rf (by omega) (E2.lg e4 (E2.ll ?_))
  rw [show mR (wI m x 2 (mI m (x + 1429) 12)) x 24 = x + 1429 from e5, mIwI1 (show ¬ (x + 1429 = x ∧ 13 = 2) by omega)]
  refine E2.lg e4 (E2.ll ?_)
  have r12 := mI_rng m (x + 1429) 12
  have r13 := mI_rng m (x + 1429) 13
  unfold g32 at r12 r13
  obtain ⟨m', hm⟩ : ∃ m', m' = wI (wI m x 2 (mI m (x + 1429) 12)) x 3 (mI m (x + 1429) 13) := ⟨_, rfl⟩
  have Xm : Ex (fun a j => a = x ∧ (j = 2 ∨ j = 3 ∨ j = 17)) m m' := by rw [hm]; exact (Ex.rf.I ⟨rfl, Or.inl rfl⟩).I ⟨rfl, Or.inr (Or.inl rfl)⟩
  have j2 : mI m' x 2 = mI b h 41 := by rw [hm, mIwI1 (by omega), mIwI2 ⟨rfl, rfl⟩, w32_i (by omega) (by omega)]; exact i41.symm
  have j3 : mI m' x 3 = mI b h 42 := by rw [hm, mIwI2 ⟨rfl, rfl⟩, w32_i (by omega) (by omega)]; exact i42.symm
  have j17 : mI m' x 17 = mI s x 17 := by rw [hm, mIwI1 (by omega), mIwI1 (by omega), e2]
  rw [← hm]
  have R2 := en_rl R1 F0 Xm X b9 gw (by omega) m19 m24 ⟨z1, by omega⟩ ⟨j2, j3⟩ (by unfold Rpt; rw [j17]; omega)
  refine E2.r ⟨⟨_, _, _, _, _, _, _, _, R2.cX.t0⟩, ⟨((p1.tr Kn).tr (Xm.kp K.ok (fun a k p => by unfold NoT; omega))).wX, 0, ?_, ?_, ?_⟩, (p5.tr (X.mono (fun a k p => p.ta))).I (by unfold TwA; omega), Or.inr ⟨_, 2, rfl, by decide, by rw [mIwI2 ⟨rfl, rfl⟩, w32_i (by omega) (by omega)], by decide⟩⟩
  · show mI m' x 17 = _; rw [j17]; omega
  · show mZ m' + 1 ≤ _; have := Xm.rZ; omega
  · show mS m' + 6 ≤ _; have := Xm.rS; omega
end State58
