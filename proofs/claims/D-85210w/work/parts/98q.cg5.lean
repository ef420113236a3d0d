/-! ===== PHASE 2: the component's graph: all that leads to itself is found ===== -/
section CoGraph5
variable {N L sh : Nat} {σ σ' s : gMem} {S : Sh} {cx : Cx}
/-- where ways are looked for -/
def FQd (σ : gMem) (L sh : Nat) (S : Sh) : Prop := LK σ L ∧ ShC σ sh S ∧ KN σ ∧ gOk σ ∧ 0 < mZ σ ∧ mT σ 0 = 0 ∧ ∀ b, ShA σ sh S.1.1.length b → b < L ∨ L + 9 < b
theorem FQd.wn (h : FQd σ L sh S) : WN σ (fun a => L ≤ a ∧ a ≤ L + 9) := by
  obtain ⟨⟨t0, -, -, -, -, -, -, -, -, -⟩, ⟨t1, t2, t3, t4, t5, t6, t7, t8, t9⟩, -⟩ := h.1.f
  refine ⟨fun z => ?_, fun a ha => ?_⟩
  · have := h.2.2.2.2.2.1
    have e : L = 0 := by omega
    rw [e, this] at t0; cases t0
  · have : mT σ a = 4 ∨ mT σ a = 100 ∨ mT σ a = 101 ∨ mT σ a = 103 := by
      rcases (by omega : a = L ∨ a = L + 1 ∨ a = L + 2 ∨ a = L + 3 ∨ a = L + 4 ∨ a = L + 5 ∨ a = L + 6 ∨ a = L + 7 ∨ a = L + 8 ∨ a = L + 9) with e | e | e | e | e | e | e | e | e | e <;> rw [e] <;> omega
    omega
theorem FQd.kz (h : FQd σ L sh S) (x : Ex (Lq L) σ s) : Kz (fun a => L ≤ a ∧ a ≤ L + 9) σ s := x.kp h.2.2.2.1 (fun a _ p => p)
theorem FQd.ex (h : FQd σ L sh S) (x : Ex (Lq L) σ s) : FQd s L sh S := by
  have K := h.kz x
  have n := h.wn
  obtain ⟨h1, h2, h3, h4, h5, h6, h7⟩ := h
  have hn : ∀ b, ShA σ sh S.1.1.length b → ¬ (L ≤ b ∧ b ≤ L + 9) := fun b hb z => by have := h7 b hb; omega
  refine ⟨h1.ex x, h2.kp K h4 h5 n hn, fun j hj => ?_, K.ok, by rw [x.rZ]; exact h5, by rw [x.rT]; exact h6, fun b hb => h7 b (by unfold ShA at hb ⊢; rw [x.rR] at hb; exact hb)⟩
  have q := h3 j hj
  rw [x.rR, x.rT, x.rI (fun p => (n.2 _ p).1 (by
    have := n.2 _ p
    exfalso
    obtain ⟨⟨t0, -, -, -, -, -, -, -, -, -⟩, ⟨t1, t2, t3, t4, t5, t6, t7, t8, t9⟩, -⟩ := h1.f
    unfold Lq at p
    rcases (by omega : mR σ 0 j = L ∨ mR σ 0 j = L + 1 ∨ mR σ 0 j = L + 2 ∨ mR σ 0 j = L + 3 ∨ mR σ 0 j = L + 4 ∨ mR σ 0 j = L + 5 ∨ mR σ 0 j = L + 6 ∨ mR σ 0 j = L + 7 ∨ mR σ 0 j = L + 8 ∨ mR σ 0 j = L + 9) with e | e | e | e | e | e | e | e | e | e <;> rw [e] at q <;> omega))]
  exact q
theorem c_find_a {σ0 : gMem} {K : gMem → Option gMem} {Φ : gMem → Prop} (lk : LK σ0 L) (hK : ∀ s, Ex (Lq L) σ0 s → (∀ k, k < 1600 → mL s (L + 1) k = 0) → Ev (K s) Φ) : ∀ (m i f : Nat) (s : gMem), i + m = 1600 → m < f → Ex (Lq L) σ0 s → (∀ k, k < i → mL s (L + 1) k = 0) → Ev (x4_find_l2 N L sh K f i s) Φ := by
  intro m
  induction m with
  | zero =>
    intro i f s h1 h2 X g
    obtain ⟨f, rfl⟩ : ∃ j, f = j + 1 := ⟨f - 1, by omega⟩
    obtain ⟨⟨t0, r0, -⟩, ⟨t1, -⟩, n1, -⟩ := (lk.ex X).f
    unfold x4_find_l2
    rw [r0, n1, w32_i (by decide) (by decide)]
    exact Ev.g t0 (Ev.g t1 (Ev.g (by omega) (hK s X (fun k hk => g k (by omega)))))
  | succ m ih =>
    intro i f s h1 h2 X g
    obtain ⟨f, rfl⟩ : ∃ j, f = j + 1 := ⟨f - 1, by omega⟩
    obtain ⟨⟨t0, r0, -⟩, ⟨t1, -⟩, n1, -⟩ := (lk.ex X).f
    unfold x4_find_l2
    rw [r0, n1, w32_i (by decide) (by decide), tn, inc32 (by omega), c0L]
    refine Ev.g t0 (Ev.g t1 (Ev.f (by omega) (Ev.g (by omega) (Ev.l (ih (i + 1) f _ (by omega) (by omega) (X.L (by unfold Lq; omega)) (fun k hk => ?_))))))
    rw [mL_wL]
    by_cases c : k = i
    · rw [if_pos ⟨rfl, c⟩]; exact w64_id (by decide)
    · rw [if_neg (fun z => c z.2)]; exact g k (by omega)
/-- ways of the cells below i are there -/
def BTs (s : gMem) (L : Nat) (S : Sh) (cx : Cx) (i : Nat) : Prop := ∀ a b, a < 320 → b < 320 → (BT s (L + 1) a b = true ↔ a < i ∧ LDr cx S.1.1.length S.1.2.length S.2 a b)
theorem c_find_b {σ0 : gMem} {K : gMem → Option gMem} {Φ : gMem → Prop} {r : Nat} (hN : 70 ≤ N) (fq : FQd σ0 L sh S) (hcx : cx.1 (-1) = S.1) (hr : r < S.1.1.length) (hK : ∀ s, Ex (Lq L) σ0 s → BTs s L S cx (10 * (r + 1)) → Ev (K s) Φ) : ∀ (m c f : Nat) (s : gMem), c + m = S.1.2.length → m < f → Ex (Lq L) σ0 s → BTs s L S cx (10 * r + c) → Ev (x4_find_l37 N L sh r K f c s) Φ := by
  have lR := fq.2.1.1.2.1.2.2.1
  have lC := fq.2.1.1.2.2.2
  intro m
  induction m with
  | zero =>
    intro c f s h1 h2 X g
    obtain ⟨f, rfl⟩ : ∃ j, f = j + 1 := ⟨f - 1, by omega⟩
    obtain ⟨lk, shc, -⟩ := fq.ex X
    obtain ⟨⟨s1, s2, s3, s4⟩, s5, s6, s7⟩ := shc
    unfold x4_find_l37
    rw [s3.2.1, w32_i (by omega) (by omega)]
    refine Ev.g s1 (Ev.g s3.1 (Ev.g (by omega) (hK s X (fun a b ha hb => ?_))))
    rw [g a b ha hb]
    constructor
    · exact fun z => ⟨by omega, z.2⟩
    · intro z
      have := z.2.1
      unfold inB at this
      exact ⟨by omega, z.2⟩
  | succ m ih =>
    intro c f s h1 h2 X g
    obtain ⟨f, rfl⟩ : ∃ j, f = j + 1 := ⟨f - 1, by omega⟩
    have hc : c < S.1.2.length := by omega
    obtain ⟨lk, shc, kn, ok, mz, z0, -⟩ := fq.ex X
    have shc0 := shc
    obtain ⟨⟨s1, s2, s3, s4⟩, s5, s6, s7⟩ := shc
    obtain ⟨w1, w2, w3⟩ := s7 r hr
    have ct := w3 c hc
    have ek : w32 (10 * (r : Int) + (c : Int)) = ((10 * r + c : Nat) : Int) := by rw [w32_i (by omega) (by omega)]; omega
    have X1 : Ex (Lq L) s (wI s L 9 ((10 * r + c : Nat) : Int)) := Ex.rf.I (by unfold Lq; omega)
    unfold x4_find_l37
    simp only [s3.2.1, ek, tn, mT_wI, mN_wI, mR_wI, s6, w2]
    rw [w32_i (by omega) (by omega)]
    refine Ev.g s1 (Ev.g s3.1 (Ev.f (by omega) (Ev.g lk.1 (Ev.l (Ev.g s5 (Ev.g (show 0 ≤ (r : Int) ∧ (r : Int) < ((mN s (mR s sh 2) : Nat) : Int) by omega) (Ev.g w1 (Ev.g (show 0 ≤ (c : Int) ∧ (c : Int) < ((mN s (mR s (mR s sh 2) r) : Nat) : Int) by omega) (Ev.g ct.node ?_)))))))))
    have ib : inB S.1.1.length S.1.2.length (10 * r + c) := by unfold inB; omega
    have NX : ∀ s2, Ex (Lq L) s s2 → BTs s2 L S cx (10 * r + (c + 1)) → Ev (x4_find_l37_j91 N L sh r c (x4_find_l37 N L sh r K f) K s2) Φ := by
      intro s2 X2 g2
      unfold x4_find_l37_j91
      rw [inc32 (by omega)]
      exact ih (c + 1) f s2 (by omega) (by omega) (X.tr X2) g2
    by_cases t : mT s (mR s (mR s (mR s sh 2) r) c) = 21
    · have ne := (ct.form z0).mp t
      obtain ⟨-, -, c3, c4, -⟩ := ct.fm ne
      refine Ev.g t (Ev.g (show 0 ≤ (r : Int) ∧ (r : Int) < ((mN s (mR s sh 2) : Nat) : Int) by omega) (Ev.g (show 0 ≤ (c : Int) ∧ (c : Int) < ((mN s (mR s (mR s sh 2) r) : Nat) : Int) by omega) (Ev.g (Or.inr t) (Ev.g t ?_))))
      have fq1 := (fq.ex X).ex X1
      have lq : LQ (wI s L 9 ((10 * r + c : Nat) : Int)) L sh (10 * r + c) S.1.1 S.1.2 := by
        refine ⟨fq1.1, ?_, by omega, fq1.2.1.1, fq1.2.2.1, fq1.2.2.2.1, fq1.2.2.2.2.1⟩
        rw [mI_wI, if_pos ⟨rfl, rfl⟩, w32_i (by omega) (by omega)]
      have ip := c4.kp ((fq.ex X).kz X1) ok mz (fq.ex X).wn
      refine Ev.c (c_leadsP (by omega) (by rw [hcx]) 60 64 (by omega) _ _ _ ip lq) (fun x18 _ z => NX x18 (X1.tr (z.1.mono (fun a k p => by unfold L1 at p; unfold Lq; omega))) (fun a b ha hb => ?_))
      have e0 : BT (wI s L 9 ((10 * r + c : Nat) : Int)) (L + 1) a b = BT s (L + 1) a b := rfl
      rw [z.2 a b hb, e0, g a b ha hb]
      constructor
      · rintro (y | ⟨y1, y2⟩)
        · exact ⟨by omega, y.2⟩
        · rw [y1]; exact ⟨by omega, ib, ne, y2⟩
      · intro y
        by_cases e : a = 10 * r + c
        · right
          have y2 := y.2
          rw [e] at y2
          exact ⟨e, y2.2.2⟩
        · exact Or.inl ⟨by omega, y.2⟩
    · have ne : ¬ (S.2 (10 * r + c)).2 ≠ [] := fun z => t ((ct.form z0).mpr z)
      refine Ev.f t (NX _ X1 (fun a b ha hb => ?_))
      have e0 : BT (wI s L 9 ((10 * r + c : Nat) : Int)) (L + 1) a b = BT s (L + 1) a b := rfl
      rw [e0, g a b ha hb]
      constructor
      · exact fun y => ⟨by omega, y.2⟩
      · intro y
        refine ⟨?_, y.2⟩
        by_cases e : a = 10 * r + c
        · rw [e] at y; exact absurd y.2.2.1 ne
        · omega
theorem c_find_c {σ0 : gMem} {K : gMem → Option gMem} {Φ : gMem → Prop} (hN : 70 ≤ N) (fq : FQd σ0 L sh S) (hcx : cx.1 (-1) = S.1) (hK : ∀ s, Ex (Lq L) σ0 s → BTs s L S cx 320 → Ev (K s) Φ) : ∀ (m r f : Nat) (s : gMem), r + m = S.1.1.length → m < f → Ex (Lq L) σ0 s → BTs s L S cx (10 * r) → Ev (x4_find_l26 N L sh K f r s) Φ := by
  have lR := fq.2.1.1.2.1.2.2.1
  have lC := fq.2.1.1.2.2.2
  intro m
  induction m with
  | zero =>
    intro r f s h1 h2 X g
    obtain ⟨f, rfl⟩ : ∃ j, f = j + 1 := ⟨f - 1, by omega⟩
    obtain ⟨lk, shc, -⟩ := fq.ex X
    obtain ⟨⟨s1, s2, s3, s4⟩, s5, s6, s7⟩ := shc
    unfold x4_find_l26
    rw [s2.2.1, w32_i (by omega) (by omega)]
    refine Ev.g s1 (Ev.g s2.1 (Ev.g (by omega) (hK s X (fun a b ha hb => ?_))))
    rw [g a b ha hb]
    constructor
    · exact fun z => ⟨by omega, z.2⟩
    · intro z
      have := z.2.1
      unfold inB at this
      exact ⟨by omega, z.2⟩
  | succ m ih =>
    intro r f s h1 h2 X g
    obtain ⟨f, rfl⟩ : ∃ j, f = j + 1 := ⟨f - 1, by omega⟩
    obtain ⟨lk, shc, -⟩ := fq.ex X
    obtain ⟨⟨s1, s2, s3, s4⟩, s5, s6, s7⟩ := shc
    unfold x4_find_l26
    rw [s2.2.1, w32_i (by omega) (by omega)]
    refine Ev.g s1 (Ev.g s2.1 (Ev.f (by omega) (c_find_b hN fq hcx (r := r) (by omega) (fun s2 X2 g2 => ?_) S.1.2.length 0 N s (by omega) (by omega) X g)))
    rw [inc32 (by omega)]
    exact ih (r + 1) f s2 (by omega) (by omega) X2 g2
theorem c_find_d {σ0 : gMem} {K : gMem → Option gMem} {Φ : gMem → Prop} (lk : LK σ0 L) (hK : ∀ s, Ex (fun a _ => a = L + 3 ∨ a = L + 8 ∨ a = L + 9) σ0 s → (∀ k, k < 320 → mI s (L + 3) k = -1 ∧ mI s (L + 8) k = 0 ∧ mI s (L + 9) k = 0) → Ev (K s) Φ) : ∀ (m i f : Nat) (s : gMem), i + m = 320 → m < f → Ex (fun a _ => a = L + 3 ∨ a = L + 8 ∨ a = L + 9) σ0 s → (∀ k, k < i → mI s (L + 3) k = -1 ∧ mI s (L + 8) k = 0 ∧ mI s (L + 9) k = 0) → Ev (x4_find_l120 N L sh K f i s) Φ := by
  intro m
  induction m with
  | zero =>
    intro i f s h1 h2 X g
    obtain ⟨f, rfl⟩ : ∃ j, f = j + 1 := ⟨f - 1, by omega⟩
    unfold x4_find_l120
    exact Ev.g (by omega) (hK s X (fun k hk => g k (by omega)))
  | succ m ih =>
    intro i f s h1 h2 X g
    obtain ⟨f, rfl⟩ : ∃ j, f = j + 1 := ⟨f - 1, by omega⟩
    obtain ⟨⟨t0, r0, r1, r2, r3, r4, r5, r6, r7, r8⟩, ⟨t1, t2, t3, t4, t5, t6, t7, t8, t9⟩, n1, n2, n3, n4, n5, n6, n7, n8, n9⟩ := (lk.ex X).f
    unfold x4_find_l120
    simp (disch := omega) only [gLet, mT_wI, mN_wI, mR_wI, r2, r7, r8, t0, t3, t8, t9, n3, n8, n9, tn, if_pos, if_neg, if_true, inc32]
    refine ih (i + 1) f _ (by omega) (by omega) (((X.I (by omega)).I (by omega)).I (by omega)) (fun k hk => ?_)
    by_cases c : k = i
    · subst c
      refine ⟨?_, ?_, ?_⟩ <;> simp (disch := omega) only [mIwI1, mIwI2, w32_i]
    · have := g k (by omega)
      refine ⟨?_, ?_, ?_⟩ <;> simp (disch := omega) only [mIwI1] <;> omega
theorem c_walk {E : Nat → Nat → Prop} {Q : Nat → Prop} {od : List Nat} {b : Nat} (hN : 200000 ≤ N) (hE : ∀ a b, E a b → a < 320 ∧ b < 320) (hQ : ∀ a b, E a b → Q b) (ts : TGs s L E [] [] od) (hb : b < 320) (h0 : mI s (L + 3) b = -1) (qb : Q b) (vq : ∀ v, v < 320 → mI s (L + 3) v ≠ -1 → Q v) : Ev (x4_walk N L b s) (fun r => Ex (Lq L) s r ∧ (∀ v, v < 320 → mI r (L + 3) v ≠ -1 → Q v) ∧ (∀ v, mI s (L + 3) v ≠ -1 → mI r (L + 3) v ≠ -1) ∧ mI r (L + 3) b ≠ -1 ∧ ∃ od', TGs r L E [] [] od') := by
  obtain ⟨tm, ap, ti, nx⟩ := ts
  obtain ⟨lk, ao, ho, io, ad, hdd, bt⟩ := tm
  obtain ⟨⟨t0, r0, r1, r2, r3, r4, r5, r6, r7, r8⟩, ⟨t1, t2, t3, t4, t5, t6, t7, t8, t9⟩, n1, n2, n3, n4, n5, n6, n7, n8, n9⟩ := lk.f
  unfold x4_walk
  rw [r5, n6]
  refine Ev.g t0 (Ev.g t6 (Ev.g (by decide) (Ev.l ?_)))
  have X1 : Ex (fun q k => q = L + 6) s (wI s (L + 6) (0 : Int).toNat b) := Ex.rf.I rfl
  generalize hs1 : wI s (L + 6) (0 : Int).toNat b = s1 at *
  have g3 : mI s1 (L + 3) = mI s (L + 3) := by funext v; exact X1.rI (by omega)
  have g4 : mI s1 (L + 4) = mI s (L + 4) := by funext v; exact X1.rI (by omega)
  have g5 : mI s1 (L + 5) = mI s (L + 5) := by funext v; exact X1.rI (by omega)
  have g11 : mI s1 L 11 = mI s L 11 := X1.rI (by omega)
  have gc : ciM s1 L = ciM s L := by funext v; unfold ciM; rw [X1.rI (by omega)]
  have T := TI.meet (b := b) (nx' := fu (mI s (L + 5)) b 0) ti hb h0 (fun p hp => (by cases hp)) (fun v hv => (by cases hv)) fu_at
  have tm1 : TGm s1 L E [] od := by
    refine ⟨lk.ex X1, ao.cg (fun i _ => X1.rI (by omega)), by rw [X1.rI (by omega)]; exact ho, fun v hv => by rw [X1.rI (by omega)]; exact io v hv, ad.cg (fun i _ => X1.rI (by omega)), by rw [X1.rI (by omega)]; exact hdd, fun p q hp hq => by rw [BT.ex X1 (fun k => by omega)]; exact bt p q hp hq⟩
  refine Ev.c (c_meet (pa := []) tm1 ⟨?_, trivial⟩ (by rw [g3, g4, g5, g11, gc]; exact T) (fun v hv => (by cases hv))) (fun x5 _ u => ?_)
  · rw [← hs1, mI_wI, if_pos ⟨rfl, rfl⟩, w32_i (by omega) (by omega)]
  obtain ⟨X4, T5, k1, k2, k3⟩ := u
  have Xs : Ex (Lq L) s x5 := (X1.mono (fun a k p => by unfold Lq; omega)).tr X4
  refine (c_walk_l (σ0 := x5) (Q := Q) (by omega) hE hQ 103040 x5 [b] [b] od N 0 (by rw [List.length_singleton]; decide) ?_ (by omega) Ex.rf ⟨fun v hv hn => ?_, fun v hn => hn⟩ T5).m (fun r z => ⟨Xs.tr z.1, z.2.1.1, fun v hn => z.2.1.2 v ?_, z.2.1.2 b k2, z.2.2⟩)
  · refine sumF_b 320 (fun i _ => wgt_b i (fun hi => ?_))
    rw [List.mem_singleton.mp hi, k3]; decide
  · by_cases c : v = b
    · rw [c]; exact qb
    · rw [(k1 v c).1, g3] at hn; exact vq v hv hn
  · by_cases c : v = b
    · rw [c]; exact k2
    · rw [(k1 v c).1, g3]; exact hn
/-- so far all cells below i are met -/
def WKs (σ0 s : gMem) (L : Nat) (E : Nat → Nat → Prop) (nr nc i : Nat) : Prop := Ex (Lq L) σ0 s ∧ (∃ od, TGs s L E [] [] od) ∧ (∀ v, v < 320 → mI s (L + 3) v ≠ -1 → inB nr nc v) ∧ ∀ v, v < i → inB nr nc v → mI s (L + 3) v ≠ -1
theorem c_find_e {σ0 : gMem} {E : Nat → Nat → Prop} {K : gMem → Option gMem} {Φ : gMem → Prop} {r : Nat} (hN : 200000 ≤ N) (fq : FQd σ0 L sh S) (hE : ∀ a b, E a b → a < 320 ∧ b < 320) (hQ : ∀ a b, E a b → inB S.1.1.length S.1.2.length b) (hr : r < S.1.1.length) (hK : ∀ s, WKs σ0 s L E S.1.1.length S.1.2.length (10 * (r + 1)) → Ev (K s) Φ) : ∀ (m c f : Nat) (s : gMem), c + m = S.1.2.length → m < f → WKs σ0 s L E S.1.1.length S.1.2.length (10 * r + c) → Ev (x4_find_l167 N L sh r K f c s) Φ := by
  have lR := fq.2.1.1.2.1.2.2.1
  have lC := fq.2.1.1.2.2.2
  intro m
  induction m with
  | zero =>
    intro c f s h1 h2 w
    obtain ⟨f, rfl⟩ : ∃ j, f = j + 1 := ⟨f - 1, by omega⟩
    obtain ⟨X, w1, w2, w3⟩ := w
    obtain ⟨lk, shc, -⟩ := fq.ex X
    obtain ⟨⟨s1, s2, s3, s4⟩, s5, s6, s7⟩ := shc
    unfold x4_find_l167
    rw [s3.2.1, w32_i (by omega) (by omega)]
    refine Ev.g s1 (Ev.g s3.1 (Ev.g (by omega) (hK s ⟨X, w1, w2, fun v h3 h4 => w3 v ?_ h4⟩)))
    unfold inB at h4; omega
  | succ m ih =>
    intro c f s h1 h2 w
    obtain ⟨f, rfl⟩ : ∃ j, f = j + 1 := ⟨f - 1, by omega⟩
    have w0 := w
    obtain ⟨X, ⟨od, w1⟩, w2, w3⟩ := w
    obtain ⟨lk, shc, -⟩ := fq.ex X
    obtain ⟨⟨s1, s2, s3, s4⟩, s5, s6, s7⟩ := shc
    obtain ⟨⟨t0, r0, r1, r2, r3, r4, r5, r6, r7, r8⟩, ⟨t1, t2, t3, t4, t5, t6, t7, t8, t9⟩, n1, n2, n3, n4, n5, n6, n7, n8, n9⟩ := lk.f
    have ek : w32 (10 * (r : Int) + (c : Int)) = ((10 * r + c : Nat) : Int) := by rw [w32_i (by omega) (by omega)]; omega
    have en : (10 * (r : Int) + (c : Int)).toNat = 10 * r + c := by omega
    have ib : inB S.1.1.length S.1.2.length (10 * r + c) := by unfold inB; omega
    unfold x4_find_l167 x4_find_l167_j201
    rw [s3.2.1, w32_i (by omega) (by omega), r2, n3, ek, en, inc32 (by omega)]
    refine Ev.g s1 (Ev.g s3.1 (Ev.f (by omega) (Ev.g t0 (Ev.g t3 (Ev.g (by omega) ?_)))))
    by_cases q : mI s (L + 3) (10 * r + c) = -1
    · refine Ev.f (fun z => z q) (Ev.c (c_walk hN hE hQ w1 (by omega) q ib w2) (fun x47 _ z => ih (c + 1) f x47 (by omega) (by omega) ⟨X.tr z.1, z.2.2.2.2, z.2.1, fun v h3 h4 => ?_⟩))
      by_cases e : v = 10 * r + c
      · rw [e]; exact z.2.2.2.1
      · exact z.2.2.1 v (w3 v (by omega) h4)
    · refine Ev.g q (ih (c + 1) f s (by omega) (by omega) ⟨X, ⟨od, w1⟩, w2, fun v h3 h4 => ?_⟩)
      by_cases e : v = 10 * r + c
      · rw [e]; exact q
      · exact w3 v (by omega) h4
theorem c_find_f {σ0 : gMem} {E : Nat → Nat → Prop} {K : gMem → Option gMem} {Φ : gMem → Prop} (hN : 200000 ≤ N) (fq : FQd σ0 L sh S) (hE : ∀ a b, E a b → a < 320 ∧ b < 320) (hQ : ∀ a b, E a b → inB S.1.1.length S.1.2.length b) (hK : ∀ s, WKs σ0 s L E S.1.1.length S.1.2.length 320 → Ev (K s) Φ) : ∀ (m r f : Nat) (s : gMem), r + m = S.1.1.length → m < f → WKs σ0 s L E S.1.1.length S.1.2.length (10 * r) → Ev (x4_find_l156 N L sh K f r s) Φ := by
  have lR := fq.2.1.1.2.1.2.2.1
  have lC := fq.2.1.1.2.2.2
  intro m
  induction m with
  | zero =>
    intro r f s h1 h2 w
    obtain ⟨f, rfl⟩ : ∃ j, f = j + 1 := ⟨f - 1, by omega⟩
    obtain ⟨X, w1, w2, w3⟩ := w
    obtain ⟨lk, shc, -⟩ := fq.ex X
    obtain ⟨⟨s1, s2, s3, s4⟩, s5, s6, s7⟩ := shc
    unfold x4_find_l156
    rw [s2.2.1, w32_i (by omega) (by omega)]
    refine Ev.g s1 (Ev.g s2.1 (Ev.g (by omega) (hK s ⟨X, w1, w2, fun v h3 h4 => w3 v ?_ h4⟩)))
    unfold inB at h4; omega
  | succ m ih =>
    intro r f s h1 h2 w
    obtain ⟨f, rfl⟩ : ∃ j, f = j + 1 := ⟨f - 1, by omega⟩
    have X := w.1
    obtain ⟨lk, shc, -⟩ := fq.ex X
    obtain ⟨⟨s1, s2, s3, s4⟩, s5, s6, s7⟩ := shc
    unfold x4_find_l156
    rw [s2.2.1, w32_i (by omega) (by omega)]
    refine Ev.g s1 (Ev.g s2.1 (Ev.f (by omega) (c_find_e hN fq hE hQ (r := r) (by omega) (fun s2 w2 => ?_) S.1.2.length 0 N s (by omega) (by omega) w)))
    rw [inc32 (by omega)]
    exact ih (r + 1) f s2 (by omega) (by omega) w2
/-- the component finds an order, and what leads to itself -/
theorem c_find (hN : 200000 ≤ N) (fq : FQd σ L sh S) (hcx : cx.1 (-1) = S.1) : Ev (x4_find N L sh σ) (fun r => Ex (Lq L) σ r ∧ ∃ od, TGs r L (LDr cx S.1.1.length S.1.2.length S.2) [] [] od ∧ ∀ v, v ∈ od ↔ inB S.1.1.length S.1.2.length v) := by
  have lR := fq.2.1.1.2.1.2.2.1
  have lC := fq.2.1.1.2.2.2
  have z0 := fq.2.2.2.2.2.1
  have hQ : ∀ a b, LDr cx S.1.1.length S.1.2.length S.2 a b → inB S.1.1.length S.1.2.length b := fun a b z => by
    have i := z.1
    unfold inB at i
    have ct := (fq.2.1.2.2.2 (a / 10) i.1).2.2 (a % 10) i.2
    dsimp only at ct
    rw [show 10 * (a / 10) + a % 10 = a by omega] at ct
    exact leads_inB (cx := cx) (by rw [hcx]) (by rw [hcx]) lC 60 _ (IsP.wf _ _ _ (ct.fm z.2.1).2.2.2.1) b z.2.2
  have hE : ∀ a b, LDr cx S.1.1.length S.1.2.length S.2 a b → a < 320 ∧ b < 320 := fun a b z => by
    have h1 := z.1
    have h2 := hQ a b z
    unfold inB at h1 h2
    omega
  unfold x4_find
  refine c_find_a (σ0 := σ) fq.1 (fun s1 X1 g1 => ?_) 1600 0 N σ (by omega) (by omega) Ex.rf (fun k hk => by omega)
  refine c_find_c (σ0 := σ) (by omega) fq hcx (fun s2 X2 g2 => ?_) S.1.1.length 0 N s1 (by omega) (by omega) X1 (fun a b ha hb => ?_)
  · have lk2 := fq.1.ex X2
    have Y : Ex (Lq L) s2 (wI (wI (wI s2 L 10 0) L 11 0) L 12 0) := ((Ex.rf.I (by unfold Lq; omega)).I (by unfold Lq; omega)).I (by unfold Lq; omega)
    refine Ev.g lk2.1 (Ev.l (Ev.l (Ev.l (c_find_d (lk2.ex Y) (fun s3 X3 g3 => ?_) 320 0 N _ (by omega) (by omega) Ex.rf (fun k hk => by omega)))))
    have X23 : Ex (Lq L) s2 s3 := Y.tr (X3.mono (fun a k p => by unfold Lq; omega))
    refine c_find_f (σ0 := σ) (E := LDr cx S.1.1.length S.1.2.length S.2) hN fq hE hQ (fun s4 w4 => ?_) S.1.1.length 0 N s3 (by omega) (by omega) ⟨X2.tr X23, ⟨[], ⟨⟨lk2.ex X23, trivial, ?_, fun v hv => ?_, fun i hi => (by cases hi), ?_, fun a b ha hb => ?_⟩, trivial, ?_, fun v hv => (by cases hv)⟩⟩, fun v hv hn => absurd (g3 v hv).1 hn, fun v hv => by omega⟩
    · obtain ⟨X4, ⟨od, ts⟩, w2, w3⟩ := w4
      refine Ev.r ⟨X4, od, ts, fun v => ?_⟩
      have a10 := ts.2.2.1.2.2.2.2.2.2.2.2.2.1
      have a11 := ts.2.2.1.2.2.2.2.2.2.2.2.2.2.1
      constructor
      · intro hv
        have v3 := (a11 v hv).1
        exact w2 v v3 ((a10 v v3).mpr (Or.inr hv))
      · intro hv
        have v3 : v < 320 := by unfold inB at hv; omega
        rcases (a10 v v3).mp (w3 v v3 hv) with q | q
        · cases q
        · exact q
    · rw [X3.rI (by omega)]
      simp (disch := omega) only [mIwI1, mIwI2, w32_i]; rfl
    · rw [(g3 v hv).2.1, if_neg (fun z => (by cases z))]
    · rw [X3.rI (by omega)]
      simp (disch := omega) only [mIwI1, mIwI2, w32_i]; rfl
    · rw [BT.ex X3 (fun k => by omega)]
      have : BT (wI (wI (wI s2 L 10 0) L 11 0) L 12 0) (L + 1) a b = BT s2 (L + 1) a b := rfl
      rw [this, g2 a b ha hb]
      exact ⟨fun z => z.2, fun z => ⟨ha, z⟩⟩
    · have e11 : mI s3 L 11 = 0 := by
        rw [X3.rI (by omega)]
        simp (disch := omega) only [mIwI1, mIwI2, w32_i]
      unfold TGj TI
      rw [e11]
      refine ⟨fun v hv => (by cases hv), List.Pairwise.nil, List.Pairwise.nil, fun p hp => (by cases hp), fun p hp => (by cases hp), fun v hv => (by cases hv), fun v hv => (by cases hv), fun v hv => (by cases hv), fun v hv => (by cases hv), fun v hv => ⟨fun z => absurd (g3 v hv).1 z, fun z => z.elim (fun z => (by cases z)) (fun z => (by cases z))⟩, fun v hv => (by cases hv), fun v hv => (by cases hv), fun l1 v l2 e => ?_, fun v hv => (by cases hv), List.nodup_nil, by omega, rfl⟩
      exact absurd e (by simp)
  · have z1 : BT s1 (L + 1) a b = false := by
      unfold BT
      rw [g1 _ (by omega)]
      exact tb_0 _
    rw [z1]
    exact ⟨fun z => (by cases z), fun z => absurd z.1 (by omega)⟩
end CoGraph5
