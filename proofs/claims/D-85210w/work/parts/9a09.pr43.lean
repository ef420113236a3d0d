/-! ===== PHASE 2: reading: a formula, as a whole ===== -/
section Read43
variable {N x h hi all nv sh M lu0 b b' p q op pa pi n la fi : Nat} {bA bB : Nat → Int} {f : Int → List Int × List Int} {σ σ' σ'' τ τ' τ'' s r σ0 τ0 σ1 τ2 : gMem} {p0 pa0 nd k kk lu : Nat}
def cutB (la : Nat) (bA : Nat → Int) (k : Nat) : Int := if k < la then bA k else -1
theorem TxB.cut (t : TxB bA hi all) (h : la ≤ hi) : TxB (cutB la bA) la all := by
  obtain ⟨t1, t2, t3, t4⟩ := t
  refine ⟨fun k hk => ?_, fun k hk => ?_, by omega, t4⟩
  · unfold cutB; rw [if_pos hk]; exact t1 k (by omega)
  · unfold cutB; rw [if_neg (by omega)]
/-- where the formula is read -/
theorem CR.cut (c : CR x hi all nv sh bA f σ) (e : Ex (fun a k => a = x + 1429 ∧ k ≠ 1 ∧ k ≠ 4) σ s) (g5 : mI s (x + 1429) 5 = la) (hl : la ≤ hi) : CR x la all nv sh (cutB la bA) f s := by
  obtain ⟨⟨a1, a2, a3, a4, a5, a6, a7, a8⟩, ⟨b1, b2, b3, b4, b5, b6, b7, b8⟩, ⟨d1, d2, d3, d4, d5, d6, d7⟩, e1, e2, e3, e4, e5⟩ := c
  have LS : ∀ {q : Nat} {l : List Int}, LsC σ q l → LsC s q l := fun {q l} z => ⟨by rw [e.rT]; exact z.1, by rw [e.rN]; exact z.2.1, z.2.2.1, fun i hi => by
    rw [e.rI (fun y => by have := z.1; rw [y.1, a1] at this; cases this)]; exact z.2.2.2 i hi⟩
  have SL : ∀ {q : Nat} {R C : List Int}, ShL σ q R C → ShL s q R C := fun {q R C} z => ⟨by rw [e.rT]; exact z.1, by rw [e.rR]; exact LS z.2.1, by rw [e.rR]; exact LS z.2.2.1, z.2.2.2⟩
  refine ⟨⟨by rw [e.rT]; exact a1, g5, by rw [e.rI (fun y => y.2.2 rfl)]; exact a3, by rw [e.rR]; exact a4, by rw [e.rT]; exact a5, by rw [e.rN]; exact a6, fun k hk => ?_, a8.cut hl⟩,
    ⟨by rw [e.rR]; exact b1, by rw [e.rT]; exact b2, by rw [e.rN]; exact b3, by rw [e.rI (fun y => y.2.1 rfl)]; exact b4, b5, fun ver hv => by rw [e.rR, e.rT]; exact ⟨(b6 ver hv).1, SL (b6 ver hv).2⟩, by rw [e.rR]; exact b7, SL b8⟩,
    ⟨by rw [e.rR]; exact d1, by rw [e.rT]; exact d2, by rw [e.rN]; exact d3, by rw [e.rR]; exact d4, by rw [e.rT]; exact d5, by rw [e.rN]; exact d6, by rw [e.rR]; exact d7⟩,
    e1.ex e (fun a k y => Or.inl (by rw [y.1, a1]; decide)), fun a ha => by rw [e.rT]; rw [e.rZ] at ha; exact e2 a ha, by rw [e.rZ]; exact e3, by rw [e.rT]; exact e4, fun q hq => by rw [e.rR]; rw [e.rT] at hq; exact e5 q hq⟩
  unfold cutB
  rw [if_pos hk, e.rI (fun y => by omega)]
  exact a7 k (by omega)
/-- what comes out of reading what is entered: a content, or one fault -/
def RdO (x h M : Nat) (k : Nat) (cp : Nat) (σ τ : gMem) (Good : gMem → gMem → Prop) (a : gR) (r2 : gMem) : Prop :=
  (Kz (RdW x) σ a.2 ∧ (∀ j, j ≠ 16 → mR a.2 (x + 1429) j = mR σ (x + 1429) j) ∧ mZ a.2 ≤ mZ σ + 3 * k ∧ mS a.2 ≤ mS σ + 40 * k ∧ (∀ q, mZ σ ≤ q → mT a.2 q = 18 → mR a.2 q 1 ≠ x + 1430)) ∧
  TF cp h τ r2 M ∧
  ((a.1 = .inl none ∧ mI r2 h 41 = 0 ∧ Good a.2 r2) ∨ (a.1 = .inr "SheetBranches$Wrong" ∧ mI r2 h 41 = mI a.2 (x + 1429) 12 ∧ mI r2 h 42 = mI a.2 (x + 1429) 13 ∧ 0 < mI r2 h 41))
/-- a formula was read -/
def RdF (x h nv M : Nat) (σ τ : gMem) : Prop := ∃ l : Fm, mI τ h 56 = l.length ∧ CtC σ (mR σ (x + 1429) 16) (vE, l) ∧ l ≠ [] ∧ l.length ≤ 60 ∧ RwT τ h M nv l ∧ pK (lab l) ≠ 6
theorem CF.kz (e : CF x σ s k) : Kz (RdW x) σ s ∧ (∀ j, j ≠ 16 → mR s (x + 1429) j = mR σ (x + 1429) j) ∧ mZ s ≤ mZ σ + 3 * k ∧ mS s ≤ mS σ + 40 * k ∧ (∀ q, mZ σ ≤ q → mT s q = 18 → mR s q 1 ≠ x + 1430) :=
  ⟨e.1, fun j _ => e.2.1 j, e.2.2.2.1, e.2.2.2.2.1, e.2.2.2.2.2.2.1⟩
theorem LX.ex1 (l : LX τ h bA all q) (e : Ex (fun a j => a = h ∧ (j = 41 ∨ j = 42)) τ τ') : LX τ' h bA all q := l.ex e (fun k h1 h2 y => by omega)
theorem j70_keep (g : 0 < mI τ h 41) : tw_readFormula_j70 N h τ = some τ := by
  unfold tw_readFormula_j70
  by_cases e : mI τ h 56 ≤ 60
  · rw [if_pos e]
  · rw [if_neg e]; unfold tw_fail; rw [if_pos (by omega)]; rfl
theorem j51_keep (g : 0 < mI τ h 41) : tw_readFormula_j51 N h τ = some τ := by
  unfold tw_readFormula_j51
  by_cases e : mI τ h 58 ≤ 0
  · rw [if_pos e]; exact j70_keep g
  · rw [if_neg e]; unfold tw_fail; rw [if_pos (by omega)]
    exact j70_keep (N := N) g
/-- the new cell of a formula -/
theorem node21 {nd v : Nat} (c : CF x σ0 s k) (hv : v ≤ 1000) : ∃ fin, x23_init (mZ s) nd (v : Int) (wN s 21 2) = some fin ∧ CF x σ0 fin (k + 1) ∧ (∀ b, b ≠ mZ s → mT fin b = mT s b ∧ mN fin b = mN s b ∧ ∀ j, mI fin b j = mI s b j ∧ mL fin b j = mL s b j ∧ mR fin b j = mR s b j) ∧ mT fin (mZ s) = 21 ∧ mR fin (mZ s) 0 = nd ∧ mI fin (mZ s) 1 = v ∧ mZ fin = mZ s + 1 := by
  have zz : mZ σ0 ≤ mZ s := c.1.1
  have tt : mT (wN s 21 2) (mZ s) = 21 := by rw [mT_wN, if_pos rfl]
  refine ⟨wI (wR (wN s 21 2) (mZ s) 0 nd) (mZ s) 1 (v : Int), ?_, ?_, fun b hb => ⟨?_, ?_, fun j => ⟨?_, ?_, ?_⟩⟩, ?_, ?_, ?_, rfl⟩
  · unfold x23_init; rw [if_pos tt]; rfl
  · exact ((c.wN' (t := 21) (n := 2) (Or.inr trivial) (fun z => by cases z) (by decide)).wR' zz (fun z => by rw [tt] at z; cases z)).wI' zz
  · rw [mT_wI, mT_wR, mT_wN, if_neg hb]
  · rw [mN_wI, mN_wR, mN_wN, if_neg hb]
  · rw [mIwI1 (fun z => hb z.1), mI_wR, mI_wN, if_neg hb]
  · rw [mL_wI, mL_wR, mL_wN, if_neg hb]
  · rw [mR_wI, mR_wR, if_neg (fun z => hb z.1), mR_wN, if_neg hb]
  · rw [mT_wI, mT_wR]; exact tt
  · rw [mR_wI, mR_wR, if_pos ⟨rfl, rfl⟩]
  · rw [mIwI2 ⟨rfl, rfl⟩, w32_i (by omega) (by omega)]
/-- the class's text field of what was read is written -/
theorem CF.r16 {v : Nat} (e : CF x σ s k) : Kz (RdW x) σ (wR s (x + 1429) 16 v) ∧ (∀ j, j ≠ 16 → mR (wR s (x + 1429) 16 v) (x + 1429) j = mR σ (x + 1429) j) ∧ mZ (wR s (x + 1429) 16 v) ≤ mZ σ + 3 * k ∧ mS (wR s (x + 1429) 16 v) ≤ mS σ + 40 * k ∧ (∀ q, mZ σ ≤ q → mT (wR s (x + 1429) 16 v) q = 18 → mR (wR s (x + 1429) 16 v) q 1 ≠ x + 1430) := by
  obtain ⟨⟨z1, z2, z3, z4⟩, k2, i145, kz, ks, lt, np, pl, pm⟩ := e
  refine ⟨⟨z1, z2, z3, fun a ha hw j => ⟨(z4 a ha hw j).1, (z4 a ha hw j).2.1, by rw [mR_wR, if_neg (fun z => hw (Or.inl z.1))]; exact (z4 a ha hw j).2.2⟩⟩, fun j hj => by rw [mR_wR, if_neg (fun z => hj z.2)]; exact k2 j, kz, ks, fun q hq ht => ?_⟩
  rw [mR_wR, if_neg (fun z => by omega)]
  exact np q hq ht
theorem rd_formula (hN : 500 ≤ N) (fn : FN nv f) (c : CR x n n nv sh bA f σ) (t : TR h la n nv M (cutB la bA) f τ) (hl : la ≤ n) (hf : fi < la) (t43 : mI τ h 43 = fi) (t56 : mI τ h 56 = 0) (t41 : mI τ h 41 = 0) (t19 : 0 ≤ mI τ h 19) (lu : mI τ h 19 ≤ lu0) (l8 : lu0 ≤ 80000) :
    E2 (x6_formula N (x + 1429) ((fi + 1 : Nat) : Int) la σ) (tw_readFormula N h τ) (fun a r2 => RdO x h M (n + 3) ((mI τ h 19).toNat + la) σ τ (RdF x h nv M) a r2) := by
  have tx := t.1.2.2.2
  have h4 : n ≤ 400 := tx.2.2.2
  unfold x6_formula tw_readFormula
  refine E2.lg c.1.1 (E2.ll (E2.ll (E2.ll (E2.ll (E2.ll (E2.ll (E2.ll ?_)))))))
  refine E2.rl (E2.rl ?_)
  rw [show mI (wI (wI τ h 58 0) h 57 0) h 43 = fi by simp (disch := omega) only [mIwI1]; exact t43, inc32 (by omega)]
  refine E2.rl ?_
  obtain ⟨s14, hs⟩ : ∃ s14, s14 = wI (wI (wI (wI (wI (wI (wI σ (x + 1429) 6 ((fi + 1 : Nat) : Int)) (x + 1429) 5 (la : Int)) (x + 1429) 7 0) (x + 1429) 8 0) (x + 1429) 11 0) (x + 1429) 14 0) (x + 1429) 15 (-1) := ⟨_, rfl⟩
  have X14 : Ex (fun a k => a = x + 1429 ∧ k ≠ 1 ∧ k ≠ 4) σ s14 := by
    rw [hs]
    exact ((((((Ex.rf.I (by omega)).I (by omega)).I (by omega)).I (by omega)).I (by omega)).I (by omega)).I (by omega)
  have i6 : mI s14 (x + 1429) 6 = ((fi + 1 : Nat) : Int) := by rw [hs]; simp (disch := omega) only [mIwI1, mIwI2, w32_i]
  have i5 : mI s14 (x + 1429) 5 = la := by rw [hs]; simp (disch := omega) only [mIwI1, mIwI2, w32_i]
  have i7 : mI s14 (x + 1429) 7 = 0 := by rw [hs]; simp (disch := omega) only [mIwI1, mIwI2, w32_i]
  have i8 : mI s14 (x + 1429) 8 = 0 := by rw [hs]; simp (disch := omega) only [mIwI1, mIwI2, w32_i]
  have i11 : mI s14 (x + 1429) 11 = 0 := by rw [hs]; simp (disch := omega) only [mIwI1, mIwI2, w32_i]
  have i14 : mI s14 (x + 1429) 14 = 0 := by rw [hs]; simp (disch := omega) only [mIwI1, mIwI2, w32_i]
  have i15 : mI s14 (x + 1429) 15 = -1 := by rw [hs]; simp (disch := omega) only [mIwI1, mIwI2, w32_i]
  rw [← hs]
  have c14 : CR x la n nv sh (cutB la bA) f s14 := c.cut X14 i5 hl
  obtain ⟨t8, ht⟩ : ∃ t8, t8 = wI (wI (wI τ h 58 0) h 57 0) h 46 ((fi + 1 : Nat) : Int) := ⟨_, rfl⟩
  have X8 : Ex (fun a k => a = h ∧ (k = 58 ∨ k = 57 ∨ k = 46)) τ t8 := by rw [ht]; exact ((Ex.rf.I (by omega)).I (by omega)).I (by omega)
  have j46 : mI t8 h 46 = ((fi + 1 : Nat) : Int) := by rw [ht]; simp (disch := omega) only [mIwI1, mIwI2, w32_i]
  have j57 : mI t8 h 57 = 0 := by rw [ht]; simp (disch := omega) only [mIwI1, mIwI2, w32_i]
  have j58 : mI t8 h 58 = 0 := by rw [ht]; simp (disch := omega) only [mIwI1, mIwI2, w32_i]
  rw [← ht]
  have tf8 : TF ((mI τ h 19).toNat + la) h τ t8 M := TF.ex X8 t19 (fun a j y => Or.inl ⟨y.1, by omega⟩)
  have tr8 := t.tf tf8
  have n8 : ∀ k, k ≠ 58 → k ≠ 57 → k ≠ 46 → mI t8 h k = mI τ h k := fun k h1 h2 h3 => X8.rI (fun y => by omega)
  obtain ⟨q, F⟩ := Fst.ex (P := isBl) tx rfl (fi + 1)
  have c0 : mR t8 0 100 ≠ h := fun e => by
    have := tr8.2.1.ref.1
    rw [e, tr8.2.2.1.1] at this; cases this
  refine E2.rc (t_next hN tr8.1 tr8.2.1.ref c0 j46 F (by omega)) (fun τ1 z => ?_)
  obtain ⟨z1, z2⟩ := z
  have g19 : 0 ≤ mI t8 h 19 := by rw [n8 19 (by decide) (by decide) (by decide)]; exact t19
  have tf1 : TF ((mI τ h 19).toNat + la) h t8 τ1 M := TF.ex z1 g19 (fun a j y => Or.inl ⟨y.1, by unfold Tk at y; omega⟩)
  have nT : ∀ j, (j < 46 ∨ 55 < j) → mI τ1 h j = mI t8 h j := fun j hj => z1.rI (fun y => by unfold Tk at y; omega)
  have lu' : mI τ1 h 19 = mI τ h 19 := by rw [nT 19 (by omega), n8 19 (by decide) (by decide) (by decide)]
  have S : S2 x h la n nv sh M (mI τ h 19).toNat (cutB la bA) f s14 τ1 (fi + 1) q 0 0 0 :=
    ⟨c14, tr8.tf tf1, ⟨i6, i7, i8, i11⟩, ⟨F, z2, by rw [nT 57 (by omega)]; exact j57, by rw [nT 56 (by omega), n8 56 (by decide) (by decide) (by decide)]; exact t56, by rw [nT 41 (by omega), n8 41 (by decide) (by decide) (by decide)]; exact t41⟩, ⟨by rw [nT 58 (by omega), i14]; exact j58, fun z => absurd i14 z, by rw [i14]; exact Int.le_refl _⟩, by omega, by omega, by omega, by omega, by rw [lu']; exact t19, by rw [lu']; omega, by omega⟩
  have tf01 := tf8.tr tf1 (Nat.le_refl _)
  -- frames of the class, from the begin on
  have FR : ∀ {s : gMem} {k : Nat}, CF x s14 s k → (∀ j, j ≠ 16 → mR s (x + 1429) j = mR σ (x + 1429) j) ∧ Kz (RdW x) σ s ∧ mZ s ≤ mZ σ + 3 * k ∧ mS s ≤ mS σ + 40 * k ∧ (∀ q, mZ σ ≤ q → mT s q = 18 → mR s q 1 ≠ x + 1430) := fun {s k} e => by
    obtain ⟨y1, y2, y3, y4, y5⟩ := e.kz
    rw [X14.rZ] at y3 y5
    rw [X14.rS] at y4
    exact ⟨fun j hj => by rw [y2 j hj, X14.rR], (X14.kp c.2.2.2.2.1 (fun a k y => Or.inl y.1)).tr y1, y3, y4, y5⟩
  refine E2.cc (rd_whole (n := 24) hN fn (by decide) _ _ _ _ _ _ S) (fun a r2 o => o.on (fun nd p2 q2 pa2 o2 => ?_) (fun e => ?_))
  · obtain ⟨r, er, e1, o3⟩ := o2.pk hN
    obtain ⟨S3, a1, a2, a3, a4, a5, a6, a7, a8⟩ := o3
    have c3 := S3.1
    have k0 : tkK (cutB la bA) q2 = 0 ↔ cutB la bA q2 = -1 := by
      constructor
      · intro z
        by_cases e : cutB la bA q2 = -1
        · exact e
        · exfalso
          unfold tkK at z
          rw [if_neg e] at z
          split at z
          · cases z
          · split at z
            · cases z
            · split at z
              · split at z
                · cases z
                · split at z <;> cases z
              · split at z
                · cases z
                · have := (sgO_k (cutB la bA q2) (cutB la bA (q2 + 1))).1; omega
      · intro z
        unfold tkK; rw [if_pos z]
    have t5 : mI r2 h 41 = 0 := S3.2.2.2.1.2.2.2.2
    have b5 : 0 ≤ mI r2 h 19 := S3.2.2.2.2.2.2.2.2.2.1
    have b6 : mI r2 h 19 ≤ ((mI τ h 19).toNat : Int) + q2 := S3.2.2.2.2.2.2.2.2.2.2.1
    have qla : q2 ≤ la := S3.2.2.2.2.2.1
    have e47 : mI r2 h 47 = tkK (cutB la bA) q2 := S3.2.2.2.1.2.1.1
    have tfA : TF ((mI τ h 19).toNat + la) h τ r2 M := tf01.tr a5 (Nat.le_refl _)
    have l58 := S3.2.2.2.2.1.1
    have l14 := S3.2.2.2.2.1.2.2
    have kap : CF x s14 r.2 (n + 2) := a4.mono (by omega)
    refine E2.le er (E2.rf (fun z => z t5) ?_)
    rw [e1, e47]
    -- a fault, told by both
    have FT : ∀ (kf w : Int) (kt : gMem → Option gMem), mI r.2 (x + 1429) 5 = la → 0 < kf ∧ kf ≤ 2147483647 → -2147483648 ≤ w ∧ w ≤ 2147483647 → (∀ r, 0 < mI r h 41 → kt r = some r) → E2 ((x6_wrong (x + 1429) kf w r.2).bind (fun x9 => if mT (x9.2) (x9.1) = 25 then some ((.inr "SheetBranches$Wrong", x9.2) : gR) else none)) ((tw_fail h kf (if w = la then (n : Int) else w) r2).bind kt) (fun a r2 => RdO x h M (n + 3) ((mI τ h 19).toNat + la) σ τ (RdF x h nv M) a r2) := by
      intro kf w kt _ hk hw hkt
      refine E2.vv (c_throw c3 (k := kf) (w := w) (by omega) hw) (Ev.c (t_fail (lu0 := (mI τ h 19).toNat) (hi := la) (b := M) (k := kf) (w := if w = la then (n : Int) else w) b5 t5 hk (by split <;> omega)) (fun r _ z => by rw [hkt r (by rw [z.1]; exact hk.1)]; exact Ev.r z)) (fun a r3 y z => ?_)
      obtain ⟨f1, f2, f3, f4, f5⟩ := FR (kap.tr y.2.2.2)
      obtain ⟨y1, y2, y3, y4⟩ := y
      obtain ⟨z1, z2, z3, z4⟩ := z
      exact ⟨⟨f2, f1, by omega, by omega, f5⟩, tfA.tr z3 (Nat.le_refl _), Or.inr ⟨y1, by rw [z1, y2], by rw [z2, y3], by rw [z1]; exact hk.1⟩⟩
    by_cases em : cutB la bA q2 = -1
    · refine E2.lg em (E2.rg (k0.mpr em) ?_)
      unfold tw_readFormula_j51
      by_cases e14 : mI r.2 (x + 1429) 14 = 0
      · refine E2.lg e14 (E2.rg (by omega) ?_)
        unfold tw_readFormula_j70
        have i8' : mI r.2 (x + 1429) 8 = pa2 := S3.2.2.1.2.2.1
        have i56' : mI r2 h 56 = pa2 := S3.2.2.2.1.2.2.2.1
        rw [i8', i56']
        by_cases e60 : (pa2 : Int) ≤ 60
        · refine E2.lg e60 (E2.rg e60 (E2.ll ?_))
          have lt3 := c3.lt
          have i8'' : mI (wN r.2 21 2) (x + 1429) 8 = pa2 := by rw [mI_wN, if_neg (by omega)]; exact i8'
          rw [i8'']
          obtain ⟨fin, n1, n2, n3, n4, n5, n6, n7⟩ := node21 (x := x) (nd := nd) (v := pa2) kap (by omega)
          refine E2.le n1 (E2.ll (E2.lv rfl (Ev.r ?_)))
          obtain ⟨y1, y2, y3, y4, y5⟩ := n2.r16 (v := mZ r.2)
          rw [X14.rZ] at y3 y5
          rw [X14.rS] at y4
          obtain ⟨lw, u1, u2, u3⟩ := a6.2.2 e14
          have lw60 : lw.length ≤ 60 := by omega
          have lne : lw ≠ [] := fun z => by rw [z] at u1; have : 0 = pa2 - 0 := u1; omega
          have k6 : pK (lab lw) ≠ 6 := fun e => by
            have := u3.lab
            rw [u1, show M + 0 + (pa2 - 0) - 1 = M + pa2 - 1 by omega, e] at this
            exact a8 this
          have Kf : Kz (fun a => a = x + 1429) r.2 (wR fin (x + 1429) 16 (mZ r.2)) := ⟨by rw [mZ_wR]; omega, (y1 : Kz _ _ _).2.1, fun b hb => ⟨(n3 b (by omega)).1, (n3 b (by omega)).2.1⟩, fun b hb hw j => ⟨((n3 b (by omega)).2.2 j).1, ((n3 b (by omega)).2.2 j).2.1, by rw [mR_wR, if_neg (fun z => hw z.1)]; exact ((n3 b (by omega)).2.2 j).2.2⟩⟩
          have isp : IsP (wR fin (x + 1429) 16 (mZ r.2)) 60 nd lw := by
            refine IsP.kp Kf c3.2.2.2.2.1 c3.2.2.2.2.2.1 ⟨by show ¬ 0 = x + 1429; omega, fun a w => ?_⟩ _ _ _ (IsP.mono _ _ _ _ u2 (by omega))
            have w' : a = x + 1429 := w
            rw [w', c3.1.1]
            exact ⟨by decide, fun z => (by cases z), fun z => by cases z⟩
          refine ⟨⟨(X14.kp c.2.2.2.2.1 (fun a k y => Or.inl y.1)).tr y1, fun j hj => by rw [y2 j hj, X14.rR], by omega, by omega, y5⟩, tfA, Or.inl ⟨rfl, t5, lw, by rw [i56', u1]; omega, ?_, lne, lw60, u3, k6⟩⟩
          have r16 : mR (wR fin (x + 1429) 16 (mZ r.2)) (x + 1429) 16 = mZ r.2 := by rw [mR_wR, if_pos ⟨rfl, rfl⟩]
          have r0 : mR (wR fin (x + 1429) 16 (mZ r.2)) (mZ r.2) 0 = nd := by rw [mR_wR, if_neg (fun z => by omega)]; exact n5
          show CtC (wR fin (x + 1429) 16 (mZ r.2)) (mR (wR fin (x + 1429) 16 (mZ r.2)) (x + 1429) 16) (vE, lw)
          rw [r16]
          refine Or.inr (Or.inr (Or.inr (Or.inr ⟨n4, rfl, lne, lw60, by rw [r0]; exact isp, k6, ?_⟩)))
          show mI fin (mZ r.2) 1 = _
          rw [n6, u1]; rfl
        · refine E2.lf e60 (E2.rf e60 ?_)
          rw [c3.1.2.1, S3.2.1.1.2.1]
          have := FT 5 (la : Int) some c3.1.2.1 (by decide) (by omega) (fun r _ => rfl)
          rw [if_pos rfl] at this
          exact this
      · refine E2.lf e14 (E2.rf (by omega) ?_)
        rw [l58, S3.2.2.2.2.1.2.1 e14]
        have ne : mI r.2 (x + 1429) 15 ≠ la := by
          have := a4.2.2.1.2.2.2
          rw [i15, i5] at this
          omega
        have r14 := mI_rng r.2 (x + 1429) 14
        have r15 := mI_rng r.2 (x + 1429) 15
        unfold g32 at r14 r15
        have := FT (mI r.2 (x + 1429) 14) (mI r.2 (x + 1429) 15) (fun x26 => tw_readFormula_j70 N h x26) c3.1.2.1 (by omega) (by omega) (fun r g => j70_keep g)
        rw [if_neg ne] at this
        exact this
    · refine E2.lf em (E2.rf (fun z => em (k0.mp z)) ?_)
      have e48 : mI r2 h 48 = (q2 : Int) := by
        have := S3.2.2.2.1.2.1.2.1
        rw [if_neg em] at this; exact this
      rw [S3.2.2.1.1, e48]
      have q2la : q2 < la := (tx.lt em)
      have := FT 1 (q2 : Int) (fun x31 => tw_readFormula_j51 N h x31) c3.1.2.1 (by decide) (by omega) (fun r g => j51_keep g)
      rw [if_neg (show ¬ (q2 : Int) = la by omega)] at this
      exact this
  · obtain ⟨e1, e2, e3, e4, e5⟩ := e
    obtain ⟨f1, f2, f3, f4, f5⟩ := FR e4
    refine E2.rg (by omega) (E2.er (j51_keep e3) (E2.r ⟨⟨f2, f1, by have := f3; show mZ a.2 ≤ _; omega, by have := f4; show mS a.2 ≤ _; omega, f5⟩, tf01.tr e5 (Nat.le_refl _), Or.inr ⟨rfl, e1, e2, e3⟩⟩))
end Read43
