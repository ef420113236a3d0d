/-! ===== PHASE 2: the act sort: the rows that are sorted -/
section State43
variable {N x h u b nv nv' pa un fs i t s k n a A j : Nat} {σ σ' σ1 τ τ' τ'' r f : gMem} {P : Nat → Nat → Prop} {W : Nat → Prop} {own rt : Nat → Nat} {S S' : Sh} {Gs : Nat → Sh} {g : Nat → Nat → Vl} {v w p q : Int} {ax : Int} {mk : Nat → Int} {fl : Nat → Option Nat}
theorem Rl.vpt (R : Rl x h t nv pa un fs Gs g own rt σ τ) (e : Ex P τ τ') (hP : ∀ a k, P a k → Vp h a k ∨ TSc h a k) (tb : TB τ' h) (vc : ∀ c, c < 13120 → ∃ v, VC τ' h c v) (rv : RVt h nv Gs g τ') : Rl x h t nv pa un fs Gs g own rt σ τ' := by
  have R0 := R
  obtain ⟨RC0, RT0, ⟨q1, q2, q3, q4, q5⟩, q6, q7, q8⟩ := R
  obtain ⟨⟨m1, m2, m3, m4⟩, ⟨r2, r3, r4, r5, r6, r7, r8⟩, r9, r10, r11, r12⟩ := RT0
  have l := RC0.1
  have E : ∀ a k, ¬ (Vp h a k ∨ TSc h a k) → mI τ' a k = mI τ a k := fun a k n => e.rI (fun p => n (hP a k p))
  have inT : ∀ a k, P a k → h ≤ a ∧ a ≤ h + 56 := fun a k p => by have := hP a k p; unfold Vp TSc at this; omega
  have nco : ∀ {τ : gMem} a k, P a k → ¬ CoP τ h a k := fun a k p z => by
    have := hP a k p
    unfold Vp TSc at this
    rcases z with ⟨o, h1, h2, h3, -⟩ | ⟨h3, -⟩ | ⟨o, h1, h2, h3, -⟩ <;> omega
  have eh : ∀ k, (k = 6 ∨ k = 7 ∨ k = 8 ∨ (12 ≤ k ∧ k ≤ 19) ∨ k = 24 ∨ k = 25 ∨ (40 ≤ k ∧ k ≤ 42)) → mI τ' h k = mI τ h k := fun k hk => E h k (by unfold Vp TSc; omega)
  have gw : Grw τ τ' h := ⟨by rw [eh 25 (by omega)]; exact Int.le_refl _, by rw [eh 19 (by omega)]; exact Int.le_refl _, by rw [eh 24 (by omega)]; exact Int.le_refl _⟩
  have fr : FrS x h (fun _ => False) σ σ := ⟨Kz.rf l.ok, l.ok, l.z, WNF, fun a w _ => w.elim, ⟨fun f => f, fun f => f, fun f => f, fun f => f, fun f => f⟩, fun j _ => rfl, rfl, rfl⟩
  refine ⟨RC0, ⟨⟨TMb.ex e m1, tb, m3.tw m1 e inT, m4.ex e (fun b k p => (inT b k p).1)⟩, ⟨by rw [eh 8 (by omega)]; exact r2, by rw [eh 16 (by omega)]; exact r3, by rw [eh 17 (by omega)]; exact r4, by rw [eh 15 (by omega)]; exact r5, r6, r7, r8⟩, fun s hs => ?_, ?_, fun i hi => ?_, vc⟩, ⟨?_, ?_, ?_, ?_, q5.mv fr l.t5 RC0.vo e (fun a k p => ⟨fun q => by have := hP a k p; unfold Vp TSc at this; unfold FtP at q; omega, nco a k p⟩) gw⟩, fun i hi => ?_, q7, rv⟩
  · rw [E _ _ (by unfold Vp TSc; omega), E _ _ (by unfold Vp TSc; omega)]; exact r9 s hs
  · rw [eh 25 (by omega), eh 19 (by omega), eh 24 (by omega)]; exact r10
  · have n := R0.2.1.len hi
    exact (r11 i hi).ex e (fun a k p q => by have := hP a k p; unfold Vp TSc at this; unfold SlP at q; omega) (fun a k p => nco a k p) gw (Nat.le_refl _) n.1 n.2
  · obtain ⟨n, a1, a2, a3, a4⟩ := q1
    exact ⟨n, a1, a2, by rw [eh 40 (by omega)]; exact a3, fun k hk => by rw [E _ _ (by unfold Vp TSc; omega)]; exact a4 k hk⟩
  · unfold Rfl at q2 ⊢; rw [eh 41 (by omega), eh 42 (by omega)]; exact q2
  · unfold Rnx at q3 ⊢; rw [eh 6 (by omega), eh 7 (by omega)]; exact q3
  · unfold Rpt at q4 ⊢; rw [eh 25 (by omega)]; exact q4
  · rw [eh 6 (by omega), eh 7 (by omega)]; exact q6 i hi
theorem both_layO (hN : 200 ≤ N) (R : Rl x h t nv pa un fs Gs g own rt σ τ) (i10 : mI σ x 10 = 0) (K1 : Kz (fun _ => False) σ σ1) (kA : LsC σ1 A (lst n mk)) (hA : OutS x h A) (t1 : ∀ q, mZ σ ≤ q → mT σ1 q = 0 ∨ mT σ1 q = 100) (ok : LnOk (Gs 0) ax n mk fl (if ax ≠ 0 then mI τ h 7 else mI τ h 6)) : Ev (x9_lay N (rt 0) ax A σ1) (fun f => Kz (NoT x h) σ f ∧ mI f x = mI σ x ∧ mZ f ≤ mZ σ1 + 33 ∧ mS f ≤ mS σ1 + 352 ∧ (∀ y, mT σ y = 100 → mN f y = mN σ y ∧ mT f y = 100) ∧ ∃ own', ∀ r P, Ex P τ r → (∀ a k, P a k → SlP h 40 a k ∨ (a = h ∧ k = 65)) → ShT r h nv 40 (lnS (Gs 0) ax n mk fl) → mI r h 65 = 0 → Rl x h t nv pa un fs (fun j => if j = 0 then lnS (Gs 0) ax n mk fl else Gs j) g own' rt f r) := by
  have l := R.1.1
  have hh := R.1.2.1
  have okσ := l.ok
  have v0 : rtV nv pa un 0 := Or.inl rfl
  obtain ⟨c0, o0, f0⟩ := R.1.2.2.2.1.1 0 v0
  have sP := R.p0
  have n1 := c0.1.2.1.2.2.1
  have n2 := c0.1.2.2.2
  have ok1 := K1.ok
  have c1 : ShC σ1 (rt 0) (Gs 0) := c0.kp K1 okσ l.z WNF (fun _ _ f => f)
  have z1 : 0 < mZ σ1 := by have := K1.1; have := l.z; omega
  have z01 : mT σ1 0 = 0 := by rw [(K1.2.2.1 0 l.z).1]; exact l.z0
  have ta : mT σ (rt 0) ≠ 0 := by rw [c0.1.1]; decide
  have la : rt 0 < mZ σ := gOk_lt okσ ta
  have lA : A < mZ σ1 := gOk_lt ok1 (by rw [kA.1]; decide)
  have e0 : mR σ1 (rt 0) 0 = mR σ (rt 0) 0 := K1.rR okσ ta (fun f => f) 0
  have e1 : mR σ1 (rt 0) 1 = mR σ (rt 0) 1 := K1.rR okσ ta (fun f => f) 1
  have oks := ok
  obtain ⟨k1, k2, k3, k4, k5⟩ := ok
  have nl : (lst n mk).length = n := lst_len n mk
  have LY := lay_ln oks sP.1 sP.2.1 n2
  -- either axis
  obtain ⟨R0, C0, rs, cs, eL, hR0, hC0, eS, hs1, hs2⟩ : ∃ R0 C0 rs cs, Ev (x9_lay N (rt 0) ax A σ1) (fun f => LyF σ1 f (rt 0) R0 C0 (Gs 0) rs cs) ∧ (R0 = A ∨ R0 = mR σ (rt 0) 0) ∧ (C0 = A ∨ C0 = mR σ (rt 0) 1) ∧ layS (Gs 0) rs cs = (if ax ≠ 0 then layS (Gs 0) (Gs 0).1.1 (lst n mk) else layS (Gs 0) (lst n mk) (Gs 0).1.2) ∧ rs.length ≤ 32 ∧ cs.length ≤ 10 := by
    unfold axM at k2
    by_cases c : ax ≠ 0
    · rw [if_pos c] at k2
      refine ⟨mR σ (rt 0) 0, A, (Gs 0).1.1, lst n mk, ?_, Or.inr rfl, Or.inl rfl, by rw [if_pos c], n1, by rw [nl]; exact k2⟩
      unfold x9_lay
      rw [e0]
      refine Ev.g c (Ev.g c1.1.1 (Ev.c (c_lay2 (by omega) ok1 z1 z01 c1 (by rw [← e0]; exact c1.1.2.1) kA (by rw [nl]; exact k2)) (fun f _ z => Ev.r z)))
    · rw [if_neg c] at k2
      refine ⟨A, mR σ (rt 0) 1, lst n mk, (Gs 0).1.2, ?_, Or.inl rfl, Or.inr rfl, by rw [if_neg c], by rw [nl]; exact k2, n2⟩
      unfold x9_lay
      rw [e1]
      refine Ev.f c (Ev.g c1.1.1 (Ev.c (c_lay2 (by omega) ok1 z1 z01 c1 kA (by rw [← e1]; exact c1.1.2.2.1) n2) (fun f _ z => Ev.r z)))
  refine eL.m (fun f F => ?_)
  obtain ⟨F1, F2, ⟨F3, F4, F5, F6⟩, F7, F8, F9⟩ := F
  have KF : Kz (fun b => b = rt 0) σ f := (K1.mono (fun _ f => f.elim)).tr F2
  have nf : ShC f (rt 0) (lnS (Gs 0) ax n mk fl) := F1.cgI (by rw [eS]; exact LY.1) (fun k hk => by rw [eS]; exact LY.2 k hk)
  have lnl : (lnS (Gs 0) ax n mk fl).1.1.length = rs.length := by
    rw [← LY.1, ← eS]; rfl
  have lx : x < mZ σ := gOk_lt okσ (by rw [l.1.1]; decide)
  have xa : ¬ x = rt 0 := fun e => by have := l.1.1; rw [e, c0.1.1] at this; cases this
  have aO : OutS x h (rt 0) := f0 _ (Or.inl rfl)
  have xR : mR f x = mR σ x := by funext j; exact (KF.2.2.2 x lx xa j).2.2
  have xI : mI f x = mI σ x := by funext j; exact (KF.2.2.2 x lx xa j).1
  refine ⟨KF.mono (fun b e => by rw [show b = rt 0 from e]; unfold OutS at aO; unfold NoT; omega), xI, by omega, by omega, fun y hy => ?_, fun b => if mZ σ1 ≤ b then rt 0 else own b, fun r P X hP tS h65 => ?_⟩
  · have ly : y < mZ σ := gOk_lt okσ (by rw [hy]; decide)
    have := KF.2.2.1 y ly
    exact ⟨this.2, by rw [this.1]; exact hy⟩
  · refine both_set R (fun b => if mZ σ1 ≤ b then rt 0 else own b) (fun b hb => if_neg (by have := K1.1; omega)) KF (fun b e => Or.inl e) ⟨xR, xI⟩ (fun q hq ht => ?_) nf ?_ (fun b hb => ?_) i10 X hP h65 tS (oks.shp sP n1 n2)
    · exfalso
      by_cases c : q < mZ σ1
      · rw [(F2.2.2.1 q c).1] at ht
        have := t1 q hq; omega
      · have := F9 q (by omega); omega
    · rw [lnl]
      have la1 : ¬ mZ σ1 ≤ rt 0 := by have := K1.1; omega
      refine ⟨(if_neg la1).trans o0.1, by rw [F5]; exact if_pos (Nat.le_refl _), fun r hr => by rw [F5, F6 r hr]; exact if_pos (show mZ σ1 ≤ mZ σ1 + 1 + r by omega), fun r r' hr hr' e => ?_⟩
      rw [F5, F6 r hr, F6 r' hr'] at e; omega
    · rw [lnl] at hb
      have big : ∀ y, mZ σ ≤ y → OutS x h y := fun y hy => by unfold OutS; omega
      rcases hb with e | e | e | e | ⟨r, hr, e⟩
      · rw [e]; exact aO
      · rw [e, F3]
        rcases hR0 with e' | e'
        · rw [e']; exact hA
        · rw [e']; exact f0 _ (Or.inr (Or.inl rfl))
      · rw [e, F4]
        rcases hC0 with e' | e'
        · rw [e']; exact hA
        · rw [e']; exact f0 _ (Or.inr (Or.inr (Or.inl rfl)))
      · rw [e, F5]; exact big _ K1.1
      · rw [e, F5, F6 r hr]; exact big _ (by have := K1.1; omega)
theorem Kz.trN {W' : Nat → Prop} {s s' : gMem} (K : Kz W σ s) (K' : Kz W' s s') (h : ∀ a, a < mZ σ → W' a → W a) : Kz W σ s' :=
  ⟨Nat.le_trans K.1 K'.1, K'.2.1, fun a ha => by
    have z := K.2.2.1 a ha
    have z' := K'.2.2.1 a (by have := K.1; omega)
    exact ⟨by rw [z'.1, z.1], by rw [z'.2, z.2]⟩, fun a ha hw j => by
    have z := K.2.2.2 a ha hw j
    have z' := K'.2.2.2 a (by have := K.1; omega) (fun w => hw (h a ha w)) j
    exact ⟨by rw [z'.1, z.1], by rw [z'.2.1, z.2.1], by rw [z'.2.2, z.2.2]⟩⟩
/-- a row of numbers 0, 1, 2 .. -/
theorem sort_id {v1 v2 v3 v4 : Int} {L : Nat} {s0 : gMem} {K : gMem → Option gR} {y : Option (Int × gMem)} {Φ : gR → Int × gMem → Prop} (tA : mT s0 A = 100) (nA : mN s0 A = L) (l32 : L ≤ 32) (hK : ∀ s, Ex (fun a _ => a = A) s0 s → (∀ j, j < L → mI s A j = j) → E2 (K s) y Φ) : ∀ (m k fu : Nat) (s : gMem), k + m = L → m < fu → Ex (fun a _ => a = A) s0 s → (∀ j, j < k → mI s A j = j) → E2 (x1_sort_l74 N x v1 v2 v3 v4 A K fu (k : Int) s) y Φ := by
  intro m
  induction m with
  | zero =>
    intro k fu s h1 h2 X I
    obtain ⟨fu, rfl⟩ : ∃ j, fu = j + 1 := ⟨fu - 1, by omega⟩
    unfold x1_sort_l74
    rw [X.rN, nA, w32_i (by omega) (by omega)]
    exact E2.lg (by rw [X.rT]; exact tA) (E2.lg (by omega) (hK s X (fun j hj => I j (by omega))))
  | succ m ih =>
    intro k fu s h1 h2 X I
    obtain ⟨fu, rfl⟩ : ∃ j, fu = j + 1 := ⟨fu - 1, by omega⟩
    unfold x1_sort_l74
    rw [X.rN, nA, w32_i (x := (L : Int)) (by omega) (by omega), inc32 (by omega), tn]
    refine E2.lg (by rw [X.rT]; exact tA) (E2.lf (by omega) (E2.lg (by omega) (E2.ll (ih (k + 1) fu _ (by omega) (by omega) (X.I rfl) (fun j hj => ?_)))))
    by_cases e : j = k
    · rw [e, mIwI2 ⟨rfl, rfl⟩, w32_i (by omega) (by omega)]
    · rw [mIwI1 (by omega)]; exact I j (by omega)
/-- a row with a hole: every place once -/
def PmH (q : Nat → Nat) (k i : Nat) : Prop := (∀ j, j ≤ k → j ≠ i → q j < k) ∧ ∀ j j', j ≤ k → j' ≤ k → j ≠ i → j' ≠ i → q j = q j' → j = j'
/-- the two rows, the memories beside them -/
def SoS (x h A f0 L k i : Nat) (s0 r0 : gMem) (q : Nat → Nat) (s r : gMem) : Prop := Ex (fun a k => a = A ∨ SrC x a k) s0 s ∧ Ex (fun a _ => (h + 33 ≤ a ∧ a ≤ h + 37) ∨ a = h + 43) r0 r ∧ TB r h ∧ (∀ j, j ≤ k → j ≠ i → mI s A (f0 + j) = ((f0 + q j : Nat) : Int) ∧ mI r (h + 43) j = (q j : Int)) ∧ (∀ j, j < L → (j < f0 ∨ f0 + k < j) → mI s A j = j) ∧ PmH q k i
section SoSx
variable {f0 L i : Nat} {s0 r0 s : gMem} {q : Nat → Nat}
theorem SoS.X (S : SoS x h A f0 L k i s0 r0 q s r) : Ex (fun a k => a = A ∨ SrC x a k) s0 s := S.1
theorem SoS.Y (S : SoS x h A f0 L k i s0 r0 q s r) : Ex (fun a _ => (h + 33 ≤ a ∧ a ≤ h + 37) ∨ a = h + 43) r0 r := S.2.1
theorem SoS.tb (S : SoS x h A f0 L k i s0 r0 q s r) : TB r h := S.2.2.1
theorem SoS.ar (S : SoS x h A f0 L k i s0 r0 q s r) : ∀ j, j ≤ k → j ≠ i → mI s A (f0 + j) = ((f0 + q j : Nat) : Int) ∧ mI r (h + 43) j = (q j : Int) := S.2.2.2.1
theorem SoS.rs (S : SoS x h A f0 L k i s0 r0 q s r) : ∀ j, j < L → (j < f0 ∨ f0 + k < j) → mI s A j = j := S.2.2.2.2.1
theorem SoS.pm (S : SoS x h A f0 L k i s0 r0 q s r) : PmH q k i := S.2.2.2.2.2
end SoSx
/-- what the compared memories are -/
def SoB (x h A L c : Nat) (s0 r0 : gMem) (V : Nat → Vl) : Prop := (mT s0 x = 1 ∧ mR s0 x 9 = x + 4 ∧ mR s0 x 30 = x + 1437 ∧ mR s0 x 31 = x + 1439 ∧ WS s0 (x + 1437) ∧ WS s0 (x + 1439) ∧ VV s0 (x + 4) V) ∧ (mT s0 A = 100 ∧ mN s0 A = L ∧ x + 1440 < A ∧ L ≤ 32 ∧ c < 10) ∧ mT r0 (h + 31) = 102 ∧ mN r0 (h + 31) = 314880 ∧ ∀ e, e < L → VC r0 h (12800 + (10 * e + c)) (V (10 * e + c))
theorem sort_in {f0 L c k n : Nat} {s0 r0 : gMem} {V : Nat → Vl} {v3 v7 way : Int} {K : Int → gMem → Option gR} {K' : Int → gMem → Option (Int × gMem)} {Φ : gR → Int × gMem → Prop} (hN : 2000 ≤ N) (B : SoB x h A L c s0 r0 V) (hk : f0 + k < L) (hw : way = 0 ∨ way = 1) (hK : ∀ s r q i, i ≤ k → SoS x h A f0 L k i s0 r0 q s r → E2 (K ((f0 + i : Nat) : Int) s) (K' (i : Int) r) Φ) : ∀ (i fu fv : Nat) (s r : gMem) (q : Nat → Nat), i ≤ k → i < fu → i < fv → SoS x h A f0 L k i s0 r0 q s r → E2 (x1_sort_l115 N x ((c + 1 : Nat) : Int) ((f0 + 1 : Nat) : Int) v3 way A v7 ((f0 + k : Nat) : Int) K fu ((f0 + i : Nat) : Int) s) (tw_sort_l110 N h ((f0 + 1 : Nat) : Int) way (n : Int) ((12800 + (10 * f0 + c) : Nat) : Int) (k : Int) K' fv (i : Int) r) Φ := by
  obtain ⟨⟨bt1, be9, be30, be31, bw1, bw2, bvv⟩, ⟨btA, bnA, oA, l32, c10⟩, bt31, bn31, bvc⟩ := B
  intro i
  induction i with
  | zero =>
    intro fu fv s r q h1 h2 h3 S
    obtain ⟨fu, rfl⟩ : ∃ j, fu = j + 1 := ⟨fu - 1, by omega⟩
    obtain ⟨fv, rfl⟩ : ∃ j, fv = j + 1 := ⟨fv - 1, by omega⟩
    unfold x1_sort_l115 tw_sort_l110
    exact E2.lg (by omega) (E2.rg (by omega) (hK s r q 0 (by omega) S))
  | succ i ih =>
    intro fu fv s r q h1 h2 h3 S
    obtain ⟨fu, rfl⟩ : ∃ j, fu = j + 1 := ⟨fu - 1, by omega⟩
    obtain ⟨fv, rfl⟩ : ∃ j, fv = j + 1 := ⟨fv - 1, by omega⟩
    obtain ⟨a1, a2⟩ := S.ar i (by omega) (by omega)
    have qi := S.pm.1 i (by omega) (by omega)
    have T : mT s = mT s0 := S.X.rT
    have NN : mN s = mN s0 := S.X.rN
    have RR : mR s = mR s0 := S.X.rR
    unfold x1_sort_l115 tw_sort_l110
    rw [show (((f0 + (i + 1) : Nat) : Int) - 1).toNat = f0 + i by omega, show (((i + 1 : Nat) : Int) - 1).toNat = i by omega, a1, a2, T, NN, bnA, show w32 (((c + 1 : Nat) : Int) - 1) = (c : Int) by rw [w32_i (by omega) (by omega)]; omega, show w32 (((12800 + (10 * f0 + c) : Nat) : Int) + 10 * (k : Int)) = ((12800 + (10 * (f0 + k) + c) : Nat) : Int) by rw [w32_i (by omega) (by omega)]; omega, show w32 (((12800 + (10 * f0 + c) : Nat) : Int) + 10 * (q i : Int)) = ((12800 + (10 * (f0 + q i) + c) : Nat) : Int) by rw [w32_i (by omega) (by omega)]; omega]
    refine E2.lf (by omega) (E2.lg btA (E2.lg (by omega) (E2.lg bt1 (E2.rf (by omega) (E2.rg (by omega) ?_)))))
    have vvs : VV s (x + 4) V := bvv.exx S.X (fun i hi k p => by unfold SrC at p; omega)
    have vcs : ∀ e, e < L → VC r h (12800 + (10 * e + c)) (V (10 * e + c)) := fun e he => VG.ex S.Y (bvc e he) (by omega) (by omega) (by omega) (fun j hj => by omega)
    refine E2.lc (c_ahead (V := V) (p := f0 + k) (q := f0 + q i) (c := c) (w := way) hN (by rw [T]; exact bt1) (by rw [RR]; exact be9) (by rw [RR]; exact be30) (by rw [RR]; exact be31) (bw1.ex S.X) (bw2.ex S.X) vvs (by omega) (by omega) c10 hw) (fun a za => ?_)
    refine E2.rc (t_ahead (p := 12800 + (10 * (f0 + k) + c)) (q := 12800 + (10 * (f0 + q i) + c)) (w := way) hN (by rw [S.Y.rT]; exact bt31) (by rw [S.Y.rN]; exact bn31) S.tb (vcs (f0 + k) hk) (vcs (f0 + q i) (by omega)) (by omega) (by omega) hw) (fun b zb => ?_)
    obtain ⟨za1, za2⟩ := za
    obtain ⟨zb1, zb2, zb3, zb4⟩ := zb
    have X' : Ex (fun a k => a = A ∨ SrC x a k) s0 a.2 := S.X.tr (za2.mono (fun a k p => Or.inr p))
    have Y' : Ex (fun a _ => (h + 33 ≤ a ∧ a ≤ h + 37) ∨ a = h + 43) r0 b.2 := S.Y.tr (zb3.mono (fun a k p => Or.inl p))
    have eA : ∀ j, mI a.2 A j = mI s A j := fun j => za2.rI (by unfold SrC; omega)
    have e43 : ∀ j, mI b.2 (h + 43) j = mI r (h + 43) j := fun j => zb3.rI (by omega)
    have S' : SoS x h A f0 L k (i + 1) s0 r0 q a.2 b.2 := ⟨X', Y', zb4, fun j h1 h2 => by rw [eA, e43]; exact S.ar j h1 h2, fun j h1 h2 => by rw [eA]; exact S.rs j h1 h2, S.pm⟩
    by_cases go : 0 ≤ a.1
    · exact E2.lg go (E2.rg (by
        have : ¬ a.1 < 0 := by omega
        have : ¬ b.1 ≠ 0 := fun z => this (za1.mpr (zb2.mp z))
        omega) (hK a.2 b.2 q (i + 1) h1 S'))
    · have bn : b.1 ≠ 0 := zb2.mpr (za1.mp (by omega))
      refine E2.lf go (E2.rf bn ?_)
      rw [show mN a.2 A = L by rw [X'.rN]; exact bnA, eA, e43, a1, a2, tn, tn, show w32 (((f0 + (i + 1) : Nat) : Int) + -1) = ((f0 + i : Nat) : Int) by rw [w32_i (by omega) (by omega)]; omega, show w32 (((i + 1 : Nat) : Int) + -1) = (i : Int) by rw [w32_i (by omega) (by omega)]; omega]
      refine E2.lg (by omega) (E2.lg (by omega) (E2.ll (E2.rg (by omega) (E2.rg (by omega) (E2.rl ?_)))))
      refine ih fu fv _ _ (fun j => if j = i + 1 then q i else q j) (by omega) (by omega) (by omega) ⟨X'.I (Or.inl rfl), Y'.I (Or.inr rfl), zb4.I (fun z => by omega), fun j h1 h2 => ?_, fun j h1 h2 => ?_, fun j h1 h2 => ?_, fun j j' h1 h1' h2 h2' e => ?_⟩
      · (try dsimp only)
        by_cases e : j = i + 1
        · rw [e, if_pos rfl, mIwI2 ⟨rfl, rfl⟩, mIwI2 ⟨rfl, rfl⟩, w32_i (by omega) (by omega), w32_i (by omega) (by omega)]; exact ⟨rfl, rfl⟩
        · rw [if_neg e, mIwI1 (by omega), mIwI1 (by omega)]; exact S'.ar j h1 e
      · rw [mIwI1 (by omega)]; exact S'.rs j h1 h2
      · (try dsimp only)
        by_cases e : j = i + 1
        · rw [if_pos e]; exact qi
        · rw [if_neg e]; exact S.pm.1 j h1 e
      · have P2 := S.pm.2
        (try dsimp only at e)
        by_cases e1 : j = i + 1
        · by_cases e2 : j' = i + 1
          · omega
          · rw [if_pos e1, if_neg e2] at e
            have := P2 i j' (by omega) h1' (by omega) e2 e; omega
        · by_cases e2 : j' = i + 1
          · rw [if_neg e1, if_pos e2] at e
            have := P2 j i h1 (by omega) e1 (by omega) e; omega
          · rw [if_neg e1, if_neg e2] at e
            exact P2 j j' h1 h1' e1 e2 e
/-- all of them in their turn -/
def SoF (x h A f0 L k : Nat) (s0 r0 : gMem) (q : Nat → Nat) (s r : gMem) : Prop := Ex (fun a k => a = A ∨ SrC x a k) s0 s ∧ Ex (fun a _ => (h + 33 ≤ a ∧ a ≤ h + 37) ∨ a = h + 43) r0 r ∧ TB r h ∧ (∀ j, j < k → mI s A (f0 + j) = ((f0 + q j : Nat) : Int) ∧ mI r (h + 43) j = (q j : Int)) ∧ (∀ j, j < L → (j < f0 ∨ f0 + k ≤ j) → mI s A j = j) ∧ (∀ j, j < k → q j < k) ∧ ∀ j j', j < k → j' < k → q j = q j' → j = j'
theorem sort_out {f0 L c n : Nat} {s0 r0 : gMem} {V : Nat → Vl} {way : Int} {K : gMem → Option gR} {K' : gMem → Option (Int × gMem)} {Φ : gR → Int × gMem → Prop} (hN : 2000 ≤ N) (B : SoB x h A L c s0 r0 V) (hn : f0 + n ≤ L) (hw : way = 0 ∨ way = 1) (hK : ∀ s r q, SoF x h A f0 L n s0 r0 q s r → E2 (K s) (K' r) Φ) : ∀ (m k fu fv : Nat) (s r : gMem) (q : Nat → Nat), k + m = n → m < fu → m < fv → SoF x h A f0 L k s0 r0 q s r → E2 (x1_sort_l98 N x ((c + 1 : Nat) : Int) ((f0 + 1 : Nat) : Int) ((f0 + n : Nat) : Int) way A K fu ((f0 + k : Nat) : Int) s) (tw_sort_l99 N h ((f0 + 1 : Nat) : Int) way (n : Int) ((12800 + (10 * f0 + c) : Nat) : Int) K' fv (k : Int) r) Φ := by
  have B0 := B
  obtain ⟨⟨bt1, be9, be30, be31, bw1, bw2, bvv⟩, ⟨btA, bnA, oA, l32, c10⟩, bt31, bn31, bvc⟩ := B
  intro m
  induction m with
  | zero =>
    intro k fu fv s r q h1 h2 h3 F
    obtain ⟨fu, rfl⟩ : ∃ j, fu = j + 1 := ⟨fu - 1, by omega⟩
    obtain ⟨fv, rfl⟩ : ∃ j, fv = j + 1 := ⟨fv - 1, by omega⟩
    obtain rfl : k = n := by omega
    unfold x1_sort_l98 tw_sort_l99
    exact E2.lg (by omega) (E2.rg (by omega) (hK s r q F))
  | succ m ih =>
    intro k fu fv s r q h1 h2 h3 F
    obtain ⟨fu, rfl⟩ : ∃ j, fu = j + 1 := ⟨fu - 1, by omega⟩
    obtain ⟨fv, rfl⟩ : ∃ j, fv = j + 1 := ⟨fv - 1, by omega⟩
    obtain ⟨X, Y, tb, ar, rs, p1, p2⟩ := F
    unfold x1_sort_l98 tw_sort_l99
    rw [X.rT, X.rN, bnA, tn, rs (f0 + k) (by omega) (by omega)]
    refine E2.lf (by omega) (E2.lg btA (E2.lg (by omega) (E2.rf (by omega) ?_)))
    refine sort_in (s0 := s0) (r0 := r0) (V := V) (k := k) (L := L) (c := c) hN B0 (by omega) hw (fun s' r' q' i hi S => ?_) k N N s r q (Nat.le_refl _) (by omega) (by omega) ⟨X, Y, tb, fun j h1 h2 => ar j (by omega), fun j h1 h2 => rs j h1 (by omega), fun j h1 h2 => p1 j (by omega), fun j j' h1 h1' h2 h2' e => p2 j j' (by omega) (by omega) e⟩
    unfold x1_sort_l98_j160 tw_sort_l99_j169
    rw [S.X.rT, S.X.rN, bnA, tn, tn, show w32 (((f0 + k : Nat) : Int) + 1) = ((f0 + (k + 1) : Nat) : Int) from inc32 (by omega), show w32 ((k : Int) + 1) = ((k + 1 : Nat) : Int) from inc32 (by omega)]
    refine E2.lg btA (E2.lg (by omega) (E2.ll (E2.rg (by omega) (E2.rl ?_))))
    refine ih (k + 1) fu fv _ _ (fun j => if j = i then k else q' j) (by omega) (by omega) (by omega) ⟨S.X.I (Or.inl rfl), S.Y.I (Or.inr rfl), S.tb.I (fun z => by omega), fun j hj => ?_, fun j h1 h2 => ?_, fun j hj => ?_, fun j j' hj hj' e => ?_⟩
    · (try dsimp only)
      by_cases e : j = i
      · rw [e, if_pos rfl, mIwI2 ⟨rfl, rfl⟩, mIwI2 ⟨rfl, rfl⟩, w32_i (by omega) (by omega), w32_i (by omega) (by omega)]; exact ⟨rfl, rfl⟩
      · rw [if_neg e, mIwI1 (by omega), mIwI1 (by omega)]; exact S.ar j (by omega) e
    · rw [mIwI1 (by omega)]; exact S.rs j h1 (by omega)
    · (try dsimp only)
      by_cases e : j = i
      · rw [if_pos e]; omega
      · rw [if_neg e]; have := S.pm.1 j (by omega) e; omega
    · (try dsimp only at e)
      by_cases e1 : j = i
      · by_cases e2 : j' = i
        · omega
        · rw [if_pos e1, if_neg e2] at e
          have := S.pm.1 j' (by omega) e2; omega
      · by_cases e2 : j' = i
        · rw [if_neg e1, if_pos e2] at e
          have := S.pm.1 j (by omega) e1; omega
        · rw [if_neg e1, if_neg e2] at e
          exact S.pm.2 j j' (by omega) (by omega) e1 e2 e
end State43
