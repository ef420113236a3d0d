/-! ===== PHASE 2: reading: signs ahead ===== -/
section Read33
variable {N x h hi all nv sh M lu0 b b' p q op pa pi : Nat} {bA : Nat → Int} {f : Int → List Int × List Int} {σ σ' σ'' τ τ' τ'' s r σ0 τ0 σ1 τ2 : gMem} {p0 pa0 nd k lu : Nat} {W : Nat → gMem → Option gR} {Wt : gMem → Option gMem}
theorem sgO_45 {c d : Int} : ((sgO c d).1 = 9 ∧ 18 ≤ (sgO c d).2.1 ∧ (sgO c d).2.1 ≤ 18) ↔ c = 45 := by
  constructor
  · rintro ⟨z1, z2, z3⟩
    have := sgO_inv z1
    omega
  · intro z
    subst z
    exact ⟨rfl, (by decide : (18 : Int) ≤ 18), (by decide : (18 : Int) ≤ 18)⟩
theorem rd_sign_o (hN : 500 ≤ N) (hW : op + 1 ≤ 20 → RdG x h hi all nv sh M lu0 bA f (op + 1) (W (x + 1429)) Wt) (hA : RdG x h hi all nv sh M lu0 bA f op (x6_atom N W (x + 1429)) (tw_readAtom N Wt h)) : RdG x h hi all nv sh M lu0 bA f op (x6_sign_o N W (x + 1429)) (tw_readSign_o N Wt h) := by
  intro σ τ p q pa pi S
  have c := S.1
  have tx := c.1.2.2.2.2.2.2.2
  have h4 : hi ≤ 400 := by have := tx.2.2.1; have := tx.2.2.2; omega
  obtain ⟨r, er, e1, S', cf, fk, pq, qh⟩ := S.pk hN
  have b5 := S.2.2.2.2.2.2.2.2.2.1
  suffices G : E2 (x6_sign_o N W (x + 1429) σ) (tw_readSign_o N Wt h τ) (Out2 x h hi all nv sh M lu0 bA f r.2 τ q op pa pi) from G.m (fun a r2 o => OutN.re o pq (by omega) (cf.mono (by omega)) (TF.rf b5) (fk 14 (by decide)))
  have t2 := S'.2.2.2.1.2.1
  have t5 := S'.2.2.2.1.2.2.2.2
  have b3 := S'.2.2.2.2.2.2.2.1
  unfold x6_sign_o tw_readSign_o
  rw [er]
  refine E2.lg c.1.1 (E2.re (t_isSignOf t2 t5) ?_)
  rw [Option.bind_some, e1]
  by_cases e45 : bA q = 45
  · have qh' : q < hi := tx.lt (fun z => by omega)
    have e49 := (sg_at (k := 18) (l := 1) e45 rfl t2).2
    rw [if_pos (sgO_45.mpr e45)]
    refine E2.lg e45 (E2.rg (by decide) ?_)
    rcases rd_opens hN S' qh' e49 with ⟨r2, e, s, ee, et, z⟩ | ⟨s, r2, o1, o2, ee, et, S1, cf1, tf1, e49', fs, ft⟩
    · refine E2.le ee (E2.re et ?_)
      rw [thrVE]
      exact E2.rg rfl (E2.r (OutN.er z))
    · refine E2.le ee (E2.re et ?_)
      rw [thrV]
      refine E2.rf (by decide : ¬ (1 : Int) = 0) (E2.rc (S1.adv hN (Nat.le_succ q) qh' e49') (fun τ3 z => ?_))
      obtain ⟨q1, z1, z2, z3, z4⟩ := z
      have tf3 := tf1.tr z2 (Nat.le_refl _)
      have cf3 := cf1.tr z4
      have l14 : mI (wI s (x + 1429) 6 ((q + 1 : Nat) : Int)) (x + 1429) 14 = mI r.2 (x + 1429) 14 := by rw [mIwI1 (by omega)]; exact fs 14 (by decide)
      refine E2.cc (hW o1 _ _ _ _ _ _ z1) (fun a x10 o => o.on (fun nd2 p2 q2 pa2 o2 => ?_) (fun e => ?_))
      · obtain ⟨S2', a1, a2, a3, a4, a5, a6, a7, a8⟩ := o2
        have w7 : w32 (((op + 1 : Nat) : Int) - 1) = (op : Int) := by rw [w32_i (by omega) (by omega)]; omega
        obtain ⟨S3, cf4, tf4⟩ := S2'.opn (op' := op) (by omega)
        rw [S2'.2.2.1.2.1, w7, S2'.2.2.2.1.2.2.1, w7]
        refine E2.ll (E2.rl ?_)
        have l14' : mI (wI a.2 (x + 1429) 7 (op : Int)) (x + 1429) 14 = mI a.2 (x + 1429) 14 := mIwI1 (by omega)
        obtain ⟨a', a2', ea, eb, nd, y1, y2, y3, y4, y5, y6, y7⟩ := op_one (b := M + pa) (m1 := pa2 - pa) (nd1 := nd2) hN S3 (by omega) (by omega) (a6.mv S2'.1 cf4 tf4 (by omega) (fun w => by rw [← l14']; exact w)) (fun w => a8 (by
          rw [mIwI1 (by omega)] at w
          rw [show M + pa2 - 1 = M + pa + (pa2 - pa) - 1 by omega]; exact w))
        rw [ea, eb]
        obtain ⟨a1', a2''⟩ := a'
        have y1' : a1' = .inl (some (vR nd)) := y1
        subst y1'
        refine E2.r (OutN.ok (q := q2) ⟨y2, by omega, by omega, by omega, (((cf3.tr a4).tr cf4).tr y3).mono (by omega), ((tf3.tr a5 (Nat.le_refl _)).tr tf4 (by omega)).tr y4 (by omega), ?_, fun w => ?_, fun w => ?_⟩)
        · rw [show pa2 + 1 - pa = pa2 - pa + 1 by omega]; exact y5
        · have w' : mI a2'' (x + 1429) 14 = 0 := w
          rw [← l14]
          exact a7 (by rw [← l14', ← w']; exact y6.symm)
        · rw [show M + (pa2 + 1) - 1 = M + pa2 by omega, y7] at w
          omega
      · obtain ⟨e1, e2, e3, e4, e5⟩ := e
        refine E2.rl ?_
        have X : Ex (fun a k => a = h ∧ k = 57) x10 (wI x10 h 57 (w32 (mI x10 h 57 - 1))) := Ex.rf.I ⟨rfl, rfl⟩
        have g41 : mI (wI x10 h 57 (w32 (mI x10 h 57 - 1))) h 41 = mI x10 h 41 := X.rI (fun y => by omega)
        have g42 : mI (wI x10 h 57 (w32 (mI x10 h 57 - 1))) h 42 = mI x10 h 42 := X.rI (fun y => by omega)
        have g19 : 0 ≤ mI x10 h 19 := by have := e5.2.1; have := e5.2.2; omega
        obtain ⟨v, hv⟩ := fl_part (N := N) (k := 7) (n := 1) (τ := wI x10 h 57 (w32 (mI x10 h 57 - 1))) (h := h) (by rw [g41]; exact e3)
        rw [hv, Option.bind_some]
        exact E2.r (OutN.er ⟨by rw [g41]; exact e1, by rw [g42]; exact e2, by rw [g41]; exact e3, (cf3.tr e4).mono (by omega), (tf3.tr e5 (Nat.le_refl _)).tr (TF.ex (b := M + pa) X g19 (fun a j y => Or.inl ⟨y.1, by omega⟩)) (Nat.le_refl _)⟩)
  · rw [if_neg (fun z => e45 (sgO_45.mp z))]
    exact E2.lf e45 (E2.rf (fun z => z rfl) (thr_id (hA _ _ _ _ _ _ S')))
end Read33
