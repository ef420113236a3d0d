/-! ===== PHASE 2: reading: calls agree; a whole test is read alike ===== -/
section Read42
variable {N x h hi all nv sh M lu0 b b' p q op pa pi : Nat} {bA : Nat → Int} {f : Int → List Int × List Int} {σ σ' σ'' τ τ' τ'' s r σ0 τ0 σ1 τ2 : gMem} {p0 pa0 nd k kk lu : Nat} {W : Nat → gMem → Option gR} {Wt : gMem → Option gMem}
theorem clOk (hN : 500 ≤ N) (fn : FN nv f) : ClOk N x h hi all nv sh M lu0 bA f := by
  intro op W Wt hT σ τ q pa pi S k e s hk X g6 e49 qe eh _
  have c := S.1
  have tx := c.1.2.2.2.2.2.2.2
  have h4 : hi ≤ 400 := by have := tx.2.2.1; have := tx.2.2.2; omega
  have b4 := S.2.2.2.2.2.2.2.2.1
  have b3 := S.2.2.2.2.2.2.2.1
  have b5 := S.2.2.2.2.2.2.2.2.2.1
  have s11 := S.2.2.1.2.2.2
  have t48 : mI τ h 48 = q := by
    have := S.2.2.2.1.2.1.2.1
    rw [if_neg (by have := (tx.1 q (by omega)).1; omega)] at this; exact this
  unfold x6_call tw_readCall
  have c1 : mT s (x + 1429) = 6 := by rw [X.rT]; exact c.1.1
  refine E2.lg c1 (E2.er (show _ = _ from rfl) ?_)
  obtain ⟨τ1, e1, q1, S0, tf1, fr1, cf0⟩ := S.adv hN (by omega) eh e49
  have XW : Ex (Rq x 6) (wI σ (x + 1429) 6 (e : Int)) s := by
    have Y : Ex (Rq x 6) σ (wI σ (x + 1429) 6 (e : Int)) := Ex.rf.I ⟨rfl, rfl⟩
    exact ⟨X.1.trans Y.1.symm, fun a j n => ⟨(X.2 a j n).1.trans (Y.2 a j n).1.symm, (X.2 a j n).2.trans (Y.2 a j n).2.symm⟩⟩
  have S1 : S2 x h hi all nv sh M lu0 bA f s τ1 e q1 op pa pi := by
    refine S0.keep (Rq.cf S0.1 XW (by omega)) (fun j => ?_)
    by_cases z : j = 6
    · rw [z, g6, S0.2.2.1.1]
    · exact XW.rI (fun y => z y.2)
  have cfs : CF x σ s 0 := Rq.cf c X (by omega)
  obtain ⟨r, er, r1, S', cf, fk, pq, qh⟩ := S1.pk hN
  refine E2.le er (E2.re e1 ?_)
  have cfr : CF x σ r.2 0 := cfs.tr cf
  have k6i := (tk678 (bA := bA) (q := q1)).1
  have e47 : mI τ1 h 47 = tkK bA q1 := S'.2.2.2.1.2.1.1
  have f14 : mI r.2 (x + 1429) 14 = mI σ (x + 1429) 14 := by rw [fk 14 (by decide), X.rI (fun y => by unfold Rq at y; omega)]
  rw [r1, e47]
  by_cases e40 : bA q1 = 40
  · have k6 := k6i.mpr e40
    have qh' : q1 < hi := tx.lt (fun z => by rw [e40] at z; cases z)
    have e49' : mI τ1 h 49 = ((q1 + 1 : Nat) : Int) := S'.2.2.2.1.2.1.2.2.2.2.1 (Or.inl k6)
    refine E2.lg e40 (E2.rg k6 ?_)
    rcases rd_opens hN S' qh' e49' with ⟨r2, e, s2, ee, et, z⟩ | ⟨s2, r2, o1, o2, ee, et, S2', cf1, tf2, e49'', fs, ft⟩
    · refine E2.le ee (E2.re et ?_)
      rw [thrVE]
      refine E2.rf (fun z => z rfl) (E2.r (OutN.er ?_))
      obtain ⟨z1, z2, z3, z4, z5⟩ := z
      exact ⟨z1, z2, z3, (cfr.tr z4).mono (by omega), tf1.tr z5 (Nat.le_refl _)⟩
    · refine E2.le ee (E2.re et ?_)
      rw [thrV]
      refine E2.rg (show (1 : Int) ≠ 0 by decide) ?_
      rw [t48]
      have e11 : mI (wI s2 (x + 1429) 6 ((q1 + 1 : Nat) : Int)) (x + 1429) 11 = (pi : Int) := by rw [mIwI1 (by omega)]; exact S2'.2.2.1.2.2.2
      rw [e11]
      have l14 : mI s2 (x + 1429) 14 = mI σ (x + 1429) 14 := by rw [fs 14 (by decide)]; exact f14
      have a0 : mR s 0 k = mR σ 0 k := by rw [X.rR]
      refine rd_args (σ0 := σ) (τ0 := τ) (p0 := q) (pa0 := pa) (pi := pi) (op := op) (kk := k) (ms := []) (v := true) (kf := 0) (pz := q) (p := q1) (q := q1) (pa := pa) (p1 := q1 + 1) (w := hi) hN fn (hT o1) hk (fun σ' τ' q' pa' kf' ms' v' n0 S3 I => ?_) (fun s' τ' n v er' => ?_) N N s2 r2 (by omega) (by omega) (by omega) (by omega) S2' e49'' (by omega) (by omega) ⟨(cfr.tr cf1), ?_, (tf1.tr tf2 (Nat.le_refl _)), rfl, by omega, ⟨trivial, (fun _ _ m em => by cases em), rfl⟩, fun z => by rw [← l14]; exact z⟩
      · exact rd_callEnd hN hk o1 n0 S3 I c s11 b4 a0
      · obtain ⟨z1, z2, z3, z4, z5⟩ := er'
        unfold tw_readCall_j153
        refine E2.re (fl_shut z3) (E2.rf (by omega) (E2.r (OutN.er ⟨z1, z2, z3, z4, z5⟩)))
      · show 0 + 0 + q ≤ q; omega
  · refine E2.lf e40 (E2.rf (fun z => e40 (k6i.mp z)) ?_)
    rw [S'.2.2.1.1]
    refine (S'.wrong (k := 1) (kt := some) (p0 := q) (pa0 := pa) (cfr.mono (by omega)) tf1 (by omega) (Nat.le_refl _) (by decide) (fun r _ => rfl)).m (fun a r2 z => ?_)
    obtain ⟨a1, a2⟩ := a
    have z1 : a1 = .inr "SheetBranches$Wrong" := z.1
    subst z1
    exact OutN.er z.2
/-- a whole formula's test is read alike -/
theorem rd_whole (hN : 500 ≤ N) (fn : FN nv f) {n : Nat} (hn : 20 < n) : RdG x h hi all nv sh M lu0 bA f 0 (x6_test N (x6_sign N n) (x + 1429)) (tw_readTest N (tw_readSign N h n) h) := rd_top hN fn (clOk hN fn) hn
end Read42
