/-! ===== PHASE 2: copying: a formula of the class elsewhere ===== -/
section State62
variable {N nv k q a n : Nat} {σ σ' s : gMem} {W : Nat → Prop} {f : Int → List Int × List Int} {dr dc : Int} {l : Fm} {p : Pt} {A : Nat → Prop}
/-- what comes out -/
def ShO (A : Nat → Prop) (σ : gMem) (f : Int → List Int × List Int) (dr dc : Int) (n : Nat) (l : Fm) (r : Nat × gMem) : Prop := Kz (fun _ => False) σ r.2 ∧ IsA A r.2 n r.1 (l.map (shP f dr dc)) ∧ mZ r.2 ≤ mZ σ + 3 * l.length ∧ mS r.2 ≤ mS σ + 11 * l.length ∧ ∀ b, mZ σ ≤ b → mT r.2 b = 18 → mZ σ ≤ mR r.2 b 1
theorem sh_leaf (g : gOk σ) (lc : LabC σ q p) (po : PtOk p) (ao : argsOk p []) (a0 : pA p = 0) (h5 : pK p ≠ 5) (h6 : pK p ≠ 6) (t : mT σ q ≠ 18) (hq : ¬ A q) : ShO A σ f dr dc (n + 1) [p] (q, σ) := by
  refine ⟨Kz.rf g, ⟨p, [], ?_, a0.symm, lc, po, ao, ⟨hq, fun e => absurd e t⟩, fun i hi => absurd hi (Nat.not_lt_zero _)⟩, ?_, ?_, fun b hb ht => ?_⟩
  · show [shP f dr dc p] = [p]
    rw [shP_same h5 h6]
  · show mZ σ ≤ mZ σ + 3 * 1; omega
  · show mS σ ≤ mS σ + 11 * 1; omega
  · have ht : mT σ b = 18 := ht
    rw [g b hb] at ht; cases ht
theorem sh_gone (K : Kz (fun _ => False) σ s) (hA : ∀ b, A b → b < mZ σ) (z2 : mZ s ≤ mZ σ + 2) (s2 : mS s ≤ mS σ + 8) (n18 : ∀ b, mZ σ ≤ b → mT s b ≠ 18) (e : shP f dr dc p = mkR) : ShO A σ f dr dc (n + 1) [p] (mZ s, wN s 13 0) := by
  have zz := K.1
  refine ⟨K.wN, ⟨mkR, [], ?_, rfl, Or.inr (Or.inr (Or.inr (Or.inl ⟨by rw [mT_wN, if_pos rfl], rfl⟩))), Or.inr (Or.inr (Or.inr (Or.inl rfl))), ?_, ⟨fun z => by have := hA _ z; omega, fun z => ?_⟩, fun i hi => absurd hi (Nat.not_lt_zero _)⟩, ?_, ?_, fun b hb ht => ?_⟩
  · show [shP f dr dc p] = [mkR]
    rw [e]
  · unfold argsOk; rw [if_pos (by decide)]; rfl
  · rw [mT_wN, if_pos rfl] at z; cases z
  · show mZ s + 1 ≤ mZ σ + 3 * 1; omega
  · show mS s + 0 ≤ mS σ + 11 * 1; omega
  · have ht : mT (wN s 13 0) b = 18 := ht
    rw [mT_wN] at ht
    by_cases c : b = mZ s
    · rw [if_pos c] at ht; cases ht
    · rw [if_neg c] at ht; exact absurd ht (n18 b hb)
theorem argsOk_0 (h : pK p ≤ 6) (a : pA p = 0) : argsOk p [] := by unfold argsOk; rw [if_pos h]; exact a
theorem x15_new : x15_init (mZ s) (wN s 13 0) = some (wN s 13 0) := by
  unfold x15_init; rw [if_pos (by rw [mT_wN, if_pos rfl])]
theorem sh_spot (hN : 40 ≤ N) (fn : FN nv f) (g : gOk σ) (z0 : 0 < mZ σ) (hA : ∀ b, A b → b < mZ σ) (m : MvC σ k nv f dr dc) (t : mT σ q = 15) (tc : mT σ (mR σ q 0) = 14) (e : p = mkS (mI σ (mR σ q 0) 0) (mI σ (mR σ q 0) 1) (cfx σ (mR σ q 0)) (mI σ q 1)) (b2 : bz1 (mI σ (mR σ q 0) 2)) (b3 : bz1 (mI σ (mR σ q 0) 3)) (po : PtOk p) (hw : pW p < nv) : Ev (x17_shifted N q k σ) (ShO A σ f dr dc (n + 1) [p]) := by
  have h5 : pK p = 5 := by rw [e]; rfl
  obtain ⟨i0, i1, i2, i3, i4⟩ := po.inv5 h5
  have eW : pW p = mI σ q 1 := by rw [e]; rfl
  have eF : pF p = cfx σ (mR σ q 0) := by rw [e]; rfl
  have eR : pR1 p = mI σ (mR σ q 0) 0 := by rw [e]; rfl
  have eC : pC1 p = mI σ (mR σ q 0) 1 := by rw [e]; rfl
  have po' := shP_ok (f := f) (dr := dr) (dc := dc) po
  obtain ⟨a, ea, sa⟩ := c_sheet24 m i3 hw
  obtain ⟨f1, f2⟩ := fn (pW p) i3 hw
  unfold x17_shifted
  refine Ev.g t (Ev.g m.1 ?_)
  rw [← eW]
  refine Ev.e ea (Ev.g tc (Ev.c (c_cornerM hN g m tc (by omega) (by omega) b2 b3 sa f1 f2) (fun r _ c => ?_)))
  rcases c with ⟨er, hc⟩ | ⟨er, c1, c2, K, c3, c4, c5, c6, c7, c8, c9, c10⟩
  · subst er
    refine Ev.f (fun z => z rfl) (Ev.l (Ev.e x15_new (Ev.r (sh_gone (Kz.rf g) hA (by show mZ σ ≤ mZ σ + 2; omega) (by show mS σ ≤ mS σ + 8; omega) (fun b hb ht => by have ht : mT σ b = 18 := ht; rw [g b hb] at ht; cases ht) ?_))))
    unfold shP
    rw [if_pos h5, eF, eR, eC, if_pos hc]
  · obtain ⟨r1, s2⟩ := r
    have er : r1 = mZ σ := er
    subst er
    have lq : q < mZ σ := gOk_lt g (by omega)
    (try dsimp only at c3 c4 c5 c6 c7 c8 c9 c10 K ⊢)
    have tz : mT (wN s2 15 2) (mZ s2) = 15 := by rw [mT_wN, if_pos rfl]
    have jq : mI (wN s2 15 2) q 1 = mI σ q 1 := by rw [mI_wN, if_neg (by omega), K.rI g (by omega) (fun f => f)]
    refine Ev.g (by omega) (Ev.l ?_)
    rw [jq]
    have g1 := mI_rng σ q 1
    unfold g32 at g1
    obtain ⟨fin, hf⟩ : ∃ fin, fin = wI (wR (wN s2 15 2) (mZ s2) 0 (mZ σ)) (mZ s2) 1 (mI σ q 1) := ⟨_, rfl⟩
    refine Ev.e (r := fin) (by unfold x17_init; rw [if_pos tz, hf]; rfl) (Ev.r ?_)
    have tT : ∀ b, mT fin b = if b = mZ s2 then 15 else mT s2 b := fun b => by rw [hf, mT_wI, mT_wR, mT_wN]
    have tI : ∀ b j, b ≠ mZ s2 → mI fin b j = mI s2 b j := fun b j hb => by rw [hf, mIwI1 (by omega), mI_wR, mI_wN, if_neg hb]
    have r0 : mR fin (mZ s2) 0 = mZ σ := by rw [hf, mR_wI, mR_wR, if_pos ⟨rfl, rfl⟩]
    have j1 : mI fin (mZ s2) 1 = mI σ q 1 := by rw [hf, mIwI2 ⟨rfl, rfl⟩, w32_i (by omega) (by omega)]
    have ne : mZ σ ≠ mZ s2 := by omega
    have K2 : Kz (fun _ => False) σ fin := by
      rw [hf]
      exact ((K.wN).wR (Or.inl (by omega))).wI (Or.inl (by omega))
    have tF : cfx fin (mZ σ) = cfx s2 (mZ σ) := by unfold cfx; rw [tI _ _ ne, tI _ _ ne]
    have ep : shP f dr dc p = mkS (mvx (fxR1 (cfx σ (mR σ q 0))) (f (pW p)).1 (mI σ (mR σ q 0) 0) dr) (mvx (fxC1 (cfx σ (mR σ q 0))) (f (pW p)).2 (mI σ (mR σ q 0) 1) dc) (cfx σ (mR σ q 0)) (pW p) := by
      unfold shP
      rw [if_pos h5, eF, eR, eC, if_neg (by omega)]
    refine ⟨K2, ⟨shP f dr dc p, [], rfl, ?_, ?_, po', ?_, ⟨fun z => by have := hA _ z; omega, fun z => ?_⟩, fun i hi => absurd hi (Nat.not_lt_zero _)⟩, ?_, ?_, fun b hb ht => ?_⟩
    · rw [ep]; rfl
    · refine Or.inr (Or.inr (Or.inr (Or.inr (Or.inl ⟨by rw [tT, if_pos rfl], ?_⟩))))
      rw [r0, tT, if_neg ne, tI _ _ ne, tI _ _ ne, tI _ _ ne, tI _ _ ne, tF, j1]
      exact ⟨c3, by rw [ep, c4, c5, c6, eW], c7, c8⟩
    · rw [ep]; exact argsOk_0 (show (5 : Nat) ≤ 6 by decide) rfl
    · rw [tT, if_pos rfl] at z; cases z
    · show mZ fin ≤ mZ σ + 3 * 1
      rw [hf]; show mZ s2 + 1 ≤ _; omega
    · show mS fin ≤ mS σ + 11 * 1
      rw [hf]; show mS s2 + 2 ≤ _; omega
    · exfalso
      have ht : mT fin b = 18 := ht
      rw [tT] at ht
      by_cases y1 : b = mZ s2
      · rw [if_pos y1] at ht; cases ht
      · rw [if_neg y1] at ht
        by_cases y2 : b = mZ σ
        · rw [y2, c3] at ht; cases ht
        · rw [K.ok b (by omega)] at ht; cases ht
theorem sh_area (hN : 40 ≤ N) (fn : FN nv f) (g : gOk σ) (z0 : 0 < mZ σ) (hA : ∀ b, A b → b < mZ σ) (m : MvC σ k nv f dr dc) (t : mT σ q = 17) (tc : mT σ (mR σ q 0) = 14) (td : mT σ (mR σ q 1) = 14) (e : p = mkA (mI σ (mR σ q 0) 0) (mI σ (mR σ q 0) 1) (mI σ (mR σ q 1) 0) (mI σ (mR σ q 1) 1) (cfx σ (mR σ q 0) + 4 * cfx σ (mR σ q 1)) (mI σ q 2)) (b2 : bz1 (mI σ (mR σ q 0) 2) ∧ bz1 (mI σ (mR σ q 0) 3)) (b3 : bz1 (mI σ (mR σ q 1) 2) ∧ bz1 (mI σ (mR σ q 1) 3)) (po : PtOk p) (hw : pW p < nv) : Ev (x19_shifted N q k σ) (ShO A σ f dr dc (n + 1) [p]) := by
  have h6 : pK p = 6 := by rw [e]; rfl
  obtain ⟨i0, i1, i2, i3, i4, i5, i6⟩ := po.inv6 h6
  have eW : pW p = mI σ q 2 := by rw [e]; rfl
  have eF : pF p = cfx σ (mR σ q 0) + 4 * cfx σ (mR σ q 1) := by rw [e]; rfl
  have eR : pR1 p = mI σ (mR σ q 0) 0 := by rw [e]; rfl
  have eC : pC1 p = mI σ (mR σ q 0) 1 := by rw [e]; rfl
  have eR2 : pR2 p = mI σ (mR σ q 1) 0 := by rw [e]; rfl
  have eC2 : pC2 p = mI σ (mR σ q 1) 1 := by rw [e]; rfl
  have l1 := cfx_lt (mR σ q 0) σ
  have l2 := cfx_lt (mR σ q 1) σ
  have F1 : fxR1 (pF p) = fxR1 (cfx σ (mR σ q 0)) := by rw [eF]; unfold fxR1; exact decide_eq_decide.mpr (by omega)
  have F2 : fxC1 (pF p) = fxC1 (cfx σ (mR σ q 0)) := by rw [eF]; unfold fxC1; exact decide_eq_decide.mpr (by omega)
  have F3 : fxR1 (pF p / 4) = fxR1 (cfx σ (mR σ q 1)) := by rw [eF]; unfold fxR1; exact decide_eq_decide.mpr (by omega)
  have F4 : fxC1 (pF p / 4) = fxC1 (cfx σ (mR σ q 1)) := by rw [eF]; unfold fxC1; exact decide_eq_decide.mpr (by omega)
  have po' := shP_ok (f := f) (dr := dr) (dc := dc) po
  obtain ⟨a, ea, sa⟩ := c_sheet24 m i5 hw
  obtain ⟨f1, f2⟩ := fn (pW p) i5 hw
  have lq : q < mZ σ := gOk_lt g (by omega)
  have ld : mR σ q 1 < mZ σ := gOk_lt g (by omega)
  unfold x19_shifted
  refine Ev.g t (Ev.g m.1 ?_)
  rw [← eW]
  refine Ev.e ea (Ev.g tc (Ev.c (c_cornerM hN g m tc (by omega) (by omega) b2.1 b2.2 sa f1 f2) (fun r _ c => ?_)))
  have KR : Kz (fun _ => False) σ r.2 := by
    rcases c with ⟨er, hc⟩ | ⟨er, c1, c2, K, -⟩
    · rw [er]; exact Kz.rf g
    · exact K
  have cq : mR r.2 q 1 = mR σ q 1 := KR.rR g (by omega) (fun f => f) 1
  have cI : ∀ j, mI r.2 (mR σ q 1) j = mI σ (mR σ q 1) j := fun j => KR.rI g (by omega) (fun f => f) j
  have cF : cfx r.2 (mR σ q 1) = cfx σ (mR σ q 1) := by unfold cfx; rw [cI, cI]
  rw [cq]
  refine Ev.g (by rw [KR.tag g (by omega)]; exact td) (Ev.c (c_cornerM hN KR.ok (m.kp KR g) (by rw [KR.tag g (by omega)]; exact td) (by rw [cI]; omega) (by rw [cI]; omega) (by rw [cI]; exact b3.1) (by rw [cI]; exact b3.2) (sa.kp KR g (fun f => f) (fun f => f) (fun f => f)) f1 f2) (fun r' _ c' => ?_))
  unfold CrM at c'
  rw [cI, cI, cF] at c'
  have n18r : mZ r.2 ≤ mZ σ + 1 ∧ mS r.2 ≤ mS σ + 4 ∧ ∀ b, mZ σ ≤ b → mT r.2 b ≠ 18 := by
    rcases c with ⟨er, hc⟩ | ⟨er, c1, c2, K, c3, c4, c5, c6, c7, c8, c9, c10⟩
    · rw [er]; exact ⟨by show mZ σ ≤ _; omega, by show mS σ ≤ _; omega, fun b hb ht => by have ht : mT σ b = 18 := ht; rw [g b hb] at ht; cases ht⟩
    · refine ⟨by omega, by omega, fun b hb ht => ?_⟩
      by_cases y2 : b = mZ σ
      · rw [y2, c3] at ht; cases ht
      · rw [K.ok b (by omega)] at ht; cases ht
  obtain ⟨zr, sr, n18⟩ := n18r
  have KR' : Kz (fun _ => False) r.2 r'.2 := by
    rcases c' with ⟨er, hc⟩ | ⟨er, c1, c2, K, -⟩
    · rw [er]; exact Kz.rf KR.ok
    · exact K
  have n18r' : mZ r'.2 ≤ mZ r.2 + 1 ∧ mS r'.2 ≤ mS r.2 + 4 ∧ ∀ b, mZ σ ≤ b → mT r'.2 b ≠ 18 := by
    rcases c' with ⟨er, hc⟩ | ⟨er, c1, c2, K, c3, c4, c5, c6, c7, c8, c9, c10⟩
    · rw [er]; exact ⟨by show mZ r.2 ≤ _; omega, by show mS r.2 ≤ _; omega, n18⟩
    · refine ⟨by omega, by omega, fun b hb ht => ?_⟩
      by_cases y2 : b = mZ r.2
      · rw [y2, c3] at ht; cases ht
      · by_cases y3 : b < mZ r.2
        · rw [(K.2.2.1 b y3).1] at ht; exact n18 b hb ht
        · rw [K.ok b (by omega)] at ht; cases ht
  obtain ⟨zr', sr', n18'⟩ := n18r'
  have GONE : (mvx (fxR1 (cfx σ (mR σ q 0))) (f (pW p)).1 (mI σ (mR σ q 0) 0) dr < 0 ∨ mvx (fxC1 (cfx σ (mR σ q 0))) (f (pW p)).2 (mI σ (mR σ q 0) 1) dc < 0) ∨ (mvx (fxR1 (cfx σ (mR σ q 1))) (f (pW p)).1 (mI σ (mR σ q 1) 0) dr < 0 ∨ mvx (fxC1 (cfx σ (mR σ q 1))) (f (pW p)).2 (mI σ (mR σ q 1) 1) dc < 0) → ShO A σ f dr dc (n + 1) [p] (mZ r'.2, wN r'.2 13 0) := by
    intro hc
    refine sh_gone (KR.tr KR') hA (by omega) (by omega) n18' ?_
    unfold shP
    rw [if_neg (by omega), if_pos h6, F1, F2, F3, F4, eR, eC, eR2, eC2, if_pos (by omega)]
  rcases c with ⟨er, hc⟩ | ⟨er, c1, c2, K, c3, c4, c5, c6, c7, c8, c9, c10⟩
  · exact Ev.g (by rw [er]) (Ev.l (Ev.e x15_new (Ev.r (GONE (Or.inl hc)))))
  · refine Ev.f (by omega) ?_
    rcases c' with ⟨er', hc'⟩ | ⟨er', d1, d2, K', d3, d4, d5, d6, d7, d8, d9, d10⟩
    · exact Ev.f (fun z => z (by rw [er'])) (Ev.l (Ev.e x15_new (Ev.r (GONE (Or.inr hc')))))
    · obtain ⟨r1, s2⟩ := r
      obtain ⟨r1', s3⟩ := r'
      have er : r1 = mZ σ := er
      have er' : r1' = mZ s2 := er'
      subst er
      subst er'
      (try dsimp only at c3 c4 c5 c6 c7 c8 c9 c10 K d3 d4 d5 d6 d7 d8 d9 d10 K' KR KR' zr sr n18 zr' sr' n18' ⊢)
      have K13 := KR.tr KR'
      have tz : mT (wN s3 17 3) (mZ s3) = 17 := by rw [mT_wN, if_pos rfl]
      have jq : mI (wN s3 17 3) q 2 = mI σ q 2 := by rw [mI_wN, if_neg (by omega), K13.rI g (by omega) (fun f => f)]
      refine Ev.g (by omega) (Ev.l ?_)
      rw [jq]
      have g1 := mI_rng σ q 2
      unfold g32 at g1
      obtain ⟨fin, hf⟩ : ∃ fin, fin = wI (wR (wR (wN s3 17 3) (mZ s3) 0 (mZ σ)) (mZ s3) 1 (mZ s2)) (mZ s3) 2 (mI σ q 2) := ⟨_, rfl⟩
      refine Ev.e (r := fin) (by unfold x19_init; rw [if_pos tz, hf]; rfl) (Ev.r ?_)
      have tT : ∀ b, mT fin b = if b = mZ s3 then 17 else mT s3 b := fun b => by rw [hf, mT_wI, mT_wR, mT_wR, mT_wN]
      have tI : ∀ b j, b ≠ mZ s3 → mI fin b j = mI s3 b j := fun b j hb => by rw [hf, mIwI1 (by omega), mI_wR, mI_wR, mI_wN, if_neg hb]
      have r0 : mR fin (mZ s3) 0 = mZ σ := by rw [hf, mR_wI, mR_wR, if_neg (by omega), mR_wR, if_pos ⟨rfl, rfl⟩]
      have r1 : mR fin (mZ s3) 1 = mZ s2 := by rw [hf, mR_wI, mR_wR, if_pos ⟨rfl, rfl⟩]
      have j1 : mI fin (mZ s3) 2 = mI σ q 2 := by rw [hf, mIwI2 ⟨rfl, rfl⟩, w32_i (by omega) (by omega)]
      have ne : mZ σ ≠ mZ s3 := by omega
      have ne2 : mZ s2 ≠ mZ s3 := by omega
      have K2 : Kz (fun _ => False) σ fin := by
        rw [hf]
        exact (((K13.wN).wR (Or.inl (by omega))).wR (Or.inl (by omega))).wI (Or.inl (by omega))
      have uI : ∀ j, mI s3 (mZ σ) j = mI s2 (mZ σ) j := fun j => K'.rI K.ok (by omega) (fun f => f) j
      have uT : mT s3 (mZ σ) = 14 := by rw [K'.tag K.ok (by omega)]; exact c3
      have tF : cfx fin (mZ σ) = cfx s2 (mZ σ) := by unfold cfx; rw [tI _ _ ne, tI _ _ ne, uI, uI]
      have tF2 : cfx fin (mZ s2) = cfx s3 (mZ s2) := by unfold cfx; rw [tI _ _ ne2, tI _ _ ne2]
      have ep : shP f dr dc p = mkA (mvx (fxR1 (cfx σ (mR σ q 0))) (f (pW p)).1 (mI σ (mR σ q 0) 0) dr) (mvx (fxC1 (cfx σ (mR σ q 0))) (f (pW p)).2 (mI σ (mR σ q 0) 1) dc) (mvx (fxR1 (cfx σ (mR σ q 1))) (f (pW p)).1 (mI σ (mR σ q 1) 0) dr) (mvx (fxC1 (cfx σ (mR σ q 1))) (f (pW p)).2 (mI σ (mR σ q 1) 1) dc) (pF p) (pW p) := by
        unfold shP
        rw [if_neg (by omega), if_pos h6, F1, F2, F3, F4, eR, eC, eR2, eC2, if_neg (by omega)]
      refine ⟨K2, ⟨shP f dr dc p, [], rfl, ?_, ?_, po', ?_, ⟨fun z => by have := hA _ z; omega, fun z => ?_⟩, fun i hi => absurd hi (Nat.not_lt_zero _)⟩, ?_, ?_, fun b hb ht => ?_⟩
      · rw [ep]; rfl
      · refine Or.inr (Or.inr (Or.inr (Or.inr (Or.inr (Or.inl ⟨by rw [tT, if_pos rfl], ?_⟩)))))
        rw [r0, r1, tT, if_neg ne, tT, if_neg ne2, tI _ _ ne, tI _ _ ne, tI _ _ ne, tI _ _ ne, tI _ _ ne2, tI _ _ ne2, tI _ _ ne2, tI _ _ ne2, tF, tF2, j1, uI, uI, uI, uI]
        exact ⟨uT, d3, by rw [ep, c4, c5, c6, d4, d5, d6, eF, eW], ⟨c7, c8⟩, d7, d8⟩
      · rw [ep]; exact argsOk_0 (show (6 : Nat) ≤ 6 by decide) rfl
      · rw [tT, if_pos rfl] at z; cases z
      · show mZ fin ≤ mZ σ + 3 * 1
        rw [hf]; show mZ s3 + 1 ≤ _; omega
      · show mS fin ≤ mS σ + 11 * 1
        rw [hf]; show mS s3 + 3 ≤ _; omega
      · exfalso
        have ht : mT fin b = 18 := ht
        rw [tT] at ht
        by_cases y1 : b = mZ s3
        · rw [if_pos y1] at ht; cases ht
        · rw [if_neg y1] at ht; exact n18' b hb ht
end State62
