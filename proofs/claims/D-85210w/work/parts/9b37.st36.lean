/-! ===== PHASE 2: the act diff, whole ===== -/
section State36
variable {N x h u nv pa un fs i j t k n q : Nat} {σ τ s r s' r' : gMem} {own rt : Nat → Nat} {S : Sh} {Gs : Nat → Sh} {g : Nat → Nat → Vl} {v w ax cd0 : Int}
def cdDf : List (String × Int) := [("java/util/NoSuchElementException", 1)]
/-- diff -/
theorem op_diff (hN : 2000 ≤ N) (R : RL x h t σ τ) : E2 (x1_diff N x v w σ) (tw_diff N h v w τ) (OpO x h t cdDf σ τ) := by
  obtain ⟨nv, pa, un, fs, Gs, g, own, rt, R⟩ := R
  have l := R.1.1
  have hh := R.1.2.1.1
  have Rt := R.t0 (v := 0)
  have i0 : mI (wI τ h 0 0) h 0 = 0 := by rw [mIwI2 ⟨rfl, rfl⟩, w32_i (by omega) (by omega)]
  unfold x1_diff tw_diff
  refine E2.lg l.1.1 (E2.le (R.sheetOf v) (E2.le (R.sheetOf w) (E2.rl (E2.re (Rt.isSheet v) ?_))))
  by_cases cv : -1 ≤ v ∧ v < nv
  · have hi := rix_v (pa := pa) (un := un) cv.1 cv.2
    rw [if_pos cv, if_pos cv]
    refine E2.lf (R.rt0 hi) (E2.rf (by decide) (E2.re (Rt.isSheet w) ?_))
    by_cases cw : -1 ≤ w ∧ w < nv
    · have hj := rix_v (pa := pa) (un := un) cw.1 cw.2
      rw [if_pos cw, if_pos cw]
      refine E2.lg (R.rt0 hj) (E2.rg (by decide) (E2.re (t_sheetAt (fs := fs) v) (E2.re (t_sheetAt (fs := fs) w) (E2.ll (E2.rl ?_)))))
      have D0 : DfS x h t nv pa un fs Gs g own rt σ (wI τ h 0 0) 0 (wI σ x 29 0) (wI (wI τ h 0 0) h 104 0) := by
        have X : Ex (DfC x) σ (wI σ x 29 0) := Ex.rf.I (Or.inl ⟨rfl, rfl⟩)
        have Y : Ex (DfP h) (wI τ h 0 0) (wI (wI τ h 0 0) h 104 0) := Ex.rf.I (Or.inl ⟨rfl, rfl⟩)
        have i29 : mI (wI σ x 29 0) x 29 = 0 := by rw [mIwI2 ⟨rfl, rfl⟩, w32_i (by omega) (by omega)]
        exact ⟨Rt.dff X Y ⟨0, by omega, i29, by rw [mIwI2 ⟨rfl, rfl⟩, w32_i (by omega) (by omega)]; rfl, fun k hk => absurd hk (by omega)⟩, i29, X, Y⟩
      have lei := R.2.1.len hi
      have lej := R.2.1.len hj
      have r0 : ∀ i : Nat, (axL (Gs i) 0) = (Gs i).1.1 := fun i => rfl
      have r1 : ∀ i : Nat, (axL (Gs i) 1) = (Gs i).1.2 := fun i => rfl
      have k1 : w32 (2 * (0 : Int) + 1) = 1 := (w32_i (by omega) (by omega)).trans (by omega)
      have k2 : w32 (2 * (0 : Int) + 2) = 2 := (w32_i (by omega) (by omega)).trans (by omega)
      have k3 : w32 (2 * (1 : Int) + 1) = 3 := (w32_i (by omega) (by omega)).trans (by omega)
      have k4 : w32 (2 * (1 : Int) + 2) = 4 := (w32_i (by omega) (by omega)).trans (by omega)
      have k5 : w32 ((0 : Int) + 1) = 1 := (w32_i (by omega) (by omega)).trans (by omega)
      have k6 : w32 ((1 : Int) + 1) = 2 := (w32_i (by omega) (by omega)).trans (by omega)
      obtain ⟨N', hN'⟩ : ∃ N', N = N' + 3 := ⟨N - 3, by omega⟩
      have u46 : ∀ (K : gMem → Option (Int × gMem)) (s : gMem), tw_diff_l46 N h (tsN fs (rix v)) (tsN fs (rix w)) K N 0 s = (tw_linesAlone N h (tsN fs (rix v)) (tsN fs (rix w)) 0 1 s).bind fun x => (tw_linesAlone N h (tsN fs (rix w)) (tsN fs (rix v)) 0 2 x).bind fun x => (tw_linesAlone N h (tsN fs (rix v)) (tsN fs (rix w)) 1 3 x).bind fun x => (tw_linesAlone N h (tsN fs (rix w)) (tsN fs (rix v)) 1 4 x).bind K := by
        intro K s
        have st : ∀ f v5 s, tw_diff_l46 N h (tsN fs (rix v)) (tsN fs (rix w)) K (f + 1) v5 s = if 2 ≤ v5 then K s else (tw_linesAlone N h (tsN fs (rix v)) (tsN fs (rix w)) v5 (w32 (2 * v5 + 1)) s).bind fun x => (tw_linesAlone N h (tsN fs (rix w)) (tsN fs (rix v)) v5 (w32 (2 * v5 + 2)) x).bind fun x => tw_diff_l46 N h (tsN fs (rix v)) (tsN fs (rix w)) K f (w32 (v5 + 1)) x := fun f v5 s => rfl
        have e0 : ∀ s, tw_diff_l46 N h (tsN fs (rix v)) (tsN fs (rix w)) K (N' + 3) 0 s = tw_diff_l46 N h (tsN fs (rix v)) (tsN fs (rix w)) K N 0 s := fun s => by rw [← hN']
        rw [← e0, st, if_neg (by decide), k1, k2, k5]
        simp only [st, k3, k4, k6]
        rfl
      have u91 : ∀ (K : gMem → Option (Int × gMem)) (s : gMem), tw_diff_l91 N h (tsN fs (rix v)) (tsN fs (rix w)) K N 0 s = (tw_sameOrder N h (tsN fs (rix v)) (tsN fs (rix w)) (tsN fs (rix w)) 0 s).bind fun y => if y ≠ 0 then tw_diff_l91 N h (tsN fs (rix v)) (tsN fs (rix w)) K (N' + 2) 1 s else (tw_differ h (w32 (5 + 0)) 0 0 s).bind (tw_diff_l91 N h (tsN fs (rix v)) (tsN fs (rix w)) K (N' + 2) 1) := by
        intro K s
        have e0 : tw_diff_l91 N h (tsN fs (rix v)) (tsN fs (rix w)) K (N' + 3) 0 s = tw_diff_l91 N h (tsN fs (rix v)) (tsN fs (rix w)) K N 0 s := by rw [← hN']
        rw [← e0, tw_diff_l91, if_neg (by decide)]
        unfold tw_diff_l91_j121
        rw [k5]
      have u91b : ∀ (K : gMem → Option (Int × gMem)) (s : gMem), tw_diff_l91 N h (tsN fs (rix v)) (tsN fs (rix w)) K (N' + 2) 1 s = (tw_sameOrder N h (tsN fs (rix v)) (tsN fs (rix w)) (tsN fs (rix w)) 1 s).bind fun y => if y ≠ 0 then K s else (tw_differ h (w32 (5 + 1)) 0 0 s).bind K := by
        intro K s
        have fin : ∀ s, tw_diff_l91 N h (tsN fs (rix v)) (tsN fs (rix w)) K (N' + 1) 2 s = K s := fun s => by rw [tw_diff_l91, if_pos (by decide)]
        rw [tw_diff_l91, if_neg (by decide)]
        unfold tw_diff_l91_j121
        rw [k6]
        simp only [fin]
      rw [u46]
      refine E2.cc (both_alone hN (Or.inl rfl) hi hj (B := 0) (by rw [r0]; omega) (by omega) D0) (fun a b z => ?_)
      obtain ⟨n1, hn1, D1⟩ := z
      rw [r0] at hn1
      refine E2.cc (both_alone hN (Or.inl rfl) hj hi (B := 32) (by rw [r0]; omega) (by omega) D1) (fun a b z => ?_)
      obtain ⟨n2, hn2, D2⟩ := z
      rw [r0] at hn2
      refine E2.cc (both_alone hN (Or.inr rfl) hi hj (B := 64) (by rw [r1]; omega) (by omega) D2) (fun a b z => ?_)
      obtain ⟨n3, hn3, D3⟩ := z
      rw [r1] at hn3
      refine E2.cc (both_alone hN (Or.inr rfl) hj hi (B := 74) (by rw [r1]; omega) (by omega) D3) (fun a b z => ?_)
      obtain ⟨n4, hn4, D4⟩ := z
      rw [r1] at hn4
      rw [u91]
      refine both_order hN (Or.inl rfl) hi hj (by omega) D4 (fun a b n5 hn5 D5 => ?_)
      rw [u91b]
      refine both_order hN (Or.inr rfl) hi hj (by omega) D5 (fun a b n6 hn6 D6 => ?_)
      refine cells_out hN hi hj (B := 86) (by omega) (fun s r n7 hn7 D7 => ?_) (Gs (rix w)).1.1.length 0 N N n6 a b (by omega) (by omega) (by omega) (by omega) D6
      have l7 := D7.1.1.1
      obtain ⟨n8, n8b, d1, d2, -⟩ := D7.1.df
      obtain ⟨R7, -, X, Y⟩ := D7
      refine E2.lg l7.1.1 (E2.r ⟨⟨_, _, _, _, _, _, _, _, R7.t1⟩, ⟨X.kp l.ok (fun a k p => by unfold DfC at p; unfold NoT; omega), 0, ?_, ?_, ?_⟩, (Ex.rf.I (by unfold TwA; omega)).tr (Y.mono (fun a k p => by unfold DfP at p; unfold TwA; omega)), Or.inl ⟨n8, ?_, d2, ?_, ⟨by omega, by omega⟩⟩⟩)
      · show mI s x 17 = _
        rw [X.rI (by unfold DfC; omega)]; omega
      · show mZ s ≤ _; rw [X.rZ]; omega
      · show mS s ≤ _; rw [X.rS]; omega
      · (try dsimp only)
        rw [d1]
      · show mI r h 0 = 0
        rw [Y.rI (by unfold DfP; omega)]; exact i0
    · rw [if_neg cw, if_neg cw]
      exact E2.lf (fun z => z rfl) (E2.rf (fun z => z rfl) (E2.r (OpO.ex R (by decide) (by decide))))
  · rw [if_neg cv, if_neg cv]
    exact E2.lg rfl (E2.rg rfl (E2.r (OpO.ex R (by decide) (by decide))))
end State36
