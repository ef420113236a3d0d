/-! ===== frames of the component (printed by gen_fc.py) ===== -/
theorem fc_x1_word_l3 {q : FQ} {σ0 τ : gMem} {N : Nat} {v0 : Nat} {v1 : Int} {K : gMem → Option gMem} (hq : FL ([1], [(1, 0)], [], []) q) (D : FD q) (hK : ∀ (a0 : gMem), FC q σ0 a0 → TE τ a0 → Fo (fun r => FC q σ0 r ∧ TE τ r) (K a0)) : ∀ (n : Nat) (z0 : Int) (z1 : gMem), FC q σ0 z1 → TE τ z1 → Fo (fun r => FC q σ0 r ∧ TE τ r) (x1_word_l3 N v0 v1 K n z0 z1) := by
  intro n
  induction n with
  | zero => intros; exact Fo.none
  | succ n ih =>
    intro v2 s hs ts
    unfold x1_word_l3
    refine Fo.ite (fun _ => ?_) (fun _ => ?_)
    · exact (hK _ hs ts)
    · refine Fo.ite (fun c2 => ?_) (fun _ => Fo.none)
      refine Fo.ite (fun c3 => ?_) (fun _ => Fo.none)
      refine Fo.ite (fun _ => ?_) (fun _ => Fo.none)
      refine FC.lIp D hs c2 (hq.2.1 (by decide)) (fun s4 q5 e6 => ?_)
      refine FC.lIo q5 (e6 _ _ (by decide) c2) (hq.1 (by decide)) (fun s7 q7 e8 => ?_)
      exact (ih _ _  q7 (TE.tr (TE.tr ts e6) e8))
theorem fc_x1_word {q : FQ} {σ0 : gMem} {N : Nat} {v0 : Nat} {v1 : Int} {σ : gMem} (hq : FL ([1], [(1, 0)], [], []) q) (D : FD q) (hσ : FC q σ0 σ) : Fo (fun r => FC q σ0 r ∧ TE σ r) (x1_word N v0 v1 σ) := by
  unfold x1_word
  exact (fc_x1_word_l3 (τ := σ) hq D  (fun s9 q9 e10 => by
      exact Fo.some ⟨q9, e10⟩) _ _ _  hσ TE.rf)
theorem fc_x1_end {q : FQ} {σ0 : gMem} {v0 : Nat} {v1 : Int} {σ : gMem} (hq : FL ([1], [], [], []) q) (D : FD q) (hσ : FC q σ0 σ) : Fo (fun r => FC q σ0 r.2 ∧ TE σ r.2) (x1_end v0 v1 σ) := by
  unfold x1_end
  refine Fo.ite (fun _ => ?_) (fun _ => ?_)
  · exact Fo.some ⟨hσ, TE.rf⟩
  · refine Fo.ite (fun c12 => ?_) (fun _ => Fo.none)
    refine Fo.ite (fun _ => ?_) (fun _ => ?_)
    · refine FC.lIo hσ c12 (hq.1 (by decide)) (fun s3 q14 e15 => ?_)
      exact Fo.some ⟨q14, (TE.tr TE.rf e15)⟩
    · exact Fo.some ⟨hσ, TE.rf⟩
theorem fc_x1_forget {q : FQ} {σ0 : gMem} {v0 : Nat} {σ : gMem} (hq : FL ([1], [], [], []) q) (D : FD q) (hσ : FC q σ0 σ) : Fo (fun r => FC q σ0 r ∧ TE σ r) (x1_forget v0 σ) := by
  unfold x1_forget
  refine Fo.ite (fun c16 => ?_) (fun _ => Fo.none)
  refine FC.lIo hσ c16 (hq.1 (by decide)) (fun s2 q17 e18 => ?_)
  refine FC.lIo q17 (e18 _ _ (by decide) c16) (hq.1 (by decide)) (fun s4 q19 e20 => ?_)
  refine FC.lIo q19 (e20 _ _ (by decide) (e18 _ _ (by decide) c16)) (hq.1 (by decide)) (fun s6 q21 e22 => ?_)
  exact Fo.some ⟨q21, (TE.tr (TE.tr (TE.tr TE.rf e18) e20) e22)⟩
theorem fc_x1_with {q : FQ} {σ0 : gMem} {v0 : Nat} {v1 : Int} {v2 : Int} {σ : gMem} (hq : FL ([], [], [], [100]) q) (D : FD q) (hσ : FC q σ0 σ) : Fo (fun r => FC q σ0 r.2 ∧ TE σ r.2) (x1_with v0 v1 v2 σ) := by
  unfold x1_with
  refine Fo.ite (fun c23 => ?_) (fun _ => Fo.none)
  refine Fo.ite (fun _ => ?_) (fun _ => Fo.none)
  refine FC.lN hσ (hq.2.2.2 (by decide)) (fun s4 q25 e26 => ?_)
  refine Fo.ite (fun _ => ?_) (fun _ => Fo.none)
  refine FC.lCIf D q25 (FC.le hσ) (fun s7 q28 e29 => ?_)
  refine Fo.ite (fun _ => ?_) (fun _ => Fo.none)
  refine FC.lIf D q28 (FC.le hσ) (fun s9 q31 e32 => ?_)
  refine Fo.ite (fun _ => ?_) (fun _ => Fo.none)
  refine FC.lCIf D q31 (FC.le hσ) (fun s12 q34 e35 => ?_)
  exact Fo.some ⟨q34, (TE.tr (TE.tr (TE.tr (TE.tr TE.rf e26) e29) e32) e35)⟩
theorem fc_x1_without {q : FQ} {σ0 : gMem} {v0 : Nat} {v1 : Int} {σ : gMem} (hq : FL ([], [], [], [100]) q) (D : FD q) (hσ : FC q σ0 σ) : Fo (fun r => FC q σ0 r.2 ∧ TE σ r.2) (x1_without v0 v1 σ) := by
  unfold x1_without
  refine Fo.ite (fun c36 => ?_) (fun _ => Fo.none)
  refine Fo.ite (fun _ => ?_) (fun _ => Fo.none)
  refine FC.lN hσ (hq.2.2.2 (by decide)) (fun s4 q38 e39 => ?_)
  refine Fo.ite (fun _ => ?_) (fun _ => Fo.none)
  refine FC.lCIf D q38 (FC.le hσ) (fun s7 q41 e42 => ?_)
  refine Fo.ite (fun _ => ?_) (fun _ => Fo.none)
  refine FC.lCIf D q41 (FC.le hσ) (fun s10 q44 e45 => ?_)
  exact Fo.some ⟨q44, (TE.tr (TE.tr (TE.tr TE.rf e39) e42) e45)⟩
theorem fc_x1_undo {q : FQ} {σ0 : gMem} {v0 : Nat} {σ : gMem} (hq : FL ([1], [(1, 12)], [(1, 8)], []) q) (D : FD q) (hσ : FC q σ0 σ) : Fo (fun r => FC q σ0 r.2 ∧ TE σ r.2) (x1_undo v0 σ) := by
  unfold x1_undo
  refine Fo.ite (fun c46 => ?_) (fun _ => Fo.none)
  refine Fo.ite (fun _ => ?_) (fun _ => ?_)
  · refine Fo.ite (fun c48 => ?_) (fun _ => Fo.none)
    refine Fo.ite (fun _ => ?_) (fun _ => Fo.none)
    refine Fo.ite (fun _ => ?_) (fun _ => Fo.none)
    refine FC.lRp D hσ c46 (hq.2.1 (by decide)) c48 (by decide) (fun s6 q51 e52 => ?_)
    refine FC.lIo q51 (e52 _ _ (by decide) c46) (hq.1 (by decide)) (fun s9 q53 e54 => ?_)
    refine FC.lIo q53 (e54 _ _ (by decide) (e52 _ _ (by decide) c46)) (hq.1 (by decide)) (fun s12 q55 e56 => ?_)
    refine Fo.ite (fun c57 => ?_) (fun _ => Fo.none)
    refine Fo.ite (fun _ => ?_) (fun _ => Fo.none)
    refine FC.lRr D q55 (e56 _ _ (by decide) (e54 _ _ (by decide) (e52 _ _ (by decide) c46))) (by decide) (hq.2.2.1 (by decide)) (fun s16 q59 e60 => ?_)
    refine FC.lIo q59 (e60 _ _ (by decide) (e56 _ _ (by decide) (e54 _ _ (by decide) (e52 _ _ (by decide) c46)))) (hq.1 (by decide)) (fun s18 q61 e62 => ?_)
    exact Fo.some ⟨q61, (TE.tr (TE.tr (TE.tr (TE.tr (TE.tr TE.rf e52) e54) e56) e60) e62)⟩
  · exact Fo.some ⟨(FC.x hσ), (TE.tr TE.rf TE.x)⟩
theorem fc_x1_redo {q : FQ} {σ0 : gMem} {v0 : Nat} {σ : gMem} (hq : FL ([1], [(1, 11)], [(1, 8)], []) q) (D : FD q) (hσ : FC q σ0 σ) : Fo (fun r => FC q σ0 r.2 ∧ TE σ r.2) (x1_redo v0 σ) := by
  unfold x1_redo
  refine Fo.ite (fun c63 => ?_) (fun _ => Fo.none)
  refine Fo.ite (fun _ => ?_) (fun _ => ?_)
  · refine Fo.ite (fun c65 => ?_) (fun _ => Fo.none)
    refine Fo.ite (fun _ => ?_) (fun _ => Fo.none)
    refine Fo.ite (fun _ => ?_) (fun _ => Fo.none)
    refine FC.lRp D hσ c63 (hq.2.1 (by decide)) c65 (by decide) (fun s6 q68 e69 => ?_)
    refine FC.lIo q68 (e69 _ _ (by decide) c63) (hq.1 (by decide)) (fun s9 q70 e71 => ?_)
    refine FC.lIo q70 (e71 _ _ (by decide) (e69 _ _ (by decide) c63)) (hq.1 (by decide)) (fun s12 q72 e73 => ?_)
    refine Fo.ite (fun c74 => ?_) (fun _ => Fo.none)
    refine Fo.ite (fun _ => ?_) (fun _ => Fo.none)
    refine FC.lRr D q72 (e73 _ _ (by decide) (e71 _ _ (by decide) (e69 _ _ (by decide) c63))) (by decide) (hq.2.2.1 (by decide)) (fun s16 q76 e77 => ?_)
    refine FC.lIo q76 (e77 _ _ (by decide) (e73 _ _ (by decide) (e71 _ _ (by decide) (e69 _ _ (by decide) c63)))) (hq.1 (by decide)) (fun s18 q78 e79 => ?_)
    exact Fo.some ⟨q78, (TE.tr (TE.tr (TE.tr (TE.tr (TE.tr TE.rf e69) e71) e73) e77) e79)⟩
  · exact Fo.some ⟨(FC.x hσ), (TE.tr TE.rf TE.x)⟩
theorem fc_x1_differ {q : FQ} {σ0 : gMem} {v0 : Nat} {v1 : Int} {v2 : Int} {v3 : Int} {σ : gMem} (hq : FL ([1], [(1, 26), (1, 27), (1, 28)], [], []) q) (D : FD q) (hσ : FC q σ0 σ) : Fo (fun r => FC q σ0 r ∧ TE σ r) (x1_differ v0 v1 v2 v3 σ) := by
  unfold x1_differ
  refine Fo.ite (fun c80 => ?_) (fun _ => Fo.none)
  refine Fo.ite (fun c81 => ?_) (fun _ => Fo.none)
  refine Fo.ite (fun _ => ?_) (fun _ => Fo.none)
  refine FC.lIp D hσ c80 (hq.2.1 (by decide)) (fun s4 q83 e84 => ?_)
  refine Fo.ite (fun c85 => ?_) (fun _ => Fo.none)
  refine Fo.ite (fun _ => ?_) (fun _ => Fo.none)
  refine FC.lIp D q83 (e84 _ _ (by decide) c80) (hq.2.1 (by decide)) (fun s8 q87 e88 => ?_)
  refine Fo.ite (fun c89 => ?_) (fun _ => Fo.none)
  refine Fo.ite (fun _ => ?_) (fun _ => Fo.none)
  refine FC.lIp D q87 (e88 _ _ (by decide) (e84 _ _ (by decide) c80)) (hq.2.1 (by decide)) (fun s12 q91 e92 => ?_)
  refine FC.lIo q91 (e92 _ _ (by decide) (e88 _ _ (by decide) (e84 _ _ (by decide) c80))) (hq.1 (by decide)) (fun s15 q93 e94 => ?_)
  exact Fo.some ⟨q93, (TE.tr (TE.tr (TE.tr (TE.tr TE.rf e84) e88) e92) e94)⟩
theorem fc_x13_leads {q : FQ} {σ0 : gMem} {v0 : Nat} {v1 : Nat} {v2 : Nat} {σ : gMem} (hq : FL ([], [], [], []) q) (D : FD q) (hσ : FC q σ0 σ) : Fo (fun r => FC q σ0 r ∧ TE σ r) (x13_leads v0 v1 v2 σ) := by
  unfold x13_leads
  exact Fo.some ⟨hσ, TE.rf⟩
theorem fc_x13_init {q : FQ} {σ0 : gMem} {v0 : Nat} {v1 : Int} {σ : gMem} (hq : FL ([], [], [], []) q) (D : FD q) (gv0 : mZ σ0 ≤ v0) (hσ : FC q σ0 σ) : Fo (fun r => FC q σ0 r ∧ TE σ r) (x13_init v0 v1 σ) := by
  unfold x13_init
  refine Fo.ite (fun c95 => ?_) (fun _ => Fo.none)
  refine FC.lLf D hσ gv0 (fun s2 q96 e97 => ?_)
  exact Fo.some ⟨q96, (TE.tr TE.rf e97)⟩
theorem fc_x13_shifted {q : FQ} {σ0 : gMem} {v0 : Nat} {v1 : Nat} {σ : gMem} (hq : FL ([], [], [], []) q) (D : FD q) (hσ : FC q σ0 σ) : Fo (fun r => FC q σ0 r.2 ∧ TE σ r.2) (x13_shifted v0 v1 σ) := by
  unfold x13_shifted
  exact Fo.some ⟨hσ, TE.rf⟩
theorem fc_x14_leads {q : FQ} {σ0 : gMem} {v0 : Nat} {v1 : Nat} {v2 : Nat} {σ : gMem} (hq : FL ([], [], [], []) q) (D : FD q) (hσ : FC q σ0 σ) : Fo (fun r => FC q σ0 r ∧ TE σ r) (x14_leads v0 v1 v2 σ) := by
  unfold x14_leads
  exact Fo.some ⟨hσ, TE.rf⟩
theorem fc_x14_init {q : FQ} {σ0 : gMem} {v0 : Nat} {v1 : Nat} {σ : gMem} (hq : FL ([], [], [], []) q) (D : FD q) (gv0 : mZ σ0 ≤ v0) (hσ : FC q σ0 σ) : Fo (fun r => FC q σ0 r ∧ TE σ r) (x14_init v0 v1 σ) := by
  unfold x14_init
  refine Fo.ite (fun c98 => ?_) (fun _ => Fo.none)
  refine FC.lRf D hσ gv0 (fun s2 q99 e100 => ?_)
  exact Fo.some ⟨q99, (TE.tr TE.rf e100)⟩
theorem fc_x14_shifted {q : FQ} {σ0 : gMem} {v0 : Nat} {v1 : Nat} {σ : gMem} (hq : FL ([], [], [], []) q) (D : FD q) (hσ : FC q σ0 σ) : Fo (fun r => FC q σ0 r.2 ∧ TE σ r.2) (x14_shifted v0 v1 σ) := by
  unfold x14_shifted
  exact Fo.some ⟨hσ, TE.rf⟩
theorem fc_x15_leads {q : FQ} {σ0 : gMem} {v0 : Nat} {v1 : Nat} {v2 : Nat} {σ : gMem} (hq : FL ([], [], [], []) q) (D : FD q) (hσ : FC q σ0 σ) : Fo (fun r => FC q σ0 r ∧ TE σ r) (x15_leads v0 v1 v2 σ) := by
  unfold x15_leads
  exact Fo.some ⟨hσ, TE.rf⟩
theorem fc_x15_init {q : FQ} {σ0 : gMem} {v0 : Nat} {σ : gMem} (hq : FL ([], [], [], []) q) (D : FD q) (hσ : FC q σ0 σ) : Fo (fun r => FC q σ0 r ∧ TE σ r) (x15_init v0 σ) := by
  unfold x15_init
  refine Fo.ite (fun c101 => ?_) (fun _ => Fo.none)
  exact Fo.some ⟨hσ, TE.rf⟩
theorem fc_x15_shifted {q : FQ} {σ0 : gMem} {v0 : Nat} {v1 : Nat} {σ : gMem} (hq : FL ([], [], [], []) q) (D : FD q) (hσ : FC q σ0 σ) : Fo (fun r => FC q σ0 r.2 ∧ TE σ r.2) (x15_shifted v0 v1 σ) := by
  unfold x15_shifted
  exact Fo.some ⟨hσ, TE.rf⟩
theorem fc_x16_init {q : FQ} {σ0 : gMem} {v0 : Nat} {v1 : Int} {v2 : Int} {v3 : Int} {v4 : Int} {σ : gMem} (hq : FL ([], [], [], []) q) (D : FD q) (gv0 : mZ σ0 ≤ v0) (hσ : FC q σ0 σ) : Fo (fun r => FC q σ0 r ∧ TE σ r) (x16_init v0 v1 v2 v3 v4 σ) := by
  unfold x16_init
  refine Fo.ite (fun c102 => ?_) (fun _ => Fo.none)
  refine FC.lIf D hσ gv0 (fun s2 q103 e104 => ?_)
  refine FC.lIf D q103 gv0 (fun s4 q105 e106 => ?_)
  refine Fo.ite (fun _ => ?_) (fun _ => Fo.none)
  refine FC.lIf D q105 gv0 (fun s7 q108 e109 => ?_)
  refine Fo.ite (fun _ => ?_) (fun _ => Fo.none)
  refine FC.lIf D q108 gv0 (fun s10 q111 e112 => ?_)
  exact Fo.some ⟨q111, (TE.tr (TE.tr (TE.tr (TE.tr TE.rf e104) e106) e109) e112)⟩
theorem fc_x17_init {q : FQ} {σ0 : gMem} {v0 : Nat} {v1 : Nat} {v2 : Int} {σ : gMem} (hq : FL ([], [], [], []) q) (D : FD q) (gv0 : mZ σ0 ≤ v0) (hσ : FC q σ0 σ) : Fo (fun r => FC q σ0 r ∧ TE σ r) (x17_init v0 v1 v2 σ) := by
  unfold x17_init
  refine Fo.ite (fun c113 => ?_) (fun _ => Fo.none)
  refine FC.lRf D hσ gv0 (fun s2 q114 e115 => ?_)
  refine FC.lIf D q114 gv0 (fun s4 q116 e117 => ?_)
  exact Fo.some ⟨q116, (TE.tr (TE.tr TE.rf e115) e117)⟩
theorem fc_x18_leads {q : FQ} {σ0 : gMem} {v0 : Nat} {v1 : Nat} {v2 : Nat} {σ : gMem} (hq : FL ([], [], [], []) q) (D : FD q) (hσ : FC q σ0 σ) : Fo (fun r => FC q σ0 r ∧ TE σ r) (x18_leads v0 v1 v2 σ) := by
  unfold x18_leads
  exact Fo.some ⟨hσ, TE.rf⟩
theorem fc_x18_init {q : FQ} {σ0 : gMem} {v0 : Nat} {v1 : Int} {σ : gMem} (hq : FL ([], [], [], []) q) (D : FD q) (gv0 : mZ σ0 ≤ v0) (hσ : FC q σ0 σ) : Fo (fun r => FC q σ0 r ∧ TE σ r) (x18_init v0 v1 σ) := by
  unfold x18_init
  refine Fo.ite (fun c118 => ?_) (fun _ => Fo.none)
  refine Fo.ite (fun _ => ?_) (fun _ => Fo.none)
  refine FC.lIf D hσ gv0 (fun s3 q120 e121 => ?_)
  exact Fo.some ⟨q120, (TE.tr TE.rf e121)⟩
theorem fc_x18_shifted {q : FQ} {σ0 : gMem} {v0 : Nat} {v1 : Nat} {σ : gMem} (hq : FL ([], [], [], []) q) (D : FD q) (hσ : FC q σ0 σ) : Fo (fun r => FC q σ0 r.2 ∧ TE σ r.2) (x18_shifted v0 v1 σ) := by
  unfold x18_shifted
  exact Fo.some ⟨hσ, TE.rf⟩
theorem fc_x19_init {q : FQ} {σ0 : gMem} {v0 : Nat} {v1 : Nat} {v2 : Nat} {v3 : Int} {σ : gMem} (hq : FL ([], [], [], []) q) (D : FD q) (gv0 : mZ σ0 ≤ v0) (hσ : FC q σ0 σ) : Fo (fun r => FC q σ0 r ∧ TE σ r) (x19_init v0 v1 v2 v3 σ) := by
  unfold x19_init
  refine Fo.ite (fun c122 => ?_) (fun _ => Fo.none)
  refine FC.lRf D hσ gv0 (fun s2 q123 e124 => ?_)
  refine FC.lRf D q123 gv0 (fun s4 q125 e126 => ?_)
  refine FC.lIf D q125 gv0 (fun s6 q127 e128 => ?_)
  exact Fo.some ⟨q127, (TE.tr (TE.tr (TE.tr TE.rf e124) e126) e128)⟩
theorem fc_x2_init {q : FQ} {σ0 : gMem} {v0 : Nat} {σ : gMem} (hq : FL ([], [], [], [101, 102]) q) (D : FD q) (gv0 : mZ σ0 ≤ v0) (hσ : FC q σ0 σ) : Fo (fun r => FC q σ0 r ∧ TE σ r) (x2_init v0 σ) := by
  unfold x2_init
  refine Fo.ite (fun c129 => ?_) (fun _ => Fo.none)
  refine Fo.ite (fun _ => ?_) (fun _ => Fo.none)
  refine FC.lN hσ (hq.2.2.2 (by decide)) (fun s4 q131 e132 => ?_)
  refine FC.lRf D q131 gv0 (fun s6 q133 e134 => ?_)
  refine Fo.ite (fun _ => ?_) (fun _ => Fo.none)
  refine FC.lN q133 (hq.2.2.2 (by decide)) (fun s10 q136 e137 => ?_)
  refine FC.lRf D q136 gv0 (fun s12 q138 e139 => ?_)
  refine Fo.ite (fun _ => ?_) (fun _ => Fo.none)
  refine FC.lN q138 (hq.2.2.2 (by decide)) (fun s16 q141 e142 => ?_)
  refine FC.lRf D q141 gv0 (fun s18 q143 e144 => ?_)
  refine Fo.ite (fun _ => ?_) (fun _ => Fo.none)
  refine FC.lN q143 (hq.2.2.2 (by decide)) (fun s22 q146 e147 => ?_)
  refine FC.lRf D q146 gv0 (fun s24 q148 e149 => ?_)
  exact Fo.some ⟨q148, (TE.tr (TE.tr (TE.tr (TE.tr (TE.tr (TE.tr (TE.tr (TE.tr TE.rf e132) e134) e137) e139) e142) e144) e147) e149)⟩
theorem fc_x2_give {q : FQ} {σ0 : gMem} {v0 : Nat} {v1 : Int} {v2 : Nat} {σ : gMem} (hq : FL ([5], [(5, 3)], [], []) q) (D : FD q) (hσ : FC q σ0 σ) : Fo (fun r => FC q σ0 r ∧ TE σ r) (x2_give v0 v1 v2 σ) := by
  unfold x2_give
  refine Fo.ite (fun c150 => ?_) (fun _ => Fo.none)
  refine Fo.ite (fun c151 => ?_) (fun _ => Fo.none)
  refine Fo.ite (fun _ => ?_) (fun _ => Fo.none)
  refine Fo.ite (fun c153 => ?_) (fun _ => Fo.none)
  refine FC.lIo hσ c153 (hq.1 (by decide)) (fun s5 q154 e155 => ?_)
  refine Fo.ite (fun c156 => ?_) (fun _ => Fo.none)
  refine Fo.ite (fun _ => ?_) (fun _ => Fo.none)
  refine FC.lIo q154 (e155 _ _ (by decide) c153) (hq.1 (by decide)) (fun s9 q158 e159 => ?_)
  refine Fo.ite (fun c160 => ?_) (fun _ => Fo.none)
  refine Fo.ite (fun _ => ?_) (fun _ => Fo.none)
  refine FC.lLo q158 (e159 _ _ (by decide) (e155 _ _ (by decide) c153)) (hq.1 (by decide)) (fun s13 q162 e163 => ?_)
  refine Fo.ite (fun c164 => ?_) (fun _ => Fo.none)
  refine Fo.ite (fun _ => ?_) (fun _ => Fo.none)
  refine Fo.ite (fun c166 => ?_) (fun _ => Fo.none)
  refine Fo.ite (fun c167 => ?_) (fun _ => Fo.none)
  refine Fo.ite (fun _ => ?_) (fun _ => Fo.none)
  refine FC.lCIp D q162 (e163 _ _ (by decide) (e159 _ _ (by decide) (e155 _ _ (by decide) c153))) (hq.2.1 (by decide)) (fun s20 q169 e170 => ?_)
  exact Fo.some ⟨q169, (TE.tr (TE.tr (TE.tr (TE.tr TE.rf e155) e159) e163) e170)⟩
theorem fc_x2_put {q : FQ} {σ0 : gMem} {v0 : Nat} {v1 : Int} {v2 : Nat} {σ : gMem} (hq : FL ([], [(2, 0), (2, 1), (2, 2), (2, 3)], [], []) q) (D : FD q) (hσ : FC q σ0 σ) : Fo (fun r => FC q σ0 r ∧ TE σ r) (x2_put v0 v1 v2 σ) := by
  unfold x2_put
  refine Fo.ite (fun c171 => ?_) (fun _ => Fo.none)
  refine Fo.ite (fun c172 => ?_) (fun _ => Fo.none)
  refine Fo.ite (fun c173 => ?_) (fun _ => Fo.none)
  refine Fo.ite (fun _ => ?_) (fun _ => Fo.none)
  refine FC.lIp D hσ c171 (hq.2.1 (by decide)) (fun s5 q175 e176 => ?_)
  refine Fo.ite (fun c177 => ?_) (fun _ => Fo.none)
  refine Fo.ite (fun _ => ?_) (fun _ => Fo.none)
  refine FC.lIp D q175 (e176 _ _ (by decide) c171) (hq.2.1 (by decide)) (fun s9 q179 e180 => ?_)
  refine Fo.ite (fun c181 => ?_) (fun _ => Fo.none)
  refine Fo.ite (fun _ => ?_) (fun _ => Fo.none)
  refine FC.lLp D q179 (e180 _ _ (by decide) (e176 _ _ (by decide) c171)) (hq.2.1 (by decide)) (fun s13 q183 e184 => ?_)
  refine Fo.ite (fun c185 => ?_) (fun _ => Fo.none)
  refine Fo.ite (fun c186 => ?_) (fun _ => Fo.none)
  refine Fo.ite (fun _ => ?_) (fun _ => Fo.none)
  refine FC.lCIp D q183 (e184 _ _ (by decide) (e180 _ _ (by decide) (e176 _ _ (by decide) c171))) (hq.2.1 (by decide)) (fun s19 q188 e189 => ?_)
  exact Fo.some ⟨q188, (TE.tr (TE.tr (TE.tr (TE.tr TE.rf e176) e180) e184) e189)⟩
theorem fc_x2_copy {q : FQ} {σ0 : gMem} {v0 : Nat} {v1 : Nat} {σ : gMem} (hq : FL ([], [(2, 0), (2, 1), (2, 2), (2, 3)], [], []) q) (D : FD q) (hσ : FC q σ0 σ) : Fo (fun r => FC q σ0 r ∧ TE σ r) (x2_copy v0 v1 σ) := by
  unfold x2_copy
  refine Fo.ite (fun c190 => ?_) (fun _ => Fo.none)
  refine Fo.ite (fun c191 => ?_) (fun _ => Fo.none)
  refine Fo.ite (fun c192 => ?_) (fun _ => Fo.none)
  refine Fo.ite (fun c193 => ?_) (fun _ => Fo.none)
  refine Fo.ite (fun _ => ?_) (fun _ => Fo.none)
  refine FC.lCIp D hσ c191 (hq.2.1 (by decide)) (fun s6 q195 e196 => ?_)
  refine Fo.ite (fun c197 => ?_) (fun _ => Fo.none)
  refine Fo.ite (fun c198 => ?_) (fun _ => Fo.none)
  refine Fo.ite (fun _ => ?_) (fun _ => Fo.none)
  refine FC.lCIp D q195 (e196 _ _ (by decide) c191) (hq.2.1 (by decide)) (fun s11 q200 e201 => ?_)
  refine Fo.ite (fun c202 => ?_) (fun _ => Fo.none)
  refine Fo.ite (fun c203 => ?_) (fun _ => Fo.none)
  refine Fo.ite (fun _ => ?_) (fun _ => Fo.none)
  refine FC.lCLp D q200 (e201 _ _ (by decide) (e196 _ _ (by decide) c191)) (hq.2.1 (by decide)) (fun s16 q205 e206 => ?_)
  refine Fo.ite (fun c207 => ?_) (fun _ => Fo.none)
  refine Fo.ite (fun c208 => ?_) (fun _ => Fo.none)
  refine Fo.ite (fun _ => ?_) (fun _ => Fo.none)
  refine FC.lCIp D q205 (e206 _ _ (by decide) (e201 _ _ (by decide) (e196 _ _ (by decide) c191))) (hq.2.1 (by decide)) (fun s21 q210 e211 => ?_)
  exact Fo.some ⟨q210, (TE.tr (TE.tr (TE.tr (TE.tr TE.rf e196) e201) e206) e211)⟩
theorem fc_x20_init {q : FQ} {σ0 : gMem} {v0 : Nat} {v1 : Nat} {v2 : Nat} {σ : gMem} (hq : FL ([], [], [], []) q) (D : FD q) (gv0 : mZ σ0 ≤ v0) (hσ : FC q σ0 σ) : Fo (fun r => FC q σ0 r ∧ TE σ r) (x20_init v0 v1 v2 σ) := by
  unfold x20_init
  refine Fo.ite (fun c212 => ?_) (fun _ => Fo.none)
  refine FC.lRf D hσ gv0 (fun s2 q213 e214 => ?_)
  refine FC.lRf D q213 gv0 (fun s4 q215 e216 => ?_)
  exact Fo.some ⟨q215, (TE.tr (TE.tr TE.rf e214) e216)⟩
theorem fc_x20_shifted_l11 {q : FQ} {σ0 τ : gMem} {N : Nat} {W : Nat → Nat → gMem → Option (Nat × gMem)} {v0 : Nat} {v1 : Nat} {v2 : Nat} {K : gMem → Option (Nat × gMem)} (hq : FL ([], [], [], []) q) (D : FD q) (gv2 : mZ σ0 ≤ v2) (hW : ∀ (a0 : Nat) (a1 : Nat) (a2 : gMem), FC q σ0 a2 → Fo (fun r => FC q σ0 r.2 ∧ TE a2 r.2) (W a0 a1 a2)) (hK : ∀ (a0 : gMem), FC q σ0 a0 → TE τ a0 → Fo (fun r => FC q σ0 r.2 ∧ TE τ r.2) (K a0)) : ∀ (n : Nat) (z0 : Int) (z1 : gMem), FC q σ0 z1 → TE τ z1 → Fo (fun r => FC q σ0 r.2 ∧ TE τ r.2) (x20_shifted_l11 N W v0 v1 v2 K n z0 z1) := by
  intro n
  induction n with
  | zero => intros; exact Fo.none
  | succ n ih =>
    intro v3 s hs ts
    unfold x20_shifted_l11
    refine Fo.ite (fun c217 => ?_) (fun _ => Fo.none)
    refine Fo.ite (fun c218 => ?_) (fun _ => Fo.none)
    refine Fo.ite (fun _ => ?_) (fun _ => ?_)
    · exact (hK _ hs ts)
    · refine Fo.ite (fun _ => ?_) (fun _ => Fo.none)
      refine Fo.bind (hW _ _ _ hs) (fun x9 q221 => ?_)
      refine Fo.ite (fun c222 => ?_) (fun _ => Fo.none)
      refine Fo.ite (fun _ => ?_) (fun _ => Fo.none)
      refine Fo.ite (fun _ => ?_) (fun _ => Fo.none)
      refine FC.lRf D q221.1 gv2 (fun s13 q225 e226 => ?_)
      exact (ih _ _  q225 (TE.tr (TE.tr ts q221.2) e226))
theorem fc_x20_shifted {q : FQ} {σ0 : gMem} {N : Nat} {W : Nat → Nat → gMem → Option (Nat × gMem)} {v0 : Nat} {v1 : Nat} {σ : gMem} (hq : FL ([], [], [], [18, 108]) q) (D : FD q) (hW : ∀ (a0 : Nat) (a1 : Nat) (a2 : gMem), FC q σ0 a2 → Fo (fun r => FC q σ0 r.2 ∧ TE a2 r.2) (W a0 a1 a2)) (hσ : FC q σ0 σ) : Fo (fun r => FC q σ0 r.2 ∧ TE σ r.2) (x20_shifted N W v0 v1 σ) := by
  unfold x20_shifted
  refine Fo.ite (fun c227 => ?_) (fun _ => Fo.none)
  refine Fo.ite (fun c228 => ?_) (fun _ => Fo.none)
  refine Fo.ite (fun _ => ?_) (fun _ => Fo.none)
  refine FC.lN hσ (hq.2.2.2 (by decide)) (fun s5 q230 e231 => ?_)
  exact (fc_x20_shifted_l11 (τ := σ) (FL.tr (by decide) hq) D (FC.le hσ) hW (fun s15 q232 e233 => by
      refine FC.lN q232 (hq.2.2.2 (by decide)) (fun s17 q234 e235 => ?_)
      refine Fo.ite (fun c236 => ?_) (fun _ => Fo.none)
      refine Fo.bind (fc_x20_init (FL.tr (by decide) hq) D (FC.le q232)  q234) (fun x20 q237 => ?_)
      exact Fo.some ⟨q237.1, (TE.tr (TE.tr e233 e235) q237.2)⟩) _ _ _  q230 (TE.tr TE.rf e231))
theorem fc_x21_leads {q : FQ} {σ0 : gMem} {N : Nat} {W : Nat → Nat → Nat → gMem → Option gMem} {v0 : Nat} {v1 : Nat} {v2 : Nat} {σ : gMem} (hq : FL ([], [], [], []) q) (D : FD q) (hW : ∀ (a0 : Nat) (a1 : Nat) (a2 : Nat) (a3 : gMem), FC q σ0 a3 → Fo (fun r => FC q σ0 r ∧ TE a3 r) (W a0 a1 a2 a3)) (hσ : FC q σ0 σ) : Fo (fun r => FC q σ0 r ∧ TE σ r) (x21_leads N W v0 v1 v2 σ) := by
  unfold x21_leads
  refine Fo.ite (fun c238 => ?_) (fun _ => Fo.none)
  refine Fo.bind (hW _ _ _ _ hσ) (fun x2 q239 => ?_)
  exact Fo.some ⟨q239.1, (TE.tr TE.rf q239.2)⟩
theorem fc_x21_init {q : FQ} {σ0 : gMem} {v0 : Nat} {v1 : Nat} {σ : gMem} (hq : FL ([], [], [], []) q) (D : FD q) (gv0 : mZ σ0 ≤ v0) (hσ : FC q σ0 σ) : Fo (fun r => FC q σ0 r ∧ TE σ r) (x21_init v0 v1 σ) := by
  unfold x21_init
  refine Fo.ite (fun c240 => ?_) (fun _ => Fo.none)
  refine FC.lRf D hσ gv0 (fun s2 q241 e242 => ?_)
  exact Fo.some ⟨q241, (TE.tr TE.rf e242)⟩
theorem fc_x21_shifted {q : FQ} {σ0 : gMem} {N : Nat} {W : Nat → Nat → gMem → Option (Nat × gMem)} {v0 : Nat} {v1 : Nat} {σ : gMem} (hq : FL ([], [], [], [19]) q) (D : FD q) (hW : ∀ (a0 : Nat) (a1 : Nat) (a2 : gMem), FC q σ0 a2 → Fo (fun r => FC q σ0 r.2 ∧ TE a2 r.2) (W a0 a1 a2)) (hσ : FC q σ0 σ) : Fo (fun r => FC q σ0 r.2 ∧ TE σ r.2) (x21_shifted N W v0 v1 σ) := by
  unfold x21_shifted
  refine FC.lN hσ (hq.2.2.2 (by decide)) (fun s2 q243 e244 => ?_)
  refine Fo.ite (fun c245 => ?_) (fun _ => Fo.none)
  refine Fo.bind (hW _ _ _ q243) (fun x5 q246 => ?_)
  refine Fo.bind (fc_x21_init (FL.tr (by decide) hq) D (FC.le hσ)  q246.1) (fun x7 q247 => ?_)
  exact Fo.some ⟨q247.1, (TE.tr (TE.tr (TE.tr TE.rf e244) q246.2) q247.2)⟩
theorem fc_x22_leads {q : FQ} {σ0 : gMem} {N : Nat} {W : Nat → Nat → Nat → gMem → Option gMem} {v0 : Nat} {v1 : Nat} {v2 : Nat} {σ : gMem} (hq : FL ([], [], [], []) q) (D : FD q) (hW : ∀ (a0 : Nat) (a1 : Nat) (a2 : Nat) (a3 : gMem), FC q σ0 a3 → Fo (fun r => FC q σ0 r ∧ TE a3 r) (W a0 a1 a2 a3)) (hσ : FC q σ0 σ) : Fo (fun r => FC q σ0 r ∧ TE σ r) (x22_leads N W v0 v1 v2 σ) := by
  unfold x22_leads
  refine Fo.ite (fun c248 => ?_) (fun _ => Fo.none)
  refine Fo.bind (hW _ _ _ _ hσ) (fun x2 q249 => ?_)
  refine Fo.bind (hW _ _ _ _ q249.1) (fun x4 q250 => ?_)
  exact Fo.some ⟨q250.1, (TE.tr (TE.tr TE.rf q249.2) q250.2)⟩
theorem fc_x22_init {q : FQ} {σ0 : gMem} {v0 : Nat} {v1 : Nat} {v2 : Nat} {v3 : Nat} {σ : gMem} (hq : FL ([], [], [], []) q) (D : FD q) (gv0 : mZ σ0 ≤ v0) (hσ : FC q σ0 σ) : Fo (fun r => FC q σ0 r ∧ TE σ r) (x22_init v0 v1 v2 v3 σ) := by
  unfold x22_init
  refine Fo.ite (fun c251 => ?_) (fun _ => Fo.none)
  refine FC.lRf D hσ gv0 (fun s2 q252 e253 => ?_)
  refine FC.lRf D q252 gv0 (fun s4 q254 e255 => ?_)
  refine FC.lRf D q254 gv0 (fun s6 q256 e257 => ?_)
  exact Fo.some ⟨q256, (TE.tr (TE.tr (TE.tr TE.rf e253) e255) e257)⟩
theorem fc_x22_shifted {q : FQ} {σ0 : gMem} {N : Nat} {W : Nat → Nat → gMem → Option (Nat × gMem)} {v0 : Nat} {v1 : Nat} {σ : gMem} (hq : FL ([], [], [], [20]) q) (D : FD q) (hW : ∀ (a0 : Nat) (a1 : Nat) (a2 : gMem), FC q σ0 a2 → Fo (fun r => FC q σ0 r.2 ∧ TE a2 r.2) (W a0 a1 a2)) (hσ : FC q σ0 σ) : Fo (fun r => FC q σ0 r.2 ∧ TE σ r.2) (x22_shifted N W v0 v1 σ) := by
  unfold x22_shifted
  refine FC.lN hσ (hq.2.2.2 (by decide)) (fun s2 q258 e259 => ?_)
  refine Fo.ite (fun c260 => ?_) (fun _ => Fo.none)
  refine Fo.bind (hW _ _ _ q258) (fun x5 q261 => ?_)
  refine Fo.bind (hW _ _ _ q261.1) (fun x7 q262 => ?_)
  refine Fo.bind (fc_x22_init (FL.tr (by decide) hq) D (FC.le hσ)  q262.1) (fun x9 q263 => ?_)
  exact Fo.some ⟨q263.1, (TE.tr (TE.tr (TE.tr (TE.tr TE.rf e259) q261.2) q262.2) q263.2)⟩
theorem fc_x23_init {q : FQ} {σ0 : gMem} {v0 : Nat} {v1 : Nat} {v2 : Int} {σ : gMem} (hq : FL ([], [], [], []) q) (D : FD q) (gv0 : mZ σ0 ≤ v0) (hσ : FC q σ0 σ) : Fo (fun r => FC q σ0 r ∧ TE σ r) (x23_init v0 v1 v2 σ) := by
  unfold x23_init
  refine Fo.ite (fun c264 => ?_) (fun _ => Fo.none)
  refine FC.lRf D hσ gv0 (fun s2 q265 e266 => ?_)
  refine FC.lIf D q265 gv0 (fun s4 q267 e268 => ?_)
  exact Fo.some ⟨q267, (TE.tr (TE.tr TE.rf e266) e268)⟩
theorem fc_x24_init {q : FQ} {σ0 : gMem} {v0 : Nat} {v1 : Int} {v2 : Int} {v3 : Nat} {v4 : Nat} {σ : gMem} (hq : FL ([], [], [], []) q) (D : FD q) (gv0 : mZ σ0 ≤ v0) (hσ : FC q σ0 σ) : Fo (fun r => FC q σ0 r ∧ TE σ r) (x24_init v0 v1 v2 v3 v4 σ) := by
  unfold x24_init
  refine Fo.ite (fun c269 => ?_) (fun _ => Fo.none)
  refine FC.lIf D hσ gv0 (fun s2 q270 e271 => ?_)
  refine FC.lIf D q270 gv0 (fun s4 q272 e273 => ?_)
  refine FC.lRf D q272 gv0 (fun s6 q274 e275 => ?_)
  refine FC.lRf D q274 gv0 (fun s8 q276 e277 => ?_)
  exact Fo.some ⟨q276, (TE.tr (TE.tr (TE.tr (TE.tr TE.rf e271) e273) e275) e277)⟩
theorem fc_x25_init {q : FQ} {σ0 : gMem} {v0 : Nat} {v1 : Nat} {v2 : Nat} {v3 : Nat} {σ : gMem} (hq : FL ([], [], [], [106]) q) (D : FD q) (gv0 : mZ σ0 ≤ v0) (hσ : FC q σ0 σ) : Fo (fun r => FC q σ0 r ∧ TE σ r) (x25_init v0 v1 v2 v3 σ) := by
  unfold x25_init
  refine Fo.ite (fun c278 => ?_) (fun _ => Fo.none)
  refine Fo.ite (fun _ => ?_) (fun _ => Fo.none)
  refine FC.lN hσ (hq.2.2.2 (by decide)) (fun s4 q280 e281 => ?_)
  refine FC.lRf D q280 gv0 (fun s6 q282 e283 => ?_)
  refine FC.lRf D q282 gv0 (fun s8 q284 e285 => ?_)
  refine FC.lRf D q284 gv0 (fun s10 q286 e287 => ?_)
  refine FC.lRf D q286 gv0 (fun s12 q288 e289 => ?_)
  exact Fo.some ⟨q288, (TE.tr (TE.tr (TE.tr (TE.tr (TE.tr TE.rf e281) e283) e285) e287) e289)⟩
theorem fc_x26_init {q : FQ} {σ0 : gMem} {v0 : Nat} {v1 : Int} {v2 : Int} {v3 : Int} {v4 : Int} {v5 : Nat} {v6 : Nat} {σ : gMem} (hq : FL ([], [], [], []) q) (D : FD q) (gv0 : mZ σ0 ≤ v0) (hσ : FC q σ0 σ) : Fo (fun r => FC q σ0 r ∧ TE σ r) (x26_init v0 v1 v2 v3 v4 v5 v6 σ) := by
  unfold x26_init
  refine Fo.ite (fun c290 => ?_) (fun _ => Fo.none)
  refine FC.lIf D hσ gv0 (fun s2 q291 e292 => ?_)
  refine FC.lIf D q291 gv0 (fun s4 q293 e294 => ?_)
  refine FC.lIf D q293 gv0 (fun s6 q295 e296 => ?_)
  refine Fo.ite (fun _ => ?_) (fun _ => Fo.none)
  refine FC.lIf D q295 gv0 (fun s9 q298 e299 => ?_)
  refine FC.lRf D q298 gv0 (fun s11 q300 e301 => ?_)
  refine FC.lRf D q300 gv0 (fun s13 q302 e303 => ?_)
  exact Fo.some ⟨q302, (TE.tr (TE.tr (TE.tr (TE.tr (TE.tr (TE.tr TE.rf e292) e294) e296) e299) e301) e303)⟩
theorem fc_x3_give {q : FQ} {σ0 : gMem} {v0 : Nat} {σ : gMem} (hq : FL ([3], [], [], []) q) (D : FD q) (hσ : FC q σ0 σ) : Fo (fun r => FC q σ0 r ∧ TE σ r) (x3_give v0 σ) := by
  unfold x3_give
  refine Fo.ite (fun c304 => ?_) (fun _ => Fo.none)
  refine FC.lIo hσ c304 (hq.1 (by decide)) (fun s3 q305 e306 => ?_)
  exact Fo.some ⟨q305, (TE.tr TE.rf e306)⟩
theorem fc_x3_next {q : FQ} {σ0 : gMem} {v0 : Nat} {σ : gMem} (hq : FL ([3, 5], [(5, 3)], [], []) q) (D : FD q) (hσ : FC q σ0 σ) : Fo (fun r => FC q σ0 r.2 ∧ TE σ r.2) (x3_next v0 σ) := by
  unfold x3_next
  refine Fo.ite (fun c307 => ?_) (fun _ => Fo.none)
  refine Fo.ite (fun _ => ?_) (fun _ => ?_)
  · refine Fo.ite (fun c309 => ?_) (fun _ => Fo.none)
    refine Fo.bind (fc_x2_give (FL.tr (by decide) hq) D   hσ) (fun x7 q310 => ?_)
    refine FC.lIo q310.1 (q310.2 _ _ (by decide) c307) (hq.1 (by decide)) (fun s10 q311 e312 => ?_)
    refine Fo.ite (fun _ => ?_) (fun _ => ?_)
    · exact Fo.some ⟨q311, (TE.tr (TE.tr TE.rf q310.2) e312)⟩
    · refine FC.lIo q311 (e312 _ _ (by decide) (q310.2 _ _ (by decide) c307)) (hq.1 (by decide)) (fun s15 q314 e315 => ?_)
      refine FC.lIo q314 (e315 _ _ (by decide) (e312 _ _ (by decide) (q310.2 _ _ (by decide) c307))) (hq.1 (by decide)) (fun s18 q316 e317 => ?_)
      exact Fo.some ⟨q316, (TE.tr (TE.tr (TE.tr (TE.tr TE.rf q310.2) e312) e315) e317)⟩
  · exact Fo.some ⟨hσ, TE.rf⟩
theorem fc_x3_clear {q : FQ} {σ0 : gMem} {v0 : Nat} {σ : gMem} (hq : FL ([3], [], [], []) q) (D : FD q) (hσ : FC q σ0 σ) : Fo (fun r => FC q σ0 r ∧ TE σ r) (x3_clear v0 σ) := by
  unfold x3_clear
  refine Fo.ite (fun c318 => ?_) (fun _ => Fo.none)
  refine FC.lLo hσ c318 (hq.1 (by decide)) (fun s2 q319 e320 => ?_)
  refine FC.lIo q319 (e320 _ _ (by decide) c318) (hq.1 (by decide)) (fun s4 q321 e322 => ?_)
  exact Fo.some ⟨q321, (TE.tr (TE.tr TE.rf e320) e322)⟩
theorem fc_x3_tally_j53 {q : FQ} {σ0 : gMem} {v0 : Nat} {t0 : Int} {t1 : Nat} {s : gMem} (hq : FL ([3], [], [], []) q) (D : FD q) (hs : FC q σ0 s) : Fo (fun r => FC q σ0 r ∧ TE s r) (x3_tally_j53 v0 t0 t1 s) := by
  unfold x3_tally_j53
  refine Fo.ite (fun c323 => ?_) (fun _ => Fo.none)
  refine FC.lLo hs c323 (hq.1 (by decide)) (fun s14 q324 e325 => ?_)
  refine Fo.ite (fun c326 => ?_) (fun _ => Fo.none)
  refine FC.lIo q324 c326 (hq.1 (by decide)) (fun s18 q327 e328 => ?_)
  exact Fo.some ⟨q327, (TE.tr (TE.tr TE.rf e325) e328)⟩
theorem fc_x3_tally_j30 {q : FQ} {σ0 : gMem} {v0 : Nat} {v1 : Int} {t0 : Int} {t1 : Nat} {s : gMem} (hq : FL ([3], [], [], []) q) (D : FD q) (hs : FC q σ0 s) : Fo (fun r => FC q σ0 r ∧ TE s r) (x3_tally_j30 v0 v1 t0 t1 s) := by
  unfold x3_tally_j30
  refine Fo.ite (fun c329 => ?_) (fun _ => Fo.none)
  refine FC.lLo hs c329 (hq.1 (by decide)) (fun s8 q330 e331 => ?_)
  refine Fo.ite (fun c332 => ?_) (fun _ => Fo.none)
  refine Fo.ite (fun _ => ?_) (fun _ => ?_)
  · exact Fo.te (TE.tr TE.rf e331) (fc_x3_tally_j53 hq D   q330)
  · exact Fo.te (TE.tr TE.rf e331) (fc_x3_tally_j53 hq D   q330)
theorem fc_x3_tally {q : FQ} {σ0 : gMem} {v0 : Nat} {v1 : Int} {σ : gMem} (hq : FL ([3], [], [], []) q) (D : FD q) (hσ : FC q σ0 σ) : Fo (fun r => FC q σ0 r ∧ TE σ r) (x3_tally v0 v1 σ) := by
  unfold x3_tally
  refine Fo.ite (fun c334 => ?_) (fun _ => Fo.none)
  refine FC.lLo hσ c334 (hq.1 (by decide)) (fun s3 q335 e336 => ?_)
  refine Fo.ite (fun _ => ?_) (fun _ => ?_)
  · exact Fo.te (TE.tr TE.rf e336) (fc_x3_tally_j30 hq D   q335)
  · exact Fo.te (TE.tr TE.rf e336) (fc_x3_tally_j30 hq D   q335)
theorem fc_x4_add {q : FQ} {σ0 : gMem} {v0 : Nat} {v1 : Int} {v2 : Int} {σ : gMem} (hq : FL ([], [(4, 0)], [], []) q) (D : FD q) (hσ : FC q σ0 σ) : Fo (fun r => FC q σ0 r ∧ TE σ r) (x4_add v0 v1 v2 σ) := by
  unfold x4_add
  refine Fo.ite (fun c338 => ?_) (fun _ => Fo.none)
  refine Fo.ite (fun c339 => ?_) (fun _ => Fo.none)
  refine Fo.ite (fun _ => ?_) (fun _ => Fo.none)
  refine Fo.ite (fun _ => ?_) (fun _ => Fo.none)
  refine FC.lLp D hσ c338 (hq.2.1 (by decide)) (fun s5 q342 e343 => ?_)
  exact Fo.some ⟨q342, (TE.tr TE.rf e343)⟩
theorem fc_x4_meet {q : FQ} {σ0 : gMem} {v0 : Nat} {v1 : Int} {σ : gMem} (hq : FL ([4], [(4, 2), (4, 3), (4, 4), (4, 6), (4, 7)], [], []) q) (D : FD q) (hσ : FC q σ0 σ) : Fo (fun r => FC q σ0 r ∧ TE σ r) (x4_meet v0 v1 σ) := by
  unfold x4_meet
  refine Fo.ite (fun c344 => ?_) (fun _ => Fo.none)
  refine Fo.ite (fun c345 => ?_) (fun _ => Fo.none)
  refine Fo.ite (fun _ => ?_) (fun _ => Fo.none)
  refine FC.lIp D hσ c344 (hq.2.1 (by decide)) (fun s4 q347 e348 => ?_)
  refine Fo.ite (fun c349 => ?_) (fun _ => Fo.none)
  refine Fo.ite (fun _ => ?_) (fun _ => Fo.none)
  refine FC.lIp D q347 (e348 _ _ (by decide) c344) (hq.2.1 (by decide)) (fun s8 q351 e352 => ?_)
  refine FC.lIo q351 (e352 _ _ (by decide) (e348 _ _ (by decide) c344)) (hq.1 (by decide)) (fun s11 q353 e354 => ?_)
  refine Fo.ite (fun c355 => ?_) (fun _ => Fo.none)
  refine Fo.ite (fun _ => ?_) (fun _ => Fo.none)
  refine FC.lIp D q353 (e354 _ _ (by decide) (e352 _ _ (by decide) (e348 _ _ (by decide) c344))) (hq.2.1 (by decide)) (fun s14 q357 e358 => ?_)
  refine Fo.ite (fun c359 => ?_) (fun _ => Fo.none)
  refine Fo.ite (fun _ => ?_) (fun _ => Fo.none)
  refine FC.lIp D q357 (e358 _ _ (by decide) (e354 _ _ (by decide) (e352 _ _ (by decide) (e348 _ _ (by decide) c344)))) (hq.2.1 (by decide)) (fun s18 q361 e362 => ?_)
  refine FC.lIo q361 (e362 _ _ (by decide) (e358 _ _ (by decide) (e354 _ _ (by decide) (e352 _ _ (by decide) (e348 _ _ (by decide) c344))))) (hq.1 (by decide)) (fun s21 q363 e364 => ?_)
  refine Fo.ite (fun c365 => ?_) (fun _ => Fo.none)
  refine Fo.ite (fun _ => ?_) (fun _ => Fo.none)
  refine FC.lIp D q363 (e364 _ _ (by decide) (e362 _ _ (by decide) (e358 _ _ (by decide) (e354 _ _ (by decide) (e352 _ _ (by decide) (e348 _ _ (by decide) c344)))))) (hq.2.1 (by decide)) (fun s24 q367 e368 => ?_)
  exact Fo.some ⟨q367, (TE.tr (TE.tr (TE.tr (TE.tr (TE.tr (TE.tr (TE.tr TE.rf e348) e352) e354) e358) e362) e364) e368)⟩
theorem fc_x5_none {q : FQ} {σ0 : gMem} {v0 : Nat} {σ : gMem} (hq : FL ([5], [], [], []) q) (D : FD q) (hσ : FC q σ0 σ) : Fo (fun r => FC q σ0 r ∧ TE σ r) (x5_none v0 σ) := by
  unfold x5_none
  refine Fo.ite (fun c369 => ?_) (fun _ => Fo.none)
  refine FC.lIo hσ c369 (hq.1 (by decide)) (fun s2 q370 e371 => ?_)
  refine FC.lLo q370 (e371 _ _ (by decide) c369) (hq.1 (by decide)) (fun s4 q372 e373 => ?_)
  refine FC.lIo q372 (e373 _ _ (by decide) (e371 _ _ (by decide) c369)) (hq.1 (by decide)) (fun s6 q374 e375 => ?_)
  exact Fo.some ⟨q374, (TE.tr (TE.tr (TE.tr TE.rf e371) e373) e375)⟩
theorem fc_x5_fail {q : FQ} {σ0 : gMem} {v0 : Nat} {v1 : Int} {σ : gMem} (hq : FL ([5], [], [], []) q) (D : FD q) (hσ : FC q σ0 σ) : Fo (fun r => FC q σ0 r ∧ TE σ r) (x5_fail v0 v1 σ) := by
  unfold x5_fail
  refine Fo.ite (fun c376 => ?_) (fun _ => Fo.none)
  refine FC.lIo hσ c376 (hq.1 (by decide)) (fun s2 q377 e378 => ?_)
  refine FC.lLo q377 (e378 _ _ (by decide) c376) (hq.1 (by decide)) (fun s4 q379 e380 => ?_)
  refine FC.lIo q379 (e380 _ _ (by decide) (e378 _ _ (by decide) c376)) (hq.1 (by decide)) (fun s6 q381 e382 => ?_)
  exact Fo.some ⟨q381, (TE.tr (TE.tr (TE.tr TE.rf e378) e380) e382)⟩
theorem fc_x5_is {q : FQ} {σ0 : gMem} {v0 : Nat} {v1 : Int} {σ : gMem} (hq : FL ([5], [], [], []) q) (D : FD q) (hσ : FC q σ0 σ) : Fo (fun r => FC q σ0 r ∧ TE σ r) (x5_is v0 v1 σ) := by
  unfold x5_is
  refine Fo.ite (fun c383 => ?_) (fun _ => Fo.none)
  refine FC.lIo hσ c383 (hq.1 (by decide)) (fun s2 q384 e385 => ?_)
  refine Fo.ite (fun _ => ?_) (fun _ => ?_)
  · refine FC.lLo q384 (e385 _ _ (by decide) c383) (hq.1 (by decide)) (fun s4 q387 e388 => ?_)
    refine FC.lIo q387 (e388 _ _ (by decide) (e385 _ _ (by decide) c383)) (hq.1 (by decide)) (fun s6 q389 e390 => ?_)
    exact Fo.some ⟨q389, (TE.tr (TE.tr (TE.tr TE.rf e385) e388) e390)⟩
  · refine FC.lLo q384 (e385 _ _ (by decide) c383) (hq.1 (by decide)) (fun s8 q391 e392 => ?_)
    refine FC.lIo q391 (e392 _ _ (by decide) (e385 _ _ (by decide) c383)) (hq.1 (by decide)) (fun s10 q393 e394 => ?_)
    exact Fo.some ⟨q393, (TE.tr (TE.tr (TE.tr TE.rf e385) e392) e394)⟩
theorem fc_x5_be {q : FQ} {σ0 : gMem} {v0 : Nat} {v1 : Int} {σ : gMem} (hq : FL ([5], [], [], []) q) (D : FD q) (hσ : FC q σ0 σ) : Fo (fun r => FC q σ0 r ∧ TE σ r) (x5_be v0 v1 σ) := by
  unfold x5_be
  refine Fo.ite (fun _ => ?_) (fun _ => ?_)
  · refine Fo.ite (fun c396 => ?_) (fun _ => Fo.none)
    refine Fo.bind (fc_x5_fail hq D   hσ) (fun x2 q397 => ?_)
    exact Fo.some ⟨q397.1, (TE.tr TE.rf q397.2)⟩
  · refine Fo.ite (fun _ => ?_) (fun _ => ?_)
    · refine Fo.ite (fun c399 => ?_) (fun _ => Fo.none)
      refine FC.lIo hσ c399 (hq.1 (by decide)) (fun s5 q400 e401 => ?_)
      refine FC.lLo q400 (e401 _ _ (by decide) c399) (hq.1 (by decide)) (fun s7 q402 e403 => ?_)
      refine FC.lIo q402 (e403 _ _ (by decide) (e401 _ _ (by decide) c399)) (hq.1 (by decide)) (fun s9 q404 e405 => ?_)
      exact Fo.some ⟨q404, (TE.tr (TE.tr (TE.tr TE.rf e401) e403) e405)⟩
    · refine Fo.ite (fun c406 => ?_) (fun _ => Fo.none)
      refine Fo.bind (fc_x5_fail hq D   hσ) (fun x12 q407 => ?_)
      exact Fo.some ⟨q407.1, (TE.tr TE.rf q407.2)⟩
theorem fc_x5_words {q : FQ} {σ0 : gMem} {v0 : Nat} {v1 : Nat} {v2 : Int} {v3 : Int} {σ : gMem} (hq : FL ([5], [(5, 3)], [], []) q) (D : FD q) (hσ : FC q σ0 σ) : Fo (fun r => FC q σ0 r ∧ TE σ r) (x5_words v0 v1 v2 v3 σ) := by
  unfold x5_words
  refine Fo.ite (fun c408 => ?_) (fun _ => Fo.none)
  refine FC.lIo hσ c408 (hq.1 (by decide)) (fun s2 q409 e410 => ?_)
  refine FC.lLo q409 (e410 _ _ (by decide) c408) (hq.1 (by decide)) (fun s4 q411 e412 => ?_)
  refine FC.lIo q411 (e412 _ _ (by decide) (e410 _ _ (by decide) c408)) (hq.1 (by decide)) (fun s6 q413 e414 => ?_)
  refine Fo.ite (fun c415 => ?_) (fun _ => Fo.none)
  refine Fo.ite (fun c416 => ?_) (fun _ => Fo.none)
  refine Fo.ite (fun _ => ?_) (fun _ => Fo.none)
  refine FC.lCIp D q413 (e414 _ _ (by decide) (e412 _ _ (by decide) (e410 _ _ (by decide) c408))) (hq.2.1 (by decide)) (fun s11 q418 e419 => ?_)
  exact Fo.some ⟨q418, (TE.tr (TE.tr (TE.tr (TE.tr TE.rf e410) e412) e414) e419)⟩
theorem fc_x5_copy {q : FQ} {σ0 : gMem} {v0 : Nat} {v1 : Nat} {σ : gMem} (hq : FL ([5], [(5, 3)], [], []) q) (D : FD q) (hσ : FC q σ0 σ) : Fo (fun r => FC q σ0 r ∧ TE σ r) (x5_copy v0 v1 σ) := by
  unfold x5_copy
  refine Fo.ite (fun c420 => ?_) (fun _ => Fo.none)
  refine Fo.ite (fun c421 => ?_) (fun _ => Fo.none)
  refine FC.lIo hσ c421 (hq.1 (by decide)) (fun s4 q422 e423 => ?_)
  refine FC.lLo q422 (e423 _ _ (by decide) c421) (hq.1 (by decide)) (fun s7 q424 e425 => ?_)
  refine FC.lIo q424 (e425 _ _ (by decide) (e423 _ _ (by decide) c421)) (hq.1 (by decide)) (fun s10 q426 e427 => ?_)
  refine Fo.ite (fun c428 => ?_) (fun _ => Fo.none)
  refine Fo.ite (fun c429 => ?_) (fun _ => Fo.none)
  refine Fo.ite (fun _ => ?_) (fun _ => Fo.none)
  refine FC.lCIp D q426 (e427 _ _ (by decide) (e425 _ _ (by decide) (e423 _ _ (by decide) c421))) (hq.2.1 (by decide)) (fun s16 q431 e432 => ?_)
  exact Fo.some ⟨q431, (TE.tr (TE.tr (TE.tr (TE.tr TE.rf e423) e425) e427) e432)⟩
theorem fc_x5_adapt {q : FQ} {σ0 : gMem} {v0 : Nat} {v1 : Nat} {σ : gMem} (hq : FL ([5], [], [], []) q) (D : FD q) (hσ : FC q σ0 σ) : Fo (fun r => FC q σ0 r ∧ TE σ r) (x5_adapt v0 v1 σ) := by
  unfold x5_adapt
  refine Fo.ite (fun c433 => ?_) (fun _ => Fo.none)
  refine Fo.ite (fun _ => ?_) (fun _ => ?_)
  · refine Fo.ite (fun c435 => ?_) (fun _ => Fo.none)
    refine Fo.ite (fun _ => ?_) (fun _ => ?_)
    · refine Fo.ite (fun _ => ?_) (fun _ => ?_)
      · refine Fo.bind (fc_x5_be hq D   hσ) (fun x6 q438 => ?_)
        exact Fo.some ⟨q438.1, (TE.tr TE.rf q438.2)⟩
      · refine Fo.bind (fc_x5_is hq D   hσ) (fun x8 q439 => ?_)
        exact Fo.some ⟨q439.1, (TE.tr TE.rf q439.2)⟩
    · refine FC.lIo hσ c433 (hq.1 (by decide)) (fun s10 q440 e441 => ?_)
      exact Fo.some ⟨q440, (TE.tr TE.rf e441)⟩
  · exact Fo.some ⟨hσ, TE.rf⟩
theorem fc_x5_spell_l2 {q : FQ} {σ0 τ : gMem} {N : Nat} {v0 : Nat} {v1 : Nat} {K : gMem → Option gMem} (hq : FL ([5], [(5, 3)], [], []) q) (D : FD q) (hK : ∀ (a0 : gMem), FC q σ0 a0 → TE τ a0 → Fo (fun r => FC q σ0 r ∧ TE τ r) (K a0)) : ∀ (n : Nat) (z0 : Int) (z1 : gMem), FC q σ0 z1 → TE τ z1 → Fo (fun r => FC q σ0 r ∧ TE τ r) (x5_spell_l2 N v0 v1 K n z0 z1) := by
  intro n
  induction n with
  | zero => intros; exact Fo.none
  | succ n ih =>
    intro v2 s hs ts
    unfold x5_spell_l2
    refine Fo.ite (fun c442 => ?_) (fun _ => Fo.none)
    refine Fo.ite (fun _ => ?_) (fun _ => ?_)
    · exact (hK _ hs ts)
    · refine Fo.ite (fun c444 => ?_) (fun _ => Fo.none)
      refine Fo.ite (fun _ => ?_) (fun _ => Fo.none)
      refine Fo.ite (fun c446 => ?_) (fun _ => Fo.none)
      refine Fo.ite (fun _ => ?_) (fun _ => Fo.none)
      refine FC.lIp D hs c444 (hq.2.1 (by decide)) (fun s7 q448 e449 => ?_)
      refine FC.lIo q448 (e449 _ _ (by decide) c444) (hq.1 (by decide)) (fun s10 q450 e451 => ?_)
      exact (ih _ _  q450 (TE.tr (TE.tr ts e449) e451))
theorem fc_x5_spell {q : FQ} {σ0 : gMem} {N : Nat} {v0 : Nat} {v1 : Nat} {σ : gMem} (hq : FL ([5], [(5, 3)], [], []) q) (D : FD q) (hσ : FC q σ0 σ) : Fo (fun r => FC q σ0 r ∧ TE σ r) (x5_spell N v0 v1 σ) := by
  unfold x5_spell
  exact (fc_x5_spell_l2 (τ := σ) hq D  (fun s12 q452 e453 => by
      exact Fo.some ⟨q452, e453⟩) _ _ _  hσ TE.rf)
theorem fc_x5_digits_l46 {q : FQ} {σ0 τ : gMem} {N : Nat} {v0 : Nat} {v5 : Int} {K : gMem → Option gMem} (hq : FL ([5], [(5, 3)], [], []) q) (D : FD q) (hK : ∀ (a0 : gMem), FC q σ0 a0 → TE τ a0 → Fo (fun r => FC q σ0 r ∧ TE τ r) (K a0)) : ∀ (n : Nat) (z0 : Int) (z1 : gMem), FC q σ0 z1 → TE τ z1 → Fo (fun r => FC q σ0 r ∧ TE τ r) (x5_digits_l46 N v0 v5 K n z0 z1) := by
  intro n
  induction n with
  | zero => intros; exact Fo.none
  | succ n ih =>
    intro v3 s hs ts
    unfold x5_digits_l46
    refine Fo.ite (fun c454 => ?_) (fun _ => Fo.none)
    refine Fo.ite (fun c455 => ?_) (fun _ => Fo.none)
    refine Fo.ite (fun _ => ?_) (fun _ => Fo.none)
    refine FC.lIp D hs c454 (hq.2.1 (by decide)) (fun s6 q457 e458 => ?_)
    refine FC.lIo q457 (e458 _ _ (by decide) c454) (hq.1 (by decide)) (fun s9 q459 e460 => ?_)
    refine Fo.ite (fun _ => ?_) (fun _ => ?_)
    · exact (ih _ _  q459 (TE.tr (TE.tr ts e458) e460))
    · exact (hK _ q459 (TE.tr (TE.tr ts e458) e460))
theorem fc_x5_digits_l100 {q : FQ} {σ0 τ : gMem} {N : Nat} {v0 : Nat} {K : gMem → Option gMem} (hq : FL ([], [(5, 3)], [], []) q) (D : FD q) (hK : ∀ (a0 : gMem), FC q σ0 a0 → TE τ a0 → Fo (fun r => FC q σ0 r ∧ TE τ r) (K a0)) : ∀ (n : Nat) (z0 : Int) (z1 : Int) (z2 : gMem), FC q σ0 z2 → TE τ z2 → Fo (fun r => FC q σ0 r ∧ TE τ r) (x5_digits_l100 N v0 K n z0 z1 z2) := by
  intro n
  induction n with
  | zero => intros; exact Fo.none
  | succ n ih =>
    intro v6 v7 s hs ts
    unfold x5_digits_l100
    refine Fo.ite (fun _ => ?_) (fun _ => ?_)
    · exact (hK _ hs ts)
    · refine Fo.ite (fun c463 => ?_) (fun _ => Fo.none)
      refine Fo.ite (fun c464 => ?_) (fun _ => Fo.none)
      refine Fo.ite (fun _ => ?_) (fun _ => Fo.none)
      refine Fo.ite (fun _ => ?_) (fun _ => Fo.none)
      refine Fo.ite (fun _ => ?_) (fun _ => Fo.none)
      refine Fo.ite (fun _ => ?_) (fun _ => Fo.none)
      refine FC.lIp D hs c463 (hq.2.1 (by decide)) (fun s19 q469 e470 => ?_)
      refine Fo.ite (fun c471 => ?_) (fun _ => Fo.none)
      refine Fo.ite (fun _ => ?_) (fun _ => Fo.none)
      refine Fo.ite (fun _ => ?_) (fun _ => Fo.none)
      refine FC.lIp D q469 (e470 _ _ (by decide) c463) (hq.2.1 (by decide)) (fun s23 q474 e475 => ?_)
      exact (ih _ _ _  q474 (TE.tr (TE.tr ts e470) e475))
theorem fc_x5_digits_j39 {q : FQ} {σ0 : gMem} {N : Nat} {v0 : Nat} {t0 : Int} {s : gMem} (hq : FL ([5], [(5, 3)], [], []) q) (D : FD q) (hs : FC q σ0 s) : Fo (fun r => FC q σ0 r ∧ TE s r) (x5_digits_j39 N v0 t0 s) := by
  unfold x5_digits_j39
  refine Fo.ite (fun c476 => ?_) (fun _ => Fo.none)
  exact (fc_x5_digits_l46 (τ := s) hq D  (fun s11 q477 e478 => by
      refine Fo.ite (fun c479 => ?_) (fun _ => Fo.none)
      exact (fc_x5_digits_l100 (τ := s) (FL.tr (by decide) hq) D  (fun s25 q480 e481 => by
        exact Fo.some ⟨q480, e481⟩) _ _ _ _  q477 e478)) _ _ _  hs TE.rf)
theorem fc_x5_digits_j27 {q : FQ} {σ0 : gMem} {N : Nat} {v0 : Nat} {v1 : Int} {s : gMem} (hq : FL ([5], [(5, 3)], [], []) q) (D : FD q) (hs : FC q σ0 s) : Fo (fun r => FC q σ0 r ∧ TE s r) (x5_digits_j27 N v0 v1 s) := by
  unfold x5_digits_j27
  refine Fo.ite (fun _ => ?_) (fun _ => ?_)
  · exact Fo.te TE.rf (fc_x5_digits_j39 hq D   hs)
  · exact Fo.te TE.rf (fc_x5_digits_j39 hq D   hs)
theorem fc_x5_digits {q : FQ} {σ0 : gMem} {N : Nat} {v0 : Nat} {v1 : Int} {σ : gMem} (hq : FL ([5], [(5, 3)], [], []) q) (D : FD q) (hσ : FC q σ0 σ) : Fo (fun r => FC q σ0 r ∧ TE σ r) (x5_digits N v0 v1 σ) := by
  unfold x5_digits
  refine Fo.ite (fun _ => ?_) (fun _ => ?_)
  · exact Fo.te TE.rf (fc_x5_digits_j27 hq D   hσ)
  · refine Fo.ite (fun c484 => ?_) (fun _ => Fo.none)
    refine Fo.ite (fun c485 => ?_) (fun _ => Fo.none)
    refine Fo.ite (fun _ => ?_) (fun _ => Fo.none)
    refine FC.lIp D hσ c484 (hq.2.1 (by decide)) (fun s29 q487 e488 => ?_)
    refine FC.lIo q487 (e488 _ _ (by decide) c484) (hq.1 (by decide)) (fun s32 q489 e490 => ?_)
    exact Fo.te (TE.tr (TE.tr TE.rf e488) e490) (fc_x5_digits_j27 hq D   q489)
theorem fc_x5_join {q : FQ} {σ0 : gMem} {v0 : Nat} {v1 : Nat} {σ : gMem} (hq : FL ([5], [(5, 3)], [], []) q) (D : FD q) (hσ : FC q σ0 σ) : Fo (fun r => FC q σ0 r ∧ TE σ r) (x5_join v0 v1 σ) := by
  unfold x5_join
  refine Fo.ite (fun c491 => ?_) (fun _ => Fo.none)
  refine Fo.ite (fun c492 => ?_) (fun _ => Fo.none)
  refine Fo.ite (fun _ => ?_) (fun _ => ?_)
  · refine Fo.ite (fun c494 => ?_) (fun _ => Fo.none)
    refine Fo.ite (fun c495 => ?_) (fun _ => Fo.none)
    refine Fo.ite (fun _ => ?_) (fun _ => Fo.none)
    refine FC.lCIp D hσ c491 (hq.2.1 (by decide)) (fun s10 q497 e498 => ?_)
    refine FC.lIo q497 (e498 _ _ (by decide) c491) (hq.1 (by decide)) (fun s14 q499 e500 => ?_)
    exact Fo.some ⟨q499, (TE.tr (TE.tr TE.rf e498) e500)⟩
  · refine Fo.bind (fc_x5_fail (FL.tr (by decide) hq) D   hσ) (fun x16 q501 => ?_)
    exact Fo.some ⟨q501.1, (TE.tr TE.rf q501.2)⟩
theorem fc_x5_wantNumber_j25 {q : FQ} {σ0 : gMem} {v0 : Nat} {s : gMem} (hq : FL ([], [], [], []) q) (D : FD q) (hs : FC q σ0 s) : Fo (fun r => FC q σ0 r.2 ∧ TE s r.2) (x5_wantNumber_j25 v0 s) := by
  unfold x5_wantNumber_j25
  refine Fo.ite (fun c502 => ?_) (fun _ => Fo.none)
  refine Fo.ite (fun _ => ?_) (fun _ => ?_)
  · exact Fo.some ⟨hs, TE.rf⟩
  · exact Fo.some ⟨hs, TE.rf⟩
theorem fc_x5_wantNumber_j12 {q : FQ} {σ0 : gMem} {v0 : Nat} {s : gMem} (hq : FL ([5], [], [], []) q) (D : FD q) (hs : FC q σ0 s) : Fo (fun r => FC q σ0 r.2 ∧ TE s r.2) (x5_wantNumber_j12 v0 s) := by
  unfold x5_wantNumber_j12
  refine Fo.ite (fun c504 => ?_) (fun _ => Fo.none)
  refine Fo.ite (fun _ => ?_) (fun _ => ?_)
  · exact Fo.te TE.rf (fc_x5_wantNumber_j25 (FL.tr (by decide) hq) D   hs)
  · refine Fo.bind (fc_x5_fail hq D   hs) (fun x7 q506 => ?_)
    exact Fo.te (TE.tr TE.rf q506.2) (fc_x5_wantNumber_j25 (FL.tr (by decide) hq) D   q506.1)
theorem fc_x5_wantNumber {q : FQ} {σ0 : gMem} {v0 : Nat} {σ : gMem} (hq : FL ([5], [], [], []) q) (D : FD q) (hσ : FC q σ0 σ) : Fo (fun r => FC q σ0 r.2 ∧ TE σ r.2) (x5_wantNumber v0 σ) := by
  unfold x5_wantNumber
  refine Fo.ite (fun c507 => ?_) (fun _ => Fo.none)
  refine Fo.ite (fun _ => ?_) (fun _ => ?_)
  · exact Fo.te TE.rf (fc_x5_wantNumber_j12 hq D   hσ)
  · refine Fo.bind (fc_x5_be hq D   hσ) (fun x9 q509 => ?_)
    exact Fo.te (TE.tr TE.rf q509.2) (fc_x5_wantNumber_j12 hq D   q509.1)
theorem fc_x5_wantTruth_j25 {q : FQ} {σ0 : gMem} {v0 : Nat} {s : gMem} (hq : FL ([], [], [], []) q) (D : FD q) (hs : FC q σ0 s) : Fo (fun r => FC q σ0 r.2 ∧ TE s r.2) (x5_wantTruth_j25 v0 s) := by
  unfold x5_wantTruth_j25
  refine Fo.ite (fun c510 => ?_) (fun _ => Fo.none)
  refine Fo.ite (fun _ => ?_) (fun _ => ?_)
  · exact Fo.some ⟨hs, TE.rf⟩
  · exact Fo.some ⟨hs, TE.rf⟩
theorem fc_x5_wantTruth_j12 {q : FQ} {σ0 : gMem} {v0 : Nat} {s : gMem} (hq : FL ([5], [], [], []) q) (D : FD q) (hs : FC q σ0 s) : Fo (fun r => FC q σ0 r.2 ∧ TE s r.2) (x5_wantTruth_j12 v0 s) := by
  unfold x5_wantTruth_j12
  refine Fo.ite (fun c512 => ?_) (fun _ => Fo.none)
  refine Fo.ite (fun _ => ?_) (fun _ => ?_)
  · exact Fo.te TE.rf (fc_x5_wantTruth_j25 (FL.tr (by decide) hq) D   hs)
  · refine Fo.bind (fc_x5_fail hq D   hs) (fun x7 q514 => ?_)
    exact Fo.te (TE.tr TE.rf q514.2) (fc_x5_wantTruth_j25 (FL.tr (by decide) hq) D   q514.1)
theorem fc_x5_wantTruth {q : FQ} {σ0 : gMem} {v0 : Nat} {σ : gMem} (hq : FL ([5], [], [], []) q) (D : FD q) (hσ : FC q σ0 σ) : Fo (fun r => FC q σ0 r.2 ∧ TE σ r.2) (x5_wantTruth v0 σ) := by
  unfold x5_wantTruth
  refine Fo.ite (fun c515 => ?_) (fun _ => Fo.none)
  refine Fo.ite (fun _ => ?_) (fun _ => ?_)
  · exact Fo.te TE.rf (fc_x5_wantTruth_j12 hq D   hσ)
  · refine Fo.bind (fc_x5_is hq D   hσ) (fun x9 q517 => ?_)
    exact Fo.te (TE.tr TE.rf q517.2) (fc_x5_wantTruth_j12 hq D   q517.1)
theorem fc_x5_cut {q : FQ} {σ0 : gMem} {v0 : Nat} {v1 : Int} {v3 : Int} {σ : gMem} (hq : FL ([5], [(5, 3)], [], []) q) (D : FD q) (hσ : FC q σ0 σ) : Fo (fun r => FC q σ0 r ∧ TE σ r) (x5_cut v0 v1 v3 σ) := by
  unfold x5_cut
  refine Fo.ite (fun c518 => ?_) (fun _ => Fo.none)
  refine Fo.ite (fun _ => ?_) (fun _ => ?_)
  · refine FC.lIo hσ c518 (hq.1 (by decide)) (fun s3 q520 e521 => ?_)
    exact Fo.some ⟨q520, (TE.tr TE.rf e521)⟩
  · refine Fo.ite (fun c522 => ?_) (fun _ => Fo.none)
    refine Fo.ite (fun _ => ?_) (fun _ => Fo.none)
    refine FC.lCIp D hσ c518 (hq.2.1 (by decide)) (fun s8 q524 e525 => ?_)
    refine FC.lIo q524 (e525 _ _ (by decide) c518) (hq.1 (by decide)) (fun s10 q526 e527 => ?_)
    exact Fo.some ⟨q526, (TE.tr (TE.tr TE.rf e525) e527)⟩
theorem fc_x6_wrongJust {q : FQ} {σ0 : gMem} {v0 : Nat} {v1 : Int} {v2 : Int} {σ : gMem} (hq : FL ([6], [], [], [25]) q) (D : FD q) (hσ : FC q σ0 σ) : Fo (fun r => FC q σ0 r.2 ∧ TE σ r.2) (x6_wrongJust v0 v1 v2 σ) := by
  unfold x6_wrongJust
  refine Fo.ite (fun c528 => ?_) (fun _ => Fo.none)
  refine FC.lIo hσ c528 (hq.1 (by decide)) (fun s2 q529 e530 => ?_)
  refine FC.lIo q529 (e530 _ _ (by decide) c528) (hq.1 (by decide)) (fun s4 q531 e532 => ?_)
  refine FC.lN q531 (hq.2.2.2 (by decide)) (fun s7 q533 e534 => ?_)
  exact Fo.some ⟨q533, (TE.tr (TE.tr (TE.tr TE.rf e530) e532) e534)⟩
theorem fc_x6_part {q : FQ} {σ0 : gMem} {v0 : Nat} {v1 : Int} {v2 : Int} {σ : gMem} (hq : FL ([], [], [], [102]) q) (D : FD q) (hσ : FC q σ0 σ) : Fo (fun r => FC q σ0 r.2 ∧ TE σ r.2) (x6_part v0 v1 v2 σ) := by
  unfold x6_part
  refine Fo.ite (fun _ => ?_) (fun _ => Fo.none)
  refine FC.lN hσ (hq.2.2.2 (by decide)) (fun s3 q536 e537 => ?_)
  refine Fo.ite (fun c538 => ?_) (fun _ => Fo.none)
  refine Fo.ite (fun c539 => ?_) (fun _ => Fo.none)
  refine Fo.ite (fun _ => ?_) (fun _ => Fo.none)
  refine FC.lCIf D q536 (FC.le hσ) (fun s8 q541 e542 => ?_)
  exact Fo.some ⟨q541, (TE.tr (TE.tr TE.rf e537) e542)⟩
theorem fc_x6_late_j16 {q : FQ} {σ0 : gMem} {v0 : Nat} {v1 : Int} {v2 : Int} {s : gMem} (hq : FL ([6], [], [], []) q) (D : FD q) (hs : FC q σ0 s) : Fo (fun r => FC q σ0 r ∧ TE s r) (x6_late_j16 v0 v1 v2 s) := by
  unfold x6_late_j16
  refine Fo.ite (fun c543 => ?_) (fun _ => Fo.none)
  refine FC.lIo hs c543 (hq.1 (by decide)) (fun s4 q544 e545 => ?_)
  refine FC.lIo q544 (e545 _ _ (by decide) c543) (hq.1 (by decide)) (fun s6 q546 e547 => ?_)
  exact Fo.some ⟨q546, (TE.tr (TE.tr TE.rf e545) e547)⟩
theorem fc_x6_late {q : FQ} {σ0 : gMem} {v0 : Nat} {v1 : Int} {v2 : Int} {σ : gMem} (hq : FL ([6], [], [], []) q) (D : FD q) (hσ : FC q σ0 σ) : Fo (fun r => FC q σ0 r ∧ TE σ r) (x6_late v0 v1 v2 σ) := by
  unfold x6_late
  refine Fo.ite (fun c548 => ?_) (fun _ => Fo.none)
  refine Fo.ite (fun _ => ?_) (fun _ => ?_)
  · exact Fo.te TE.rf (fc_x6_late_j16 hq D   hσ)
  · refine Fo.ite (fun _ => ?_) (fun _ => ?_)
    · exact Fo.te TE.rf (fc_x6_late_j16 hq D   hσ)
    · exact Fo.some ⟨hσ, TE.rf⟩
theorem fc_x6_two {q : FQ} {σ0 : gMem} {v0 : Nat} {v1 : Nat} {v2 : Nat} {v3 : Nat} {σ : gMem} (hq : FL ([6], [], [], [20]) q) (D : FD q) (hσ : FC q σ0 σ) : Fo (fun r => FC q σ0 r.2 ∧ TE σ r.2) (x6_two v0 v1 v2 v3 σ) := by
  unfold x6_two
  refine Fo.ite (fun c551 => ?_) (fun _ => Fo.none)
  refine FC.lIo hσ c551 (hq.1 (by decide)) (fun s3 q552 e553 => ?_)
  refine FC.lN q552 (hq.2.2.2 (by decide)) (fun s6 q554 e555 => ?_)
  refine Fo.bind (fc_x22_init (FL.tr (by decide) hq) D (FC.le q552)  q554) (fun x8 q556 => ?_)
  exact Fo.some ⟨q556.1, (TE.tr (TE.tr (TE.tr TE.rf e553) e555) q556.2)⟩
theorem fc_x7_values {q : FQ} {σ0 : gMem} {σ : gMem} (hq : FL ([], [], [], [109]) q) (D : FD q) (hσ : FC q σ0 σ) : Fo (fun r => FC q σ0 r.2 ∧ TE σ r.2) (x7_values σ) := by
  unfold x7_values
  refine Fo.ite (fun c557 => ?_) (fun _ => Fo.none)
  refine FC.lK hσ (hq.2.2.2 (by decide)) (fun s3 q558 e559 => ?_)
  exact Fo.some ⟨q558, (TE.tr TE.rf e559)⟩
theorem fc_x8_clear {q : FQ} {σ0 : gMem} {v0 : Nat} {σ : gMem} (hq : FL ([7], [], [], []) q) (D : FD q) (hσ : FC q σ0 σ) : Fo (fun r => FC q σ0 r ∧ TE σ r) (x8_clear v0 σ) := by
  unfold x8_clear
  refine Fo.ite (fun c560 => ?_) (fun _ => Fo.none)
  refine FC.lIo hσ c560 (hq.1 (by decide)) (fun s2 q561 e562 => ?_)
  refine FC.lIo q561 (e562 _ _ (by decide) c560) (hq.1 (by decide)) (fun s4 q563 e564 => ?_)
  exact Fo.some ⟨q563, (TE.tr (TE.tr TE.rf e562) e564)⟩
theorem fc_x8_put {q : FQ} {σ0 : gMem} {v0 : Nat} {v1 : Int} {σ : gMem} (hq : FL ([7], [(7, 0)], [], []) q) (D : FD q) (hσ : FC q σ0 σ) : Fo (fun r => FC q σ0 r ∧ TE σ r) (x8_put v0 v1 σ) := by
  unfold x8_put
  refine Fo.ite (fun c565 => ?_) (fun _ => Fo.none)
  refine Fo.ite (fun c566 => ?_) (fun _ => Fo.none)
  refine Fo.ite (fun _ => ?_) (fun _ => Fo.none)
  refine FC.lIp D hσ c565 (hq.2.1 (by decide)) (fun s4 q568 e569 => ?_)
  refine FC.lIo q568 (e569 _ _ (by decide) c565) (hq.1 (by decide)) (fun s7 q570 e571 => ?_)
  exact Fo.some ⟨q570, (TE.tr (TE.tr TE.rf e569) e571)⟩
theorem fc_x8_word_l2 {q : FQ} {σ0 τ : gMem} {N : Nat} {v0 : Nat} {v1 : Nat} {K : gMem → Option gMem} (hq : FL ([7], [(7, 0)], [], []) q) (D : FD q) (hK : ∀ (a0 : gMem), FC q σ0 a0 → TE τ a0 → Fo (fun r => FC q σ0 r ∧ TE τ r) (K a0)) : ∀ (n : Nat) (z0 : Int) (z1 : gMem), FC q σ0 z1 → TE τ z1 → Fo (fun r => FC q σ0 r ∧ TE τ r) (x8_word_l2 N v0 v1 K n z0 z1) := by
  intro n
  induction n with
  | zero => intros; exact Fo.none
  | succ n ih =>
    intro v2 s hs ts
    unfold x8_word_l2
    refine Fo.ite (fun c572 => ?_) (fun _ => Fo.none)
    refine Fo.ite (fun _ => ?_) (fun _ => ?_)
    · exact (hK _ hs ts)
    · refine Fo.ite (fun _ => ?_) (fun _ => Fo.none)
      refine Fo.ite (fun c575 => ?_) (fun _ => Fo.none)
      refine Fo.bind (fc_x8_put hq D   hs) (fun x5 q576 => ?_)
      exact (ih _ _  q576.1 (TE.tr ts q576.2))
theorem fc_x8_word {q : FQ} {σ0 : gMem} {N : Nat} {v0 : Nat} {v1 : Nat} {σ : gMem} (hq : FL ([7], [(7, 0)], [], []) q) (D : FD q) (hσ : FC q σ0 σ) : Fo (fun r => FC q σ0 r ∧ TE σ r) (x8_word N v0 v1 σ) := by
  unfold x8_word
  exact (fc_x8_word_l2 (τ := σ) hq D  (fun s7 q577 e578 => by
      exact Fo.some ⟨q577, e578⟩) _ _ _  hσ TE.rf)
theorem fc_x8_number_o_j36 {q : FQ} {σ0 : gMem} {W : Nat → Int → gMem → Option gMem} {v0 : Nat} {v1 : Int} {s : gMem} (hq : FL ([7], [(7, 0)], [], []) q) (D : FD q) (hW : ∀ (a0 : Nat) (a1 : Int) (a2 : gMem), FC q σ0 a2 → Fo (fun r => FC q σ0 r ∧ TE a2 r) (W a0 a1 a2)) (hs : FC q σ0 s) : Fo (fun r => FC q σ0 r ∧ TE s r) (x8_number_o_j36 W v0 v1 s) := by
  unfold x8_number_o_j36
  refine Fo.ite (fun c579 => ?_) (fun _ => Fo.none)
  refine Fo.bind (fc_x8_put hq D   hs) (fun x2 q580 => ?_)
  exact Fo.some ⟨q580.1, (TE.tr TE.rf q580.2)⟩
theorem fc_x8_number_o {q : FQ} {σ0 : gMem} {W : Nat → Int → gMem → Option gMem} {v0 : Nat} {v1 : Int} {σ : gMem} (hq : FL ([7], [(7, 0)], [], []) q) (D : FD q) (hW : ∀ (a0 : Nat) (a1 : Int) (a2 : gMem), FC q σ0 a2 → Fo (fun r => FC q σ0 r ∧ TE a2 r) (W a0 a1 a2)) (hσ : FC q σ0 σ) : Fo (fun r => FC q σ0 r ∧ TE σ r) (x8_number_o W v0 v1 σ) := by
  unfold x8_number_o
  refine Fo.ite (fun _ => ?_) (fun _ => ?_)
  · refine Fo.ite (fun _ => ?_) (fun _ => ?_)
    · exact Fo.te TE.rf (fc_x8_number_o_j36 hq D  hW hσ)
    · refine Fo.ite (fun c583 => ?_) (fun _ => Fo.none)
      refine Fo.bind (hW _ _ _ hσ) (fun x5 q584 => ?_)
      exact Fo.te (TE.tr TE.rf q584.2) (fc_x8_number_o_j36 hq D  hW q584.1)
  · refine Fo.ite (fun c585 => ?_) (fun _ => Fo.none)
    refine Fo.bind (fc_x8_put hq D   hσ) (fun x8 q586 => ?_)
    refine Fo.bind (hW _ _ _ q586.1) (fun x10 q587 => ?_)
    exact Fo.some ⟨q587.1, (TE.tr (TE.tr TE.rf q586.2) q587.2)⟩
theorem fc_x8_number {q : FQ} {σ0 : gMem}  (hq : FL ([7], [(7, 0)], [], []) q) (D : FD q)  : ∀ (n : Nat) (z0 : Nat) (z1 : Int) (z2 : gMem), FC q σ0 z2 → Fo (fun r => FC q σ0 r ∧ TE z2 r) (x8_number n z0 z1 z2) := by
  intro n
  induction n with
  | zero => intros; exact Fo.none
  | succ n ih =>
    intro a0 a1 s hs
    unfold x8_number
    exact Fo.te TE.rf (fc_x8_number_o hq D  (fun a0 a1 a2 b t => ih a0 a1 a2 b t) hs)
theorem fc_x8_at {q : FQ} {σ0 : gMem} {v0 : Nat} {v1 : Int} {σ : gMem} (hq : FL ([7], [(7, 0)], [], []) q) (D : FD q) (hσ : FC q σ0 σ) : Fo (fun r => FC q σ0 r ∧ TE σ r) (x8_at v0 v1 σ) := by
  unfold x8_at
  refine Fo.ite (fun _ => ?_) (fun _ => ?_)
  · refine Fo.ite (fun c589 => ?_) (fun _ => Fo.none)
    refine Fo.bind (fc_x8_put hq D   hσ) (fun x2 q590 => ?_)
    refine Fo.bind (fc_x8_number hq D   _ _ _ _  q590.1) (fun x4 q591 => ?_)
    exact Fo.some ⟨q591.1, (TE.tr (TE.tr TE.rf q590.2) q591.2)⟩
  · exact Fo.some ⟨hσ, TE.rf⟩
theorem fc_x8_part_j10 {q : FQ} {σ0 : gMem} {N : Nat} {W : Nat → Nat → Nat → gMem → Option gMem} {v0 : Nat} {v1 : Nat} {v2 : Int} {v3 : Nat} {s : gMem} (hq : FL ([7], [(7, 0)], [], []) q) (D : FD q) (hW : ∀ (a0 : Nat) (a1 : Nat) (a2 : Nat) (a3 : gMem), FC q σ0 a3 → Fo (fun r => FC q σ0 r ∧ TE a3 r) (W a0 a1 a2 a3)) (hs : FC q σ0 s) : Fo (fun r => FC q σ0 r ∧ TE s r) (x8_part_j10 N W v0 v1 v2 v3 s) := by
  unfold x8_part_j10
  refine Fo.bind (hW _ _ _ _ hs) (fun x1 q592 => ?_)
  refine Fo.ite (fun _ => ?_) (fun _ => ?_)
  · exact Fo.some ⟨q592.1, (TE.tr TE.rf q592.2)⟩
  · refine Fo.ite (fun c594 => ?_) (fun _ => Fo.none)
    refine Fo.bind (fc_x8_put hq D   q592.1) (fun x4 q595 => ?_)
    exact Fo.some ⟨q595.1, (TE.tr (TE.tr TE.rf q592.2) q595.2)⟩
theorem fc_x8_part {q : FQ} {σ0 : gMem} {N : Nat} {W : Nat → Nat → Nat → gMem → Option gMem} {v0 : Nat} {v1 : Nat} {v2 : Int} {v3 : Nat} {σ : gMem} (hq : FL ([7], [(7, 0)], [], []) q) (D : FD q) (hW : ∀ (a0 : Nat) (a1 : Nat) (a2 : Nat) (a3 : gMem), FC q σ0 a3 → Fo (fun r => FC q σ0 r ∧ TE a3 r) (W a0 a1 a2 a3)) (hσ : FC q σ0 σ) : Fo (fun r => FC q σ0 r ∧ TE σ r) (x8_part N W v0 v1 v2 v3 σ) := by
  unfold x8_part
  refine Fo.ite (fun _ => ?_) (fun _ => ?_)
  · exact Fo.te TE.rf (fc_x8_part_j10 hq D  hW hσ)
  · refine Fo.ite (fun c597 => ?_) (fun _ => Fo.none)
    refine Fo.bind (fc_x8_put hq D   hσ) (fun x7 q598 => ?_)
    exact Fo.te (TE.tr TE.rf q598.2) (fc_x8_part_j10 hq D  hW q598.1)
theorem fc_x8_all_l2 {q : FQ} {σ0 τ : gMem} {N : Nat} {v0 : Nat} {v1 : Nat} {K : gMem → Option gMem} (hq : FL ([7], [(7, 0)], [], []) q) (D : FD q) (hK : ∀ (a0 : gMem), FC q σ0 a0 → TE τ a0 → Fo (fun r => FC q σ0 r ∧ TE τ r) (K a0)) : ∀ (n : Nat) (z0 : Int) (z1 : gMem), FC q σ0 z1 → TE τ z1 → Fo (fun r => FC q σ0 r ∧ TE τ r) (x8_all_l2 N v0 v1 K n z0 z1) := by
  intro n
  induction n with
  | zero => intros; exact Fo.none
  | succ n ih =>
    intro v2 s hs ts
    unfold x8_all_l2
    refine Fo.ite (fun c599 => ?_) (fun _ => Fo.none)
    refine Fo.ite (fun _ => ?_) (fun _ => ?_)
    · exact (hK _ hs ts)
    · refine Fo.ite (fun _ => ?_) (fun _ => Fo.none)
      refine Fo.ite (fun c602 => ?_) (fun _ => Fo.none)
      refine Fo.bind (fc_x8_put hq D   hs) (fun x4 q603 => ?_)
      exact (ih _ _  q603.1 (TE.tr ts q603.2))
theorem fc_x8_all {q : FQ} {σ0 : gMem} {N : Nat} {v0 : Nat} {v1 : Nat} {σ : gMem} (hq : FL ([7], [(7, 0)], [], []) q) (D : FD q) (hσ : FC q σ0 σ) : Fo (fun r => FC q σ0 r ∧ TE σ r) (x8_all N v0 v1 σ) := by
  unfold x8_all
  exact (fc_x8_all_l2 (τ := σ) hq D  (fun s6 q604 e605 => by
      exact Fo.some ⟨q604, e605⟩) _ _ _  hσ TE.rf)
theorem fc_x9_init {q : FQ} {σ0 : gMem} {v0 : Nat} {v1 : Nat} {v2 : Nat} {σ : gMem} (hq : FL ([], [], [], [110, 111]) q) (D : FD q) (gv0 : mZ σ0 ≤ v0) (hσ : FC q σ0 σ) : Fo (fun r => FC q σ0 r ∧ TE σ r) (x9_init v0 v1 v2 σ) := by
  unfold x9_init
  refine Fo.ite (fun c606 => ?_) (fun _ => Fo.none)
  refine FC.lRf D hσ gv0 (fun s2 q607 e608 => ?_)
  refine FC.lRf D q607 gv0 (fun s4 q609 e610 => ?_)
  refine Fo.ite (fun c611 => ?_) (fun _ => Fo.none)
  refine Fo.ite (fun c612 => ?_) (fun _ => Fo.none)
  refine Fo.ite (fun _ => ?_) (fun _ => Fo.none)
  refine FC.lM q609 (hq.2.2.2 (by decide)) (hq.2.2.2 (by decide)) (fun s10 q614 e615 => ?_)
  refine FC.lRf D q614 gv0 (fun s12 q616 e617 => ?_)
  exact Fo.some ⟨q616, (TE.tr (TE.tr (TE.tr (TE.tr TE.rf e608) e610) e615) e617)⟩
theorem fc_x9_init_2 {q : FQ} {σ0 : gMem} {v0 : Nat} {v1 : Nat} {v2 : Nat} {v3 : Nat} {σ : gMem} (hq : FL ([], [], [], []) q) (D : FD q) (gv0 : mZ σ0 ≤ v0) (hσ : FC q σ0 σ) : Fo (fun r => FC q σ0 r ∧ TE σ r) (x9_init_2 v0 v1 v2 v3 σ) := by
  unfold x9_init_2
  refine Fo.ite (fun c618 => ?_) (fun _ => Fo.none)
  refine FC.lRf D hσ gv0 (fun s2 q619 e620 => ?_)
  refine FC.lRf D q619 gv0 (fun s4 q621 e622 => ?_)
  refine FC.lRf D q621 gv0 (fun s6 q623 e624 => ?_)
  exact Fo.some ⟨q623, (TE.tr (TE.tr (TE.tr TE.rf e620) e622) e624)⟩
theorem fc_x1_feed {q : FQ} {σ0 : gMem} {N : Nat} {v0 : Nat} {v1 : Int} {v2 : Int} {v3 : Int} {v4 : Int} {v5 : Int} {σ : gMem} (hq : FL ([1], [(1, 0)], [], []) q) (D : FD q) (hσ : FC q σ0 σ) : Fo (fun r => FC q σ0 r.2 ∧ TE σ r.2) (x1_feed N v0 v1 v2 v3 v4 v5 σ) := by
  unfold x1_feed
  refine Fo.ite (fun c625 => ?_) (fun _ => Fo.none)
  refine Fo.ite (fun _ => ?_) (fun _ => ?_)
  · refine Fo.bind (fc_x1_word hq D   hσ) (fun x3 q627 => ?_)
    refine Fo.bind (fc_x1_word hq D   q627.1) (fun x5 q628 => ?_)
    refine Fo.bind (fc_x1_word hq D   q628.1) (fun x7 q629 => ?_)
    refine Fo.bind (fc_x1_word hq D   q629.1) (fun x9 q630 => ?_)
    refine Fo.bind (fc_x1_word hq D   q630.1) (fun x11 q631 => ?_)
    exact Fo.some ⟨q631.1, (TE.tr (TE.tr (TE.tr (TE.tr (TE.tr TE.rf q627.2) q628.2) q629.2) q630.2) q631.2)⟩
  · exact Fo.some ⟨hσ, TE.rf⟩
theorem fc_x1_reckon_j96 {q : FQ} {σ0 : gMem} {v1 : Nat} {v2 : Int} {v4 : Int} {s : gMem} (hq : FL ([5], [], [], []) q) (D : FD q) (hs : FC q σ0 s) : Fo (fun r => FC q σ0 r ∧ TE s r) (x1_reckon_j96 v1 v2 v4 s) := by
  unfold x1_reckon_j96
  refine Fo.ite (fun c632 => ?_) (fun _ => Fo.none)
  refine Fo.bind (fc_x5_be hq D   hs) (fun x13 q633 => ?_)
  exact Fo.some ⟨q633.1, (TE.tr TE.rf q633.2)⟩
theorem fc_x1_reckon {q : FQ} {σ0 : gMem} {v0 : Nat} {v1 : Nat} {v2 : Int} {σ : gMem} (hq : FL ([5], [], [], []) q) (D : FD q) (hσ : FC q σ0 σ) : Fo (fun r => FC q σ0 r ∧ TE σ r) (x1_reckon v0 v1 v2 σ) := by
  unfold x1_reckon
  refine Fo.ite (fun c634 => ?_) (fun _ => Fo.none)
  refine Fo.ite (fun c635 => ?_) (fun _ => Fo.none)
  refine Fo.ite (fun _ => ?_) (fun _ => ?_)
  · refine Fo.bind (fc_x5_be hq D   hσ) (fun x6 q637 => ?_)
    exact Fo.some ⟨q637.1, (TE.tr TE.rf q637.2)⟩
  · refine Fo.ite (fun _ => ?_) (fun _ => ?_)
    · refine Fo.bind (fc_x5_be hq D   hσ) (fun x9 q639 => ?_)
      exact Fo.some ⟨q639.1, (TE.tr TE.rf q639.2)⟩
    · refine Fo.ite (fun _ => ?_) (fun _ => ?_)
      · refine Fo.ite (fun _ => ?_) (fun _ => ?_)
        · exact Fo.te TE.rf (fc_x1_reckon_j96 hq D   hσ)
        · refine Fo.ite (fun _ => ?_) (fun _ => ?_)
          · exact Fo.te TE.rf (fc_x1_reckon_j96 hq D   hσ)
          · refine Fo.ite (fun _ => ?_) (fun _ => Fo.none)
            refine Fo.ite (fun _ => ?_) (fun _ => ?_)
            · exact Fo.te TE.rf (fc_x1_reckon_j96 hq D   hσ)
            · refine Fo.bind (fc_x5_fail hq D   hσ) (fun x15 q645 => ?_)
              exact Fo.some ⟨q645.1, (TE.tr TE.rf q645.2)⟩
      · refine Fo.ite (fun _ => ?_) (fun _ => ?_)
        · refine Fo.ite (fun _ => ?_) (fun _ => ?_)
          · refine Fo.ite (fun _ => ?_) (fun _ => Fo.none)
            refine Fo.bind (fc_x5_be hq D   hσ) (fun x17 q649 => ?_)
            exact Fo.some ⟨q649.1, (TE.tr TE.rf q649.2)⟩
          · refine Fo.ite (fun _ => ?_) (fun _ => Fo.none)
            refine Fo.bind (fc_x5_be hq D   hσ) (fun x19 q651 => ?_)
            exact Fo.some ⟨q651.1, (TE.tr TE.rf q651.2)⟩
        · refine Fo.bind (fc_x5_fail hq D   hσ) (fun x21 q652 => ?_)
          exact Fo.some ⟨q652.1, (TE.tr TE.rf q652.2)⟩
theorem fc_x1_look {q : FQ} {σ0 : gMem} {v0 : Nat} {v1 : Int} {v2 : Int} {v3 : Int} {v4 : Int} {σ : gMem} (hq : FL ([], [], [], []) q) (D : FD q) (hσ : FC q σ0 σ) : Fo (fun r => FC q σ0 r.2 ∧ TE σ r.2) (x1_look v0 v1 v2 v3 v4 σ) := by
  unfold x1_look
  refine Fo.ite (fun c653 => ?_) (fun _ => Fo.none)
  refine Fo.ite (fun c654 => ?_) (fun _ => Fo.none)
  refine Fo.pure (fun x3 => ?_)
  refine Fo.ite (fun _ => ?_) (fun _ => ?_)
  · exact Fo.some ⟨(FC.x hσ), (TE.tr TE.rf TE.x)⟩
  · refine Fo.pure (fun x5 => ?_)
    refine Fo.ite (fun _ => ?_) (fun _ => ?_)
    · refine Fo.ite (fun _ => ?_) (fun _ => ?_)
      · exact Fo.some ⟨(FC.x hσ), (TE.tr TE.rf TE.x)⟩
      · refine Fo.ite (fun _ => ?_) (fun _ => ?_)
        · exact Fo.some ⟨hσ, TE.rf⟩
        · exact Fo.some ⟨(FC.x hσ), (TE.tr TE.rf TE.x)⟩
    · exact Fo.some ⟨(FC.x hσ), (TE.tr TE.rf TE.x)⟩
theorem fc_x1_marksOf {q : FQ} {σ0 : gMem} {v0 : Nat} {v1 : Int} {σ : gMem} (hq : FL ([], [], [], []) q) (D : FD q) (hσ : FC q σ0 σ) : Fo (fun r => FC q σ0 r.2 ∧ TE σ r.2) (x1_marksOf v0 v1 σ) := by
  unfold x1_marksOf
  refine Fo.ite (fun _ => ?_) (fun _ => ?_)
  · refine Fo.ite (fun c660 => ?_) (fun _ => Fo.none)
    refine Fo.ite (fun c661 => ?_) (fun _ => Fo.none)
    refine Fo.pure (fun x3 => ?_)
    exact Fo.some ⟨hσ, TE.rf⟩
  · refine Fo.ite (fun _ => ?_) (fun _ => ?_)
    · refine Fo.ite (fun c663 => ?_) (fun _ => Fo.none)
      refine Fo.ite (fun c664 => ?_) (fun _ => Fo.none)
      refine Fo.pure (fun x6 => ?_)
      exact Fo.some ⟨hσ, TE.rf⟩
    · exact Fo.some ⟨(FC.x hσ), (TE.tr TE.rf TE.x)⟩
theorem fc_x1_branch {q : FQ} {σ0 : gMem} {v0 : Nat} {v1 : Int} {σ : gMem} (hq : FL ([], [(1, 6)], [], []) q) (D : FD q) (hσ : FC q σ0 σ) : Fo (fun r => FC q σ0 r.2 ∧ TE σ r.2) (x1_branch v0 v1 σ) := by
  unfold x1_branch
  refine Fo.pure (fun x1 => ?_)
  refine Fo.ite (fun _ => ?_) (fun _ => ?_)
  · refine Fo.ite (fun c666 => ?_) (fun _ => Fo.none)
    refine Fo.ite (fun c667 => ?_) (fun _ => Fo.none)
    refine Fo.ite (fun _ => ?_) (fun _ => Fo.none)
    refine Fo.ite (fun _ => ?_) (fun _ => ?_)
    · refine Fo.pure (fun x6 => ?_)
      refine Fo.ite (fun _ => ?_) (fun _ => Fo.none)
      refine FC.lIp D hσ c666 (hq.2.1 (by decide)) (fun s8 q671 e672 => ?_)
      refine Fo.pure (fun x10 => ?_)
      exact Fo.some ⟨q671, (TE.tr TE.rf e672)⟩
    · exact Fo.some ⟨(FC.x hσ), (TE.tr TE.rf TE.x)⟩
  · exact Fo.some ⟨(FC.x hσ), (TE.tr TE.rf TE.x)⟩
theorem fc_x1_differAlone_l10_j65 {q : FQ} {σ0 τ : gMem} {N : Nat} {v0 : Nat} {v2 : Nat} {v3 : Int} {v4 : Int} {v5 : Nat} {v6 : Int} {Kh : Int → gMem → Option gMem} {K : gMem → Option gMem} {s : gMem} (hq : FL ([], [], [], []) q) (D : FD q) (hKh : ∀ (a0 : Int) (a1 : gMem), FC q σ0 a1 → TE τ a1 → Fo (fun r => FC q σ0 r ∧ TE τ r) (Kh a0 a1)) (hK : ∀ (a0 : gMem), FC q σ0 a0 → TE τ a0 → Fo (fun r => FC q σ0 r ∧ TE τ r) (K a0)) (hs : FC q σ0 s) (ts : TE τ s) : Fo (fun r => FC q σ0 r ∧ TE τ r) (x1_differAlone_l10_j65 N v0 v2 v3 v4 v5 v6 Kh K s) := by
  unfold x1_differAlone_l10_j65
  exact (hKh _ _ hs ts)
theorem fc_x1_differAlone_l10_j62 {q : FQ} {σ0 τ : gMem} {N : Nat} {v0 : Nat} {v2 : Nat} {v3 : Int} {v4 : Int} {v5 : Nat} {v6 : Int} {t0 : Int} {t1 : Int} {t2 : Int} {t3 : Nat} {Kh : Int → gMem → Option gMem} {K : gMem → Option gMem} {s : gMem} (hq : FL ([1], [(1, 26), (1, 27), (1, 28)], [], []) q) (D : FD q) (hKh : ∀ (a0 : Int) (a1 : gMem), FC q σ0 a1 → TE τ a1 → Fo (fun r => FC q σ0 r ∧ TE τ r) (Kh a0 a1)) (hK : ∀ (a0 : gMem), FC q σ0 a0 → TE τ a0 → Fo (fun r => FC q σ0 r ∧ TE τ r) (K a0)) (hs : FC q σ0 s) (ts : TE τ s) : Fo (fun r => FC q σ0 r ∧ TE τ r) (x1_differAlone_l10_j62 N v0 v2 v3 v4 v5 v6 t0 t1 t2 t3 Kh K s) := by
  unfold x1_differAlone_l10_j62
  refine Fo.ite (fun c673 => ?_) (fun _ => Fo.none)
  refine Fo.bind (fc_x1_differ hq D   hs) (fun x10 q674 => ?_)
  exact (fc_x1_differAlone_l10_j65 (τ := τ) (FL.tr (by decide) hq) D  hKh hK q674.1 (TE.tr ts q674.2))
theorem fc_x1_differAlone_l10_j50 {q : FQ} {σ0 τ : gMem} {N : Nat} {v0 : Nat} {v2 : Nat} {v3 : Int} {v4 : Int} {v5 : Nat} {v6 : Int} {t0 : Int} {t1 : Int} {t2 : Nat} {Kh : Int → gMem → Option gMem} {K : gMem → Option gMem} {s : gMem} (hq : FL ([1], [(1, 26), (1, 27), (1, 28)], [], []) q) (D : FD q) (hKh : ∀ (a0 : Int) (a1 : gMem), FC q σ0 a1 → TE τ a1 → Fo (fun r => FC q σ0 r ∧ TE τ r) (Kh a0 a1)) (hK : ∀ (a0 : gMem), FC q σ0 a0 → TE τ a0 → Fo (fun r => FC q σ0 r ∧ TE τ r) (K a0)) (hs : FC q σ0 s) (ts : TE τ s) : Fo (fun r => FC q σ0 r ∧ TE τ r) (x1_differAlone_l10_j50 N v0 v2 v3 v4 v5 v6 t0 t1 t2 Kh K s) := by
  unfold x1_differAlone_l10_j50
  refine Fo.ite (fun _ => ?_) (fun _ => ?_)
  · exact (fc_x1_differAlone_l10_j62 (τ := τ) hq D  hKh hK hs ts)
  · exact (fc_x1_differAlone_l10_j62 (τ := τ) hq D  hKh hK hs ts)
theorem fc_x1_differAlone_l10 {q : FQ} {σ0 τ : gMem} {N : Nat} {v0 : Nat} {v2 : Nat} {v3 : Int} {v4 : Int} {v5 : Nat} {K : gMem → Option gMem} (hq : FL ([1], [(1, 26), (1, 27), (1, 28)], [], []) q) (D : FD q) (hK : ∀ (a0 : gMem), FC q σ0 a0 → TE τ a0 → Fo (fun r => FC q σ0 r ∧ TE τ r) (K a0)) : ∀ (n : Nat) (z0 : Int) (z1 : gMem), FC q σ0 z1 → TE τ z1 → Fo (fun r => FC q σ0 r ∧ TE τ r) (x1_differAlone_l10 N v0 v2 v3 v4 v5 K n z0 z1) := by
  intro n
  induction n with
  | zero => intros; exact Fo.none
  | succ n ih =>
    intro v6 s hs ts
    unfold x1_differAlone_l10
    refine Fo.ite (fun c676 => ?_) (fun _ => Fo.none)
    refine Fo.ite (fun _ => ?_) (fun _ => ?_)
    · exact (hK _ hs ts)
    · refine Fo.ite (fun c678 => ?_) (fun _ => Fo.none)
      refine Fo.pure (fun x5 => ?_)
      refine Fo.ite (fun _ => ?_) (fun _ => Fo.none)
      refine Fo.pure (fun x7 => ?_)
      refine Fo.ite (fun _ => ?_) (fun _ => ?_)
      · exact (fc_x1_differAlone_l10_j65 (τ := τ) (FL.tr (by decide) hq) D  (fun a0 a1 b t => ih a0 a1 b t) hK hs ts)
      · refine Fo.ite (fun _ => ?_) (fun _ => ?_)
        · exact (fc_x1_differAlone_l10_j50 (τ := τ) hq D  (fun a0 a1 b t => ih a0 a1 b t) hK hs ts)
        · exact (fc_x1_differAlone_l10_j50 (τ := τ) hq D  (fun a0 a1 b t => ih a0 a1 b t) hK hs ts)
theorem fc_x1_differAlone {q : FQ} {σ0 : gMem} {N : Nat} {v0 : Nat} {v1 : Nat} {v2 : Nat} {v3 : Int} {v4 : Int} {σ : gMem} (hq : FL ([1], [(1, 26), (1, 27), (1, 28)], [], []) q) (D : FD q) (hσ : FC q σ0 σ) : Fo (fun r => FC q σ0 r ∧ TE σ r) (x1_differAlone N v0 v1 v2 v3 v4 σ) := by
  unfold x1_differAlone
  refine Fo.ite (fun c682 => ?_) (fun _ => Fo.none)
  refine Fo.pure (fun x2 => ?_)
  exact (fc_x1_differAlone_l10 (τ := σ) hq D  (fun s12 q683 e684 => by
      exact Fo.some ⟨q683, e684⟩) _ _ _  hσ TE.rf)
theorem fc_x1_differInOrder_l13_j66 {q : FQ} {σ0 τ : gMem} {N : Nat} {v0 : Nat} {v2 : Nat} {v3 : Int} {v4 : Nat} {v5 : Int} {v6 : Int} {Kh : Int → Int → gMem → Option gMem} {K : gMem → Option gMem} {s : gMem} (hq : FL ([], [], [], []) q) (D : FD q) (hKh : ∀ (a0 : Int) (a1 : Int) (a2 : gMem), FC q σ0 a2 → TE τ a2 → Fo (fun r => FC q σ0 r ∧ TE τ r) (Kh a0 a1 a2)) (hK : ∀ (a0 : gMem), FC q σ0 a0 → TE τ a0 → Fo (fun r => FC q σ0 r ∧ TE τ r) (K a0)) (hs : FC q σ0 s) (ts : TE τ s) : Fo (fun r => FC q σ0 r ∧ TE τ r) (x1_differInOrder_l13_j66 N v0 v2 v3 v4 v5 v6 Kh K s) := by
  unfold x1_differInOrder_l13_j66
  exact (hKh _ _ _ hs ts)
theorem fc_x1_differInOrder_l13 {q : FQ} {σ0 τ : gMem} {N : Nat} {v0 : Nat} {v2 : Nat} {v3 : Int} {v4 : Nat} {K : gMem → Option gMem} (hq : FL ([1], [(1, 26), (1, 27), (1, 28)], [], []) q) (D : FD q) (hK : ∀ (a0 : gMem), FC q σ0 a0 → TE τ a0 → Fo (fun r => FC q σ0 r ∧ TE τ r) (K a0)) : ∀ (n : Nat) (z0 : Int) (z1 : Int) (z2 : gMem), FC q σ0 z2 → TE τ z2 → Fo (fun r => FC q σ0 r ∧ TE τ r) (x1_differInOrder_l13 N v0 v2 v3 v4 K n z0 z1 z2) := by
  intro n
  induction n with
  | zero => intros; exact Fo.none
  | succ n ih =>
    intro v5 v6 s hs ts
    unfold x1_differInOrder_l13
    refine Fo.ite (fun c685 => ?_) (fun _ => Fo.none)
    refine Fo.ite (fun _ => ?_) (fun _ => ?_)
    · exact (hK _ hs ts)
    · refine Fo.ite (fun c687 => ?_) (fun _ => Fo.none)
      refine Fo.pure (fun x5 => ?_)
      refine Fo.ite (fun _ => ?_) (fun _ => Fo.none)
      refine Fo.pure (fun x7 => ?_)
      refine Fo.ite (fun _ => ?_) (fun _ => ?_)
      · refine Fo.ite (fun _ => ?_) (fun _ => ?_)
        · exact (fc_x1_differInOrder_l13_j66 (τ := τ) (FL.tr (by decide) hq) D  (fun a0 a1 a2 b t => ih a0 a1 a2 b t) hK hs ts)
        · refine Fo.ite (fun c691 => ?_) (fun _ => Fo.none)
          refine Fo.bind (fc_x1_differ hq D   hs) (fun x10 q692 => ?_)
          exact Fo.some ⟨q692.1, (TE.tr ts q692.2)⟩
      · exact (fc_x1_differInOrder_l13_j66 (τ := τ) (FL.tr (by decide) hq) D  (fun a0 a1 a2 b t => ih a0 a1 a2 b t) hK hs ts)
theorem fc_x1_differInOrder {q : FQ} {σ0 : gMem} {N : Nat} {v0 : Nat} {v1 : Nat} {v2 : Nat} {v3 : Int} {σ : gMem} (hq : FL ([1], [(1, 26), (1, 27), (1, 28)], [], []) q) (D : FD q) (hσ : FC q σ0 σ) : Fo (fun r => FC q σ0 r ∧ TE σ r) (x1_differInOrder N v0 v1 v2 v3 σ) := by
  unfold x1_differInOrder
  refine Fo.ite (fun c693 => ?_) (fun _ => Fo.none)
  refine Fo.pure (fun x2 => ?_)
  exact (fc_x1_differInOrder_l13 (τ := σ) hq D  (fun s12 q694 e695 => by
      exact Fo.some ⟨q694, e695⟩) _ _ _ _  hσ TE.rf)
theorem fc_x10_init {q : FQ} {σ0 : gMem} {v0 : Nat} {v1 : Nat} {v2 : Int} {v3 : Int} {v4 : Int} {σ : gMem} (hq : FL ([], [], [], [2, 101, 102]) q) (D : FD q) (gv0 : mZ σ0 ≤ v0) (hσ : FC q σ0 σ) : Fo (fun r => FC q σ0 r ∧ TE σ r) (x10_init v0 v1 v2 v3 v4 σ) := by
  unfold x10_init
  refine Fo.ite (fun c696 => ?_) (fun _ => Fo.none)
  refine FC.lN hσ (hq.2.2.2 (by decide)) (fun s3 q697 e698 => ?_)
  refine Fo.bind (fc_x2_init (FL.tr (by decide) hq) D (FC.le hσ)  q697) (fun x5 q699 => ?_)
  refine FC.lRf D q699.1 gv0 (fun s7 q700 e701 => ?_)
  refine FC.lRf D q700 gv0 (fun s9 q702 e703 => ?_)
  refine FC.lIf D q702 gv0 (fun s11 q704 e705 => ?_)
  refine FC.lIf D q704 gv0 (fun s13 q706 e707 => ?_)
  refine FC.lLf D q706 gv0 (fun s15 q708 e709 => ?_)
  exact Fo.some ⟨q708, (TE.tr (TE.tr (TE.tr (TE.tr (TE.tr (TE.tr (TE.tr TE.rf e698) q699.2) e701) e703) e705) e707) e709)⟩
theorem fc_x13_work {q : FQ} {σ0 : gMem} {v0 : Nat} {v1 : Nat} {v2 : Nat} {σ : gMem} (hq : FL ([5], [], [], []) q) (D : FD q) (hσ : FC q σ0 σ) : Fo (fun r => FC q σ0 r ∧ TE σ r) (x13_work v0 v1 v2 σ) := by
  unfold x13_work
  refine Fo.ite (fun c710 => ?_) (fun _ => Fo.none)
  refine Fo.ite (fun c711 => ?_) (fun _ => Fo.none)
  refine Fo.bind (fc_x5_be hq D   hσ) (fun x4 q712 => ?_)
  exact Fo.some ⟨q712.1, (TE.tr TE.rf q712.2)⟩
theorem fc_x13_write {q : FQ} {σ0 : gMem} {v0 : Nat} {v1 : Nat} {v2 : Nat} {σ : gMem} (hq : FL ([7], [(7, 0)], [], []) q) (D : FD q) (hσ : FC q σ0 σ) : Fo (fun r => FC q σ0 r ∧ TE σ r) (x13_write v0 v1 v2 σ) := by
  unfold x13_write
  refine Fo.ite (fun c713 => ?_) (fun _ => Fo.none)
  refine Fo.ite (fun c714 => ?_) (fun _ => Fo.none)
  refine Fo.bind (fc_x8_number hq D   _ _ _ _  hσ) (fun x4 q715 => ?_)
  exact Fo.some ⟨q715.1, (TE.tr TE.rf q715.2)⟩
theorem fc_x14_work {q : FQ} {σ0 : gMem} {v0 : Nat} {v1 : Nat} {v2 : Nat} {σ : gMem} (hq : FL ([5], [(5, 3)], [], []) q) (D : FD q) (hσ : FC q σ0 σ) : Fo (fun r => FC q σ0 r ∧ TE σ r) (x14_work v0 v1 v2 σ) := by
  unfold x14_work
  refine Fo.ite (fun c716 => ?_) (fun _ => Fo.none)
  refine Fo.ite (fun c717 => ?_) (fun _ => Fo.none)
  refine Fo.ite (fun c718 => ?_) (fun _ => Fo.none)
  refine Fo.bind (fc_x5_words hq D   hσ) (fun x4 q719 => ?_)
  exact Fo.some ⟨q719.1, (TE.tr TE.rf q719.2)⟩
theorem fc_x15_work {q : FQ} {σ0 : gMem} {v0 : Nat} {v1 : Nat} {v2 : Nat} {σ : gMem} (hq : FL ([5], [], [], []) q) (D : FD q) (hσ : FC q σ0 σ) : Fo (fun r => FC q σ0 r ∧ TE σ r) (x15_work v0 v1 v2 σ) := by
  unfold x15_work
  refine Fo.ite (fun c720 => ?_) (fun _ => Fo.none)
  refine Fo.bind (fc_x5_fail hq D   hσ) (fun x2 q721 => ?_)
  exact Fo.some ⟨q721.1, (TE.tr TE.rf q721.2)⟩
theorem fc_x15_write {q : FQ} {σ0 : gMem} {N : Nat} {v0 : Nat} {v1 : Nat} {v2 : Nat} {σ : gMem} (hq : FL ([7], [(7, 0)], [], []) q) (D : FD q) (hσ : FC q σ0 σ) : Fo (fun r => FC q σ0 r ∧ TE σ r) (x15_write N v0 v1 v2 σ) := by
  unfold x15_write
  refine Fo.ite (fun c722 => ?_) (fun _ => Fo.none)
  refine Fo.bind (fc_x8_word hq D   hσ) (fun x2 q723 => ?_)
  exact Fo.some ⟨q723.1, (TE.tr TE.rf q723.2)⟩
theorem fc_x18_work {q : FQ} {σ0 : gMem} {v0 : Nat} {v1 : Nat} {v2 : Nat} {σ : gMem} (hq : FL ([5], [], [], []) q) (D : FD q) (hσ : FC q σ0 σ) : Fo (fun r => FC q σ0 r ∧ TE σ r) (x18_work v0 v1 v2 σ) := by
  unfold x18_work
  refine Fo.ite (fun c724 => ?_) (fun _ => Fo.none)
  refine Fo.ite (fun c725 => ?_) (fun _ => Fo.none)
  refine Fo.bind (fc_x5_is hq D   hσ) (fun x4 q726 => ?_)
  exact Fo.some ⟨q726.1, (TE.tr TE.rf q726.2)⟩
theorem fc_x18_write {q : FQ} {σ0 : gMem} {N : Nat} {v0 : Nat} {v1 : Nat} {v2 : Nat} {σ : gMem} (hq : FL ([7], [(7, 0)], [], []) q) (D : FD q) (hσ : FC q σ0 σ) : Fo (fun r => FC q σ0 r ∧ TE σ r) (x18_write N v0 v1 v2 σ) := by
  unfold x18_write
  refine Fo.ite (fun c727 => ?_) (fun _ => Fo.none)
  refine Fo.ite (fun _ => ?_) (fun _ => ?_)
  · refine Fo.ite (fun c729 => ?_) (fun _ => Fo.none)
    refine Fo.bind (fc_x8_word hq D   hσ) (fun x4 q730 => ?_)
    exact Fo.some ⟨q730.1, (TE.tr TE.rf q730.2)⟩
  · refine Fo.ite (fun c731 => ?_) (fun _ => Fo.none)
    refine Fo.bind (fc_x8_word hq D   hσ) (fun x7 q732 => ?_)
    exact Fo.some ⟨q732.1, (TE.tr TE.rf q732.2)⟩
theorem fc_x19_work {q : FQ} {σ0 : gMem} {v0 : Nat} {v1 : Nat} {v2 : Nat} {σ : gMem} (hq : FL ([5], [], [], []) q) (D : FD q) (hσ : FC q σ0 σ) : Fo (fun r => FC q σ0 r ∧ TE σ r) (x19_work v0 v1 v2 σ) := by
  unfold x19_work
  refine Fo.ite (fun c733 => ?_) (fun _ => Fo.none)
  refine Fo.bind (fc_x5_none hq D   hσ) (fun x2 q734 => ?_)
  exact Fo.some ⟨q734.1, (TE.tr TE.rf q734.2)⟩
theorem fc_x20_leads_l13 {q : FQ} {σ0 τ : gMem} {N : Nat} {W : Nat → Nat → Nat → gMem → Option gMem} {v0 : Nat} {v1 : Nat} {v2 : Nat} {K : gMem → Option gMem} (hq : FL ([], [], [], []) q) (D : FD q) (hW : ∀ (a0 : Nat) (a1 : Nat) (a2 : Nat) (a3 : gMem), FC q σ0 a3 → Fo (fun r => FC q σ0 r ∧ TE a3 r) (W a0 a1 a2 a3)) (hK : ∀ (a0 : gMem), FC q σ0 a0 → TE τ a0 → Fo (fun r => FC q σ0 r ∧ TE τ r) (K a0)) : ∀ (n : Nat) (z0 : Int) (z1 : gMem), FC q σ0 z1 → TE τ z1 → Fo (fun r => FC q σ0 r ∧ TE τ r) (x20_leads_l13 N W v0 v1 v2 K n z0 z1) := by
  intro n
  induction n with
  | zero => intros; exact Fo.none
  | succ n ih =>
    intro v3 s hs ts
    unfold x20_leads_l13
    refine Fo.ite (fun c735 => ?_) (fun _ => Fo.none)
    refine Fo.ite (fun c736 => ?_) (fun _ => Fo.none)
    refine Fo.ite (fun _ => ?_) (fun _ => ?_)
    · exact (hK _ hs ts)
    · refine Fo.ite (fun _ => ?_) (fun _ => Fo.none)
      refine Fo.bind (hW _ _ _ _ hs) (fun x7 q739 => ?_)
      exact (ih _ _  q739.1 (TE.tr ts q739.2))
theorem fc_x20_leads {q : FQ} {σ0 : gMem} {N : Nat} {W : Nat → Nat → Nat → gMem → Option gMem} {v0 : Nat} {v1 : Nat} {v2 : Nat} {σ : gMem} (hq : FL ([], [], [], []) q) (D : FD q) (hW : ∀ (a0 : Nat) (a1 : Nat) (a2 : Nat) (a3 : gMem), FC q σ0 a3 → Fo (fun r => FC q σ0 r ∧ TE a3 r) (W a0 a1 a2 a3)) (hσ : FC q σ0 σ) : Fo (fun r => FC q σ0 r ∧ TE σ r) (x20_leads N W v0 v1 v2 σ) := by
  unfold x20_leads
  refine Fo.ite (fun c740 => ?_) (fun _ => Fo.none)
  refine Fo.ite (fun c741 => ?_) (fun _ => Fo.none)
  refine Fo.pure (fun x3 => ?_)
  refine Fo.ite (fun _ => ?_) (fun _ => ?_)
  · exact (fc_x20_leads_l13 (τ := σ) hq D  hW (fun s9 q743 e744 => by
      exact Fo.some ⟨q743, e744⟩) _ _ _  hσ TE.rf)
  · exact Fo.some ⟨hσ, TE.rf⟩
theorem fc_x20_nth_l44 {q : FQ} {σ0 τ : gMem} {N : Nat} {v1 : Nat} {v2 : Nat} {v3 : Nat} {K : gMem → Option gMem} (hq : FL ([3, 5], [(5, 3)], [], []) q) (D : FD q) (hK : ∀ (a0 : gMem), FC q σ0 a0 → TE τ a0 → Fo (fun r => FC q σ0 r ∧ TE τ r) (K a0)) : ∀ (n : Nat) (z0 : Int) (z1 : gMem), FC q σ0 z1 → TE τ z1 → Fo (fun r => FC q σ0 r ∧ TE τ r) (x20_nth_l44 N v1 v2 v3 K n z0 z1) := by
  intro n
  induction n with
  | zero => intros; exact Fo.none
  | succ n ih =>
    intro v4 s hs ts
    unfold x20_nth_l44
    refine Fo.ite (fun c745 => ?_) (fun _ => Fo.none)
    refine Fo.ite (fun _ => ?_) (fun _ => ?_)
    · exact (hK _ hs ts)
    · refine Fo.ite (fun c747 => ?_) (fun _ => Fo.none)
      refine Fo.bind (fc_x3_next hq D   hs) (fun x16 q748 => ?_)
      exact (ih _ _  q748.1 (TE.tr ts q748.2))
theorem fc_x20_nth {q : FQ} {σ0 : gMem} {N : Nat} {v0 : Nat} {v1 : Nat} {v2 : Nat} {v3 : Nat} {σ : gMem} (hq : FL ([3, 5], [(5, 3)], [], []) q) (D : FD q) (hσ : FC q σ0 σ) : Fo (fun r => FC q σ0 r ∧ TE σ r) (x20_nth N v0 v1 v2 v3 σ) := by
  unfold x20_nth
  refine Fo.ite (fun c749 => ?_) (fun _ => Fo.none)
  refine Fo.bind (fc_x5_wantNumber (FL.tr (by decide) hq) D   hσ) (fun x2 q750 => ?_)
  refine Fo.ite (fun _ => ?_) (fun _ => ?_)
  · refine Fo.ite (fun _ => ?_) (fun _ => ?_)
    · refine Fo.ite (fun c753 => ?_) (fun _ => Fo.none)
      refine Fo.bind (fc_x5_fail (FL.tr (by decide) hq) D   q750.1) (fun x7 q754 => ?_)
      exact Fo.some ⟨q754.1, (TE.tr (TE.tr TE.rf q750.2) q754.2)⟩
    · refine Fo.ite (fun c755 => ?_) (fun _ => Fo.none)
      refine Fo.pure (fun x11 => ?_)
      refine Fo.ite (fun _ => ?_) (fun _ => ?_)
      · exact (fc_x20_nth_l44 (τ := σ) hq D  (fun s19 q757 e758 => by
      refine Fo.ite (fun c759 => ?_) (fun _ => Fo.none)
      refine Fo.ite (fun c760 => ?_) (fun _ => Fo.none)
      refine Fo.bind (fc_x5_copy (FL.tr (by decide) hq) D   q757) (fun x22 q761 => ?_)
      exact Fo.some ⟨q761.1, (TE.tr e758 q761.2)⟩) _ _ _  q750.1 (TE.tr TE.rf q750.2))
      · refine Fo.ite (fun c762 => ?_) (fun _ => Fo.none)
        refine Fo.bind (fc_x5_fail (FL.tr (by decide) hq) D   q750.1) (fun x25 q763 => ?_)
        exact Fo.some ⟨q763.1, (TE.tr (TE.tr TE.rf q750.2) q763.2)⟩
  · refine Fo.ite (fun c764 => ?_) (fun _ => Fo.none)
    refine Fo.bind (fc_x5_copy (FL.tr (by decide) hq) D   q750.1) (fun x28 q765 => ?_)
    exact Fo.some ⟨q765.1, (TE.tr (TE.tr TE.rf q750.2) q765.2)⟩
theorem fc_x20_write_l19_j38 {q : FQ} {σ0 τ : gMem} {N : Nat} {W : Nat → Nat → Nat → gMem → Option gMem} {v0 : Nat} {v1 : Nat} {v2 : Nat} {v3 : Int} {Kh : Int → gMem → Option gMem} {K : gMem → Option gMem} {s : gMem} (hq : FL ([], [], [], []) q) (D : FD q) (hW : ∀ (a0 : Nat) (a1 : Nat) (a2 : Nat) (a3 : gMem), FC q σ0 a3 → Fo (fun r => FC q σ0 r ∧ TE a3 r) (W a0 a1 a2 a3)) (hKh : ∀ (a0 : Int) (a1 : gMem), FC q σ0 a1 → TE τ a1 → Fo (fun r => FC q σ0 r ∧ TE τ r) (Kh a0 a1)) (hK : ∀ (a0 : gMem), FC q σ0 a0 → TE τ a0 → Fo (fun r => FC q σ0 r ∧ TE τ r) (K a0)) (hs : FC q σ0 s) (ts : TE τ s) : Fo (fun r => FC q σ0 r ∧ TE τ r) (x20_write_l19_j38 N W v0 v1 v2 v3 Kh K s) := by
  unfold x20_write_l19_j38
  refine Fo.ite (fun c766 => ?_) (fun _ => Fo.none)
  refine Fo.ite (fun c767 => ?_) (fun _ => Fo.none)
  refine Fo.ite (fun _ => ?_) (fun _ => Fo.none)
  refine Fo.bind (hW _ _ _ _ hs) (fun x12 q769 => ?_)
  exact (hKh _ _ q769.1 (TE.tr ts q769.2))
theorem fc_x20_write_l19 {q : FQ} {σ0 τ : gMem} {N : Nat} {W : Nat → Nat → Nat → gMem → Option gMem} {v0 : Nat} {v1 : Nat} {v2 : Nat} {K : gMem → Option gMem} (hq : FL ([7], [(7, 0)], [], []) q) (D : FD q) (hW : ∀ (a0 : Nat) (a1 : Nat) (a2 : Nat) (a3 : gMem), FC q σ0 a3 → Fo (fun r => FC q σ0 r ∧ TE a3 r) (W a0 a1 a2 a3)) (hK : ∀ (a0 : gMem), FC q σ0 a0 → TE τ a0 → Fo (fun r => FC q σ0 r ∧ TE τ r) (K a0)) : ∀ (n : Nat) (z0 : Int) (z1 : gMem), FC q σ0 z1 → TE τ z1 → Fo (fun r => FC q σ0 r ∧ TE τ r) (x20_write_l19 N W v0 v1 v2 K n z0 z1) := by
  intro n
  induction n with
  | zero => intros; exact Fo.none
  | succ n ih =>
    intro v3 s hs ts
    unfold x20_write_l19
    refine Fo.ite (fun c770 => ?_) (fun _ => Fo.none)
    refine Fo.ite (fun c771 => ?_) (fun _ => Fo.none)
    refine Fo.ite (fun _ => ?_) (fun _ => ?_)
    · exact (hK _ hs ts)
    · refine Fo.ite (fun _ => ?_) (fun _ => ?_)
      · exact (fc_x20_write_l19_j38 (τ := τ) (FL.tr (by decide) hq) D  hW (fun a0 a1 b t => ih a0 a1 b t) hK hs ts)
      · refine Fo.ite (fun c774 => ?_) (fun _ => Fo.none)
        refine Fo.bind (fc_x8_put hq D   hs) (fun x15 q775 => ?_)
        exact (fc_x20_write_l19_j38 (τ := τ) (FL.tr (by decide) hq) D  hW (fun a0 a1 b t => ih a0 a1 b t) hK q775.1 (TE.tr ts q775.2))
theorem fc_x20_write {q : FQ} {σ0 : gMem} {N : Nat} {W : Nat → Nat → Nat → gMem → Option gMem} {v0 : Nat} {v1 : Nat} {v2 : Nat} {σ : gMem} (hq : FL ([7], [(7, 0)], [], []) q) (D : FD q) (hW : ∀ (a0 : Nat) (a1 : Nat) (a2 : Nat) (a3 : gMem), FC q σ0 a3 → Fo (fun r => FC q σ0 r ∧ TE a3 r) (W a0 a1 a2 a3)) (hσ : FC q σ0 σ) : Fo (fun r => FC q σ0 r ∧ TE σ r) (x20_write N W v0 v1 v2 σ) := by
  unfold x20_write
  refine Fo.ite (fun c776 => ?_) (fun _ => Fo.none)
  refine Fo.ite (fun c777 => ?_) (fun _ => Fo.none)
  refine Fo.ite (fun c778 => ?_) (fun _ => Fo.none)
  refine Fo.bind (fc_x8_word hq D   hσ) (fun x4 q779 => ?_)
  refine Fo.bind (fc_x8_put hq D   q779.1) (fun x6 q780 => ?_)
  exact (fc_x20_write_l19 (τ := σ) hq D  hW (fun s17 q781 e782 => by
      refine Fo.ite (fun c783 => ?_) (fun _ => Fo.none)
      refine Fo.bind (fc_x8_put hq D   q781) (fun x19 q784 => ?_)
      exact Fo.some ⟨q784.1, (TE.tr e782 q784.2)⟩) _ _ _  q780.1 (TE.tr (TE.tr TE.rf q779.2) q780.2))
theorem fc_x21_work {q : FQ} {σ0 : gMem} {N : Nat} {W : Nat → Nat → Nat → gMem → Option gMem} {v0 : Nat} {v1 : Nat} {v2 : Nat} {σ : gMem} (hq : FL ([5], [], [], []) q) (D : FD q) (hW : ∀ (a0 : Nat) (a1 : Nat) (a2 : Nat) (a3 : gMem), FC q σ0 a3 → Fo (fun r => FC q σ0 r ∧ TE a3 r) (W a0 a1 a2 a3)) (hσ : FC q σ0 σ) : Fo (fun r => FC q σ0 r ∧ TE σ r) (x21_work N W v0 v1 v2 σ) := by
  unfold x21_work
  refine Fo.ite (fun c785 => ?_) (fun _ => Fo.none)
  refine Fo.bind (hW _ _ _ _ hσ) (fun x2 q786 => ?_)
  refine Fo.ite (fun c787 => ?_) (fun _ => Fo.none)
  refine Fo.pure (fun x5 => ?_)
  refine Fo.ite (fun _ => ?_) (fun _ => ?_)
  · exact Fo.some ⟨q786.1, (TE.tr TE.rf q786.2)⟩
  · refine Fo.bind (fc_x5_wantNumber hq D   q786.1) (fun x7 q789 => ?_)
    refine Fo.ite (fun _ => ?_) (fun _ => ?_)
    · exact Fo.some ⟨q789.1, (TE.tr (TE.tr TE.rf q786.2) q789.2)⟩
    · refine Fo.bind (fc_x5_be hq D   q789.1) (fun x11 q791 => ?_)
      exact Fo.some ⟨q791.1, (TE.tr (TE.tr (TE.tr TE.rf q786.2) q789.2) q791.2)⟩
theorem fc_x21_write {q : FQ} {σ0 : gMem} {N : Nat} {W : Nat → Nat → Nat → gMem → Option gMem} {v0 : Nat} {v1 : Nat} {v2 : Nat} {σ : gMem} (hq : FL ([7], [(7, 0)], [], []) q) (D : FD q) (hW : ∀ (a0 : Nat) (a1 : Nat) (a2 : Nat) (a3 : gMem), FC q σ0 a3 → Fo (fun r => FC q σ0 r ∧ TE a3 r) (W a0 a1 a2 a3)) (hσ : FC q σ0 σ) : Fo (fun r => FC q σ0 r ∧ TE σ r) (x21_write N W v0 v1 v2 σ) := by
  unfold x21_write
  refine Fo.ite (fun c792 => ?_) (fun _ => Fo.none)
  refine Fo.bind (fc_x8_put hq D   hσ) (fun x2 q793 => ?_)
  refine Fo.ite (fun c794 => ?_) (fun _ => Fo.none)
  refine Fo.pure (fun x5 => ?_)
  refine Fo.ite (fun _ => ?_) (fun _ => ?_)
  · refine Fo.bind (fc_x8_part hq D  hW q793.1) (fun x7 q796 => ?_)
    exact Fo.some ⟨q796.1, (TE.tr (TE.tr TE.rf q793.2) q796.2)⟩
  · refine Fo.bind (fc_x8_part hq D  hW q793.1) (fun x9 q797 => ?_)
    exact Fo.some ⟨q797.1, (TE.tr (TE.tr TE.rf q793.2) q797.2)⟩
theorem fc_x22_write_j49 {q : FQ} {σ0 : gMem} {N : Nat} {W : Nat → Nat → Nat → gMem → Option gMem} {v0 : Nat} {v1 : Nat} {v2 : Nat} {v3 : Int} {t0 : Int} {t1 : Nat} {t2 : Nat} {s : gMem} (hq : FL ([7], [(7, 0)], [], []) q) (D : FD q) (hW : ∀ (a0 : Nat) (a1 : Nat) (a2 : Nat) (a3 : gMem), FC q σ0 a3 → Fo (fun r => FC q σ0 r ∧ TE a3 r) (W a0 a1 a2 a3)) (hs : FC q σ0 s) : Fo (fun r => FC q σ0 r ∧ TE s r) (x22_write_j49 N W v0 v1 v2 v3 t0 t1 t2 s) := by
  unfold x22_write_j49
  refine Fo.ite (fun c798 => ?_) (fun _ => Fo.none)
  refine Fo.bind (fc_x8_part hq D  hW hs) (fun x7 q799 => ?_)
  refine Fo.ite (fun c800 => ?_) (fun _ => Fo.none)
  refine Fo.ite (fun c801 => ?_) (fun _ => Fo.none)
  refine Fo.ite (fun c802 => ?_) (fun _ => Fo.none)
  refine Fo.bind (fc_x8_word hq D   q799.1) (fun x12 q803 => ?_)
  refine Fo.pure (fun x14 => ?_)
  refine Fo.ite (fun _ => ?_) (fun _ => ?_)
  · refine Fo.bind (fc_x8_part hq D  hW q803.1) (fun x16 q805 => ?_)
    exact Fo.some ⟨q805.1, (TE.tr (TE.tr (TE.tr TE.rf q799.2) q803.2) q805.2)⟩
  · refine Fo.bind (fc_x8_part hq D  hW q803.1) (fun x18 q806 => ?_)
    exact Fo.some ⟨q806.1, (TE.tr (TE.tr (TE.tr TE.rf q799.2) q803.2) q806.2)⟩
theorem fc_x22_write_j44 {q : FQ} {σ0 : gMem} {N : Nat} {W : Nat → Nat → Nat → gMem → Option gMem} {v0 : Nat} {v1 : Nat} {v2 : Nat} {v3 : Int} {t0 : Nat} {t1 : Nat} {s : gMem} (hq : FL ([7], [(7, 0)], [], []) q) (D : FD q) (hW : ∀ (a0 : Nat) (a1 : Nat) (a2 : Nat) (a3 : gMem), FC q σ0 a3 → Fo (fun r => FC q σ0 r ∧ TE a3 r) (W a0 a1 a2 a3)) (hs : FC q σ0 s) : Fo (fun r => FC q σ0 r ∧ TE s r) (x22_write_j44 N W v0 v1 v2 v3 t0 t1 s) := by
  unfold x22_write_j44
  exact Fo.te TE.rf (fc_x22_write_j49 hq D  hW hs)
theorem fc_x22_write_j48 {q : FQ} {σ0 : gMem} {N : Nat} {W : Nat → Nat → Nat → gMem → Option gMem} {v0 : Nat} {v1 : Nat} {v2 : Nat} {v3 : Int} {t0 : Nat} {t1 : Nat} {s : gMem} (hq : FL ([7], [(7, 0)], [], []) q) (D : FD q) (hW : ∀ (a0 : Nat) (a1 : Nat) (a2 : Nat) (a3 : gMem), FC q σ0 a3 → Fo (fun r => FC q σ0 r ∧ TE a3 r) (W a0 a1 a2 a3)) (hs : FC q σ0 s) : Fo (fun r => FC q σ0 r ∧ TE s r) (x22_write_j48 N W v0 v1 v2 v3 t0 t1 s) := by
  unfold x22_write_j48
  exact Fo.te TE.rf (fc_x22_write_j49 hq D  hW hs)
theorem fc_x22_write {q : FQ} {σ0 : gMem} {N : Nat} {W : Nat → Nat → Nat → gMem → Option gMem} {v0 : Nat} {v1 : Nat} {v2 : Nat} {σ : gMem} (hq : FL ([7], [(7, 0)], [], []) q) (D : FD q) (hW : ∀ (a0 : Nat) (a1 : Nat) (a2 : Nat) (a3 : gMem), FC q σ0 a3 → Fo (fun r => FC q σ0 r ∧ TE a3 r) (W a0 a1 a2 a3)) (hσ : FC q σ0 σ) : Fo (fun r => FC q σ0 r ∧ TE σ r) (x22_write N W v0 v1 v2 σ) := by
  unfold x22_write
  refine Fo.ite (fun c807 => ?_) (fun _ => Fo.none)
  refine Fo.ite (fun c808 => ?_) (fun _ => Fo.none)
  refine Fo.pure (fun x4 => ?_)
  refine Fo.ite (fun _ => ?_) (fun _ => ?_)
  · exact Fo.te TE.rf (fc_x22_write_j44 hq D  hW hσ)
  · refine Fo.ite (fun _ => ?_) (fun _ => ?_)
    · exact Fo.te TE.rf (fc_x22_write_j48 hq D  hW hσ)
    · refine Fo.pure (fun x20 => ?_)
      refine Fo.ite (fun _ => ?_) (fun _ => ?_)
      · exact Fo.te TE.rf (fc_x22_write_j48 hq D  hW hσ)
      · exact Fo.te TE.rf (fc_x22_write_j44 hq D  hW hσ)
theorem fc_x25_tell_j44 {q : FQ} {σ0 : gMem} {v0 : Nat} {v1 : Int} {v2 : Int} {v3 : Int} {v4 : Int} {v5 : Nat} {v6 : Nat} {s : gMem} (hq : FL ([23, 106], [], [], [24]) q) (D : FD q) (hs : FC q σ0 s) : Fo (fun r => FC q σ0 r ∧ TE s r) (x25_tell_j44 v0 v1 v2 v3 v4 v5 v6 s) := by
  unfold x25_tell_j44
  refine Fo.ite (fun c812 => ?_) (fun _ => Fo.none)
  refine FC.lN hs (hq.2.2.2 (by decide)) (fun s7 q813 e814 => ?_)
  refine Fo.bind (fc_x26_init (FL.tr (by decide) hq) D (FC.le hs)  q813) (fun x9 q815 => ?_)
  refine Fo.ite (fun c816 => ?_) (fun _ => Fo.none)
  refine Fo.ite (fun _ => ?_) (fun _ => Fo.none)
  refine Fo.ite (fun _ => ?_) (fun _ => Fo.none)
  refine FC.lRo D q815.1 c816 (by decide) (hq.1 (by decide)) (fun s13 q819 e820 => ?_)
  refine FC.lIo q819 (e820 _ _ (by decide) (q815.2 _ _ (by decide) (e814 _ _ (by decide) c812))) (hq.1 (by decide)) (fun s16 q821 e822 => ?_)
  exact Fo.some ⟨q821, (TE.tr (TE.tr (TE.tr (TE.tr TE.rf e814) q815.2) e820) e822)⟩
theorem fc_x25_tell {q : FQ} {σ0 : gMem} {v0 : Nat} {v1 : Int} {v2 : Int} {v3 : Int} {v4 : Int} {v5 : Nat} {v6 : Nat} {σ : gMem} (hq : FL ([23, 106], [], [(23, 4)], [24, 106]) q) (D : FD q) (hσ : FC q σ0 σ) : Fo (fun r => FC q σ0 r ∧ TE σ r) (x25_tell v0 v1 v2 v3 v4 v5 v6 σ) := by
  unfold x25_tell
  refine Fo.ite (fun c823 => ?_) (fun _ => Fo.none)
  refine Fo.ite (fun c824 => ?_) (fun _ => Fo.none)
  refine Fo.ite (fun _ => ?_) (fun _ => ?_)
  · exact Fo.te TE.rf (fc_x25_tell_j44 (FL.tr (by decide) hq) D   hσ)
  · refine Fo.ite (fun _ => ?_) (fun _ => Fo.none)
    refine FC.lN hσ (hq.2.2.2 (by decide)) (fun s21 q827 e828 => ?_)
    refine Fo.ite (fun c829 => ?_) (fun _ => Fo.none)
    refine Fo.ite (fun _ => ?_) (fun _ => Fo.none)
    refine Fo.ite (fun _ => ?_) (fun _ => Fo.none)
    refine FC.lCRf D q827 (FC.le hσ) (fun s27 q832 e833 => ?_)
    refine FC.lRr D q832 (e833 _ _ (by decide) (e828 _ _ (by decide) c823)) (by decide) (hq.2.2.1 (by decide)) (fun s29 q834 e835 => ?_)
    exact Fo.te (TE.tr (TE.tr (TE.tr TE.rf e828) e833) e835) (fc_x25_tell_j44 (FL.tr (by decide) hq) D   q834)
theorem fc_x3_take {q : FQ} {σ0 : gMem} {v0 : Nat} {σ : gMem} (hq : FL ([3, 5], [], [], []) q) (D : FD q) (hσ : FC q σ0 σ) : Fo (fun r => FC q σ0 r.2 ∧ TE σ r.2) (x3_take v0 σ) := by
  unfold x3_take
  refine Fo.ite (fun c836 => ?_) (fun _ => Fo.none)
  refine FC.lIo hσ c836 (hq.1 (by decide)) (fun s3 q837 e838 => ?_)
  refine Fo.ite (fun c839 => ?_) (fun _ => Fo.none)
  refine Fo.ite (fun _ => ?_) (fun _ => Fo.none)
  refine Fo.ite (fun c841 => ?_) (fun _ => Fo.none)
  refine Fo.bind (fc_x5_none (FL.tr (by decide) hq) D   q837) (fun x8 q842 => ?_)
  refine Fo.ite (fun c843 => ?_) (fun _ => Fo.none)
  refine Fo.ite (fun _ => ?_) (fun _ => Fo.none)
  exact Fo.some ⟨q842.1, (TE.tr (TE.tr TE.rf e838) q842.2)⟩
theorem fc_x4_leave_l46 {q : FQ} {σ0 τ : gMem} {N : Nat} {v0 : Nat} {v1 : Int} {v2 : Int} {K : gMem → Option gMem} (hq : FL ([4], [(4, 1), (4, 7), (4, 8)], [], []) q) (D : FD q) (hK : ∀ (a0 : gMem), FC q σ0 a0 → TE τ a0 → Fo (fun r => FC q σ0 r ∧ TE τ r) (K a0)) : ∀ (n : Nat) (z0 : gMem), FC q σ0 z0 → TE τ z0 → Fo (fun r => FC q σ0 r ∧ TE τ r) (x4_leave_l46 N v0 v1 v2 K n z0) := by
  intro n
  induction n with
  | zero => intros; exact Fo.none
  | succ n ih =>
    intro s hs ts
    unfold x4_leave_l46
    refine Fo.ite (fun c845 => ?_) (fun _ => Fo.none)
    refine FC.lIo hs c845 (hq.1 (by decide)) (fun s11 q846 e847 => ?_)
    refine Fo.ite (fun c848 => ?_) (fun _ => Fo.none)
    refine Fo.ite (fun _ => ?_) (fun _ => Fo.none)
    refine Fo.ite (fun c850 => ?_) (fun _ => Fo.none)
    refine Fo.ite (fun _ => ?_) (fun _ => Fo.none)
    refine FC.lIp D q846 (e847 _ _ (by decide) c845) (hq.2.1 (by decide)) (fun s17 q852 e853 => ?_)
    refine Fo.ite (fun c854 => ?_) (fun _ => Fo.none)
    refine Fo.ite (fun _ => ?_) (fun _ => Fo.none)
    refine Fo.ite (fun _ => ?_) (fun _ => Fo.none)
    refine FC.lIp D q852 (e853 _ _ (by decide) (e847 _ _ (by decide) c845)) (hq.2.1 (by decide)) (fun s21 q857 e858 => ?_)
    refine Fo.ite (fun c859 => ?_) (fun _ => Fo.none)
    refine Fo.ite (fun _ => ?_) (fun _ => Fo.none)
    refine FC.lIp D q857 (e858 _ _ (by decide) (e853 _ _ (by decide) (e847 _ _ (by decide) c845))) (hq.2.1 (by decide)) (fun s25 q861 e862 => ?_)
    refine FC.lIo q861 (e862 _ _ (by decide) (e858 _ _ (by decide) (e853 _ _ (by decide) (e847 _ _ (by decide) c845)))) (hq.1 (by decide)) (fun s28 q863 e864 => ?_)
    refine Fo.ite (fun _ => ?_) (fun _ => ?_)
    · exact (ih _  q863 (TE.tr (TE.tr (TE.tr (TE.tr (TE.tr ts e847) e853) e858) e862) e864))
    · exact (hK _ q863 (TE.tr (TE.tr (TE.tr (TE.tr (TE.tr ts e847) e853) e858) e862) e864))
theorem fc_x4_leave_j45 {q : FQ} {σ0 : gMem} {N : Nat} {v0 : Nat} {v1 : Int} {t0 : Int} {s : gMem} (hq : FL ([4], [(4, 1), (4, 7), (4, 8)], [], []) q) (D : FD q) (hs : FC q σ0 s) : Fo (fun r => FC q σ0 r ∧ TE s r) (x4_leave_j45 N v0 v1 t0 s) := by
  unfold x4_leave_j45
  exact (fc_x4_leave_l46 (τ := s) hq D  (fun s30 q866 e867 => by
      exact Fo.some ⟨q866, e867⟩) _ _  hs TE.rf)
theorem fc_x4_leave_j40 {q : FQ} {σ0 : gMem} {N : Nat} {v0 : Nat} {v1 : Int} {s : gMem} (hq : FL ([4], [(4, 1), (4, 7), (4, 8)], [], []) q) (D : FD q) (hs : FC q σ0 s) : Fo (fun r => FC q σ0 r ∧ TE s r) (x4_leave_j40 N v0 v1 s) := by
  unfold x4_leave_j40
  exact Fo.te TE.rf (fc_x4_leave_j45 hq D   hs)
theorem fc_x4_leave {q : FQ} {σ0 : gMem} {N : Nat} {v0 : Nat} {v1 : Int} {σ : gMem} (hq : FL ([4], [(4, 1), (4, 7), (4, 8)], [], []) q) (D : FD q) (hσ : FC q σ0 σ) : Fo (fun r => FC q σ0 r ∧ TE σ r) (x4_leave N v0 v1 σ) := by
  unfold x4_leave
  refine Fo.ite (fun c868 => ?_) (fun _ => Fo.none)
  refine Fo.ite (fun c869 => ?_) (fun _ => Fo.none)
  refine Fo.ite (fun _ => ?_) (fun _ => Fo.none)
  refine Fo.ite (fun c871 => ?_) (fun _ => Fo.none)
  refine Fo.ite (fun _ => ?_) (fun _ => Fo.none)
  refine Fo.ite (fun _ => ?_) (fun _ => ?_)
  · refine Fo.ite (fun c874 => ?_) (fun _ => Fo.none)
    refine Fo.ite (fun _ => ?_) (fun _ => Fo.none)
    refine Fo.ite (fun _ => ?_) (fun _ => ?_)
    · exact Fo.te TE.rf (fc_x4_leave_j40 hq D   hσ)
    · refine Fo.pure (fun x31 => ?_)
      refine Fo.ite (fun _ => ?_) (fun _ => ?_)
      · exact Fo.te TE.rf (fc_x4_leave_j45 hq D   hσ)
      · exact Fo.te TE.rf (fc_x4_leave_j40 hq D   hσ)
  · exact Fo.some ⟨hσ, TE.rf⟩
theorem fc_x5_wantText_j56 {q : FQ} {σ0 : gMem} {N : Nat} {v0 : Nat} {v1 : Int} {v3 : Int} {s : gMem} (hq : FL ([5], [(5, 3)], [], []) q) (D : FD q) (hs : FC q σ0 s) : Fo (fun r => FC q σ0 r ∧ TE s r) (x5_wantText_j56 N v0 v1 v3 s) := by
  unfold x5_wantText_j56
  refine Fo.ite (fun _ => ?_) (fun _ => ?_)
  · exact Fo.some ⟨hs, TE.rf⟩
  · refine Fo.ite (fun c879 => ?_) (fun _ => Fo.none)
    refine Fo.bind (fc_x5_digits hq D   hs) (fun x12 q880 => ?_)
    exact Fo.some ⟨q880.1, (TE.tr TE.rf q880.2)⟩
theorem fc_x5_wantText_j53 {q : FQ} {σ0 : gMem} {N : Nat} {v0 : Nat} {v1 : Int} {v3 : Int} {t0 : Nat} {t1 : Nat} {s : gMem} (hq : FL ([5], [(5, 3)], [], []) q) (D : FD q) (hs : FC q σ0 s) : Fo (fun r => FC q σ0 r ∧ TE s r) (x5_wantText_j53 N v0 v1 v3 t0 t1 s) := by
  unfold x5_wantText_j53
  refine Fo.ite (fun c881 => ?_) (fun _ => Fo.none)
  refine Fo.bind (fc_x5_spell hq D   hs) (fun x15 q882 => ?_)
  exact Fo.te (TE.tr TE.rf q882.2) (fc_x5_wantText_j56 hq D   q882.1)
theorem fc_x5_wantText {q : FQ} {σ0 : gMem} {N : Nat} {v0 : Nat} {σ : gMem} (hq : FL ([5], [(5, 3)], [], []) q) (D : FD q) (hσ : FC q σ0 σ) : Fo (fun r => FC q σ0 r ∧ TE σ r) (x5_wantText N v0 σ) := by
  unfold x5_wantText
  refine Fo.ite (fun c883 => ?_) (fun _ => Fo.none)
  refine Fo.ite (fun _ => ?_) (fun _ => ?_)
  · refine FC.lIo hσ c883 (hq.1 (by decide)) (fun s5 q885 e886 => ?_)
    refine FC.lLo q885 (e886 _ _ (by decide) c883) (hq.1 (by decide)) (fun s7 q887 e888 => ?_)
    refine FC.lIo q887 (e888 _ _ (by decide) (e886 _ _ (by decide) c883)) (hq.1 (by decide)) (fun s9 q889 e890 => ?_)
    refine Fo.ite (fun _ => ?_) (fun _ => ?_)
    · exact Fo.te (TE.tr (TE.tr (TE.tr TE.rf e886) e888) e890) (fc_x5_wantText_j56 hq D   q889)
    · refine Fo.ite (fun _ => ?_) (fun _ => ?_)
      · exact Fo.te (TE.tr (TE.tr (TE.tr TE.rf e886) e888) e890) (fc_x5_wantText_j53 hq D   q889)
      · exact Fo.te (TE.tr (TE.tr (TE.tr TE.rf e886) e888) e890) (fc_x5_wantText_j53 hq D   q889)
  · exact Fo.some ⟨hσ, TE.rf⟩
theorem fc_x6_peek_l0 {q : FQ} {σ0 τ : gMem} {N : Nat} {v0 : Nat} {K : gMem → Option (Int × gMem)} (hq : FL ([6], [], [], []) q) (D : FD q) (hK : ∀ (a0 : gMem), FC q σ0 a0 → TE τ a0 → Fo (fun r => FC q σ0 r.2 ∧ TE τ r.2) (K a0)) : ∀ (n : Nat) (z0 : gMem), FC q σ0 z0 → TE τ z0 → Fo (fun r => FC q σ0 r.2 ∧ TE τ r.2) (x6_peek_l0 N v0 K n z0) := by
  intro n
  induction n with
  | zero => intros; exact Fo.none
  | succ n ih =>
    intro s hs ts
    unfold x6_peek_l0
    refine Fo.ite (fun c893 => ?_) (fun _ => Fo.none)
    refine Fo.ite (fun _ => ?_) (fun _ => ?_)
    · exact (hK _ hs ts)
    · refine Fo.ite (fun c895 => ?_) (fun _ => Fo.none)
      refine Fo.ite (fun _ => ?_) (fun _ => Fo.none)
      refine Fo.ite (fun _ => ?_) (fun _ => ?_)
      · exact (hK _ hs ts)
      · refine FC.lIo hs c893 (hq.1 (by decide)) (fun s23 q898 e899 => ?_)
        exact (ih _  q898 (TE.tr ts e899))
theorem fc_x6_peek {q : FQ} {σ0 : gMem} {N : Nat} {v0 : Nat} {σ : gMem} (hq : FL ([6], [], [], []) q) (D : FD q) (hσ : FC q σ0 σ) : Fo (fun r => FC q σ0 r.2 ∧ TE σ r.2) (x6_peek N v0 σ) := by
  unfold x6_peek
  refine Fo.ite (fun c900 => ?_) (fun _ => Fo.none)
  refine Fo.ite (fun _ => ?_) (fun _ => ?_)
  · refine Fo.pure (fun x5 => ?_)
    exact Fo.some ⟨hσ, TE.rf⟩
  · refine Fo.ite (fun c902 => ?_) (fun _ => Fo.none)
    refine Fo.ite (fun _ => ?_) (fun _ => Fo.none)
    refine Fo.ite (fun _ => ?_) (fun _ => ?_)
    · refine Fo.pure (fun x11 => ?_)
      exact Fo.some ⟨hσ, TE.rf⟩
    · refine FC.lIo hσ c900 (hq.1 (by decide)) (fun s14 q905 e906 => ?_)
      exact (fc_x6_peek_l0 (τ := σ) hq D  (fun s25 q907 e908 => by
      refine Fo.ite (fun c909 => ?_) (fun _ => Fo.none)
      refine Fo.pure (fun x28 => ?_)
      exact Fo.some ⟨q907, e908⟩) _ _  q905 (TE.tr TE.rf e906))
theorem fc_x6_wrong {q : FQ} {σ0 : gMem} {v0 : Nat} {v1 : Int} {v2 : Int} {σ : gMem} (hq : FL ([6], [], [], [25]) q) (D : FD q) (hσ : FC q σ0 σ) : Fo (fun r => FC q σ0 r.2 ∧ TE σ r.2) (x6_wrong v0 v1 v2 σ) := by
  unfold x6_wrong
  refine Fo.ite (fun c910 => ?_) (fun _ => Fo.none)
  refine Fo.ite (fun _ => ?_) (fun _ => ?_)
  · refine Fo.bind (fc_x6_wrongJust hq D   hσ) (fun x3 q912 => ?_)
    exact Fo.some ⟨q912.1, (TE.tr TE.rf q912.2)⟩
  · refine Fo.bind (fc_x6_wrongJust hq D   hσ) (fun x6 q913 => ?_)
    exact Fo.some ⟨q913.1, (TE.tr TE.rf q913.2)⟩
theorem fc_x6_expect {q : FQ} {σ0 : gMem} {N : Nat} {v0 : Nat} {v1 : Int} {σ : gMem} (hq : FL ([6], [], [], [25]) q) (D : FD q) (hσ : FC q σ0 σ) : Fo (fun r => FC q σ0 r.2 ∧ TE σ r.2) (x6_expect N v0 v1 σ) := by
  unfold x6_expect
  refine Fo.ite (fun c914 => ?_) (fun _ => Fo.none)
  refine Fo.bind (fc_x6_peek (FL.tr (by decide) hq) D   hσ) (fun x2 q915 => ?_)
  refine Fo.ite (fun _ => ?_) (fun _ => ?_)
  · refine FC.lIo q915.1 (q915.2 _ _ (by decide) c914) (hq.1 (by decide)) (fun s6 q917 e918 => ?_)
    exact Fo.some ⟨q917, (TE.tr (TE.tr TE.rf q915.2) e918)⟩
  · refine Fo.bind (fc_x6_wrong hq D   q915.1) (fun x9 q919 => ?_)
    refine Fo.ite (fun c920 => ?_) (fun _ => Fo.none)
    exact Fo.some ⟨q919.1, (TE.tr (TE.tr TE.rf q915.2) q919.2)⟩
theorem fc_x6_number_l5 {q : FQ} {σ0 τ : gMem} {N : Nat} {v0 : Nat} {v1 : Int} {K : gMem → Option gR} (hq : FL ([6], [], [], [25]) q) (D : FD q) (hK : ∀ (a0 : gMem), FC q σ0 a0 → TE τ a0 → Fo (fun r => FC q σ0 r.2 ∧ TE τ r.2) (K a0)) : ∀ (n : Nat) (z0 : gMem), FC q σ0 z0 → TE τ z0 → Fo (fun r => FC q σ0 r.2 ∧ TE τ r.2) (x6_number_l5 N v0 v1 K n z0) := by
  intro n
  induction n with
  | zero => intros; exact Fo.none
  | succ n ih =>
    intro s hs ts
    unfold x6_number_l5
    refine Fo.ite (fun c921 => ?_) (fun _ => Fo.none)
    refine Fo.pure (fun x5 => ?_)
    refine Fo.pure (fun x7 => ?_)
    refine Fo.ite (fun _ => ?_) (fun _ => ?_)
    · exact (hK _ hs ts)
    · refine Fo.ite (fun _ => ?_) (fun _ => ?_)
      · refine FC.lIo hs c921 (hq.1 (by decide)) (fun s11 q924 e925 => ?_)
        exact (ih _  q924 (TE.tr ts e925))
      · refine Fo.bind (fc_x6_wrong hq D   hs) (fun x14 q926 => ?_)
        refine Fo.ite (fun c927 => ?_) (fun _ => Fo.none)
        exact Fo.some ⟨q926.1, (TE.tr ts q926.2)⟩
theorem fc_x6_number {q : FQ} {σ0 : gMem} {N : Nat} {v0 : Nat} {σ : gMem} (hq : FL ([6], [], [], [11, 25]) q) (D : FD q) (hσ : FC q σ0 σ) : Fo (fun r => FC q σ0 r.2 ∧ TE σ r.2) (x6_number N v0 σ) := by
  unfold x6_number
  refine Fo.ite (fun c928 => ?_) (fun _ => Fo.none)
  exact (fc_x6_number_l5 (τ := σ) (FL.tr (by decide) hq) D  (fun s17 q929 e930 => by
      refine Fo.ite (fun c931 => ?_) (fun _ => Fo.none)
      refine FC.lIo q929 c931 (hq.1 (by decide)) (fun s20 q932 e933 => ?_)
      refine FC.lN q932 (hq.2.2.2 (by decide)) (fun s23 q934 e935 => ?_)
      refine Fo.pure (fun x26 => ?_)
      refine Fo.bind (fc_x13_init (FL.tr (by decide) hq) D (FC.le q932)  q934) (fun x28 q936 => ?_)
      exact Fo.some ⟨q936.1, (TE.tr (TE.tr (TE.tr e930 e933) e935) q936.2)⟩) _ _  hσ TE.rf)
theorem fc_x6_quoted_l15 {q : FQ} {σ0 τ : gMem} {N : Nat} {v0 : Nat} {v1 : Int} {K : gMem → Option gR} (hq : FL ([6], [], [], [25]) q) (D : FD q) (hK : ∀ (a0 : gMem), FC q σ0 a0 → TE τ a0 → Fo (fun r => FC q σ0 r.2 ∧ TE τ r.2) (K a0)) : ∀ (n : Nat) (z0 : gMem), FC q σ0 z0 → TE τ z0 → Fo (fun r => FC q σ0 r.2 ∧ TE τ r.2) (x6_quoted_l15 N v0 v1 K n z0) := by
  intro n
  induction n with
  | zero => intros; exact Fo.none
  | succ n ih =>
    intro s hs ts
    unfold x6_quoted_l15
    refine Fo.ite (fun c937 => ?_) (fun _ => Fo.none)
    refine Fo.pure (fun x8 => ?_)
    refine Fo.ite (fun _ => ?_) (fun _ => ?_)
    · exact (hK _ hs ts)
    · refine Fo.ite (fun _ => ?_) (fun _ => ?_)
      · refine Fo.ite (fun _ => ?_) (fun _ => ?_)
        · refine Fo.ite (fun c941 => ?_) (fun _ => Fo.none)
          refine Fo.ite (fun _ => ?_) (fun _ => Fo.none)
          refine Fo.pure (fun x16 => ?_)
          refine Fo.ite (fun _ => ?_) (fun _ => ?_)
          · refine FC.lIo hs c937 (hq.1 (by decide)) (fun s19 q944 e945 => ?_)
            exact (ih _  q944 (TE.tr ts e945))
          · refine Fo.bind (fc_x6_wrong hq D   hs) (fun x22 q946 => ?_)
            refine Fo.ite (fun c947 => ?_) (fun _ => Fo.none)
            exact Fo.some ⟨q946.1, (TE.tr ts q946.2)⟩
        · refine Fo.bind (fc_x6_wrong hq D   hs) (fun x25 q948 => ?_)
          refine Fo.ite (fun c949 => ?_) (fun _ => Fo.none)
          exact Fo.some ⟨q948.1, (TE.tr ts q948.2)⟩
      · refine Fo.bind (fc_x6_wrong hq D   hs) (fun x29 q950 => ?_)
        refine Fo.ite (fun c951 => ?_) (fun _ => Fo.none)
        exact Fo.some ⟨q950.1, (TE.tr ts q950.2)⟩
theorem fc_x6_quoted {q : FQ} {σ0 : gMem} {N : Nat} {v0 : Nat} {σ : gMem} (hq : FL ([6], [], [], [12, 25, 102]) q) (D : FD q) (hσ : FC q σ0 σ) : Fo (fun r => FC q σ0 r.2 ∧ TE σ r.2) (x6_quoted N v0 σ) := by
  unfold x6_quoted
  refine Fo.ite (fun c952 => ?_) (fun _ => Fo.none)
  refine FC.lIo hσ c952 (hq.1 (by decide)) (fun s4 q953 e954 => ?_)
  exact (fc_x6_quoted_l15 (τ := σ) (FL.tr (by decide) hq) D  (fun s32 q955 e956 => by
      refine Fo.ite (fun c957 => ?_) (fun _ => Fo.none)
      refine FC.lIo q955 c957 (hq.1 (by decide)) (fun s35 q958 e959 => ?_)
      refine FC.lIo q958 (e959 _ _ (by decide) c957) (hq.1 (by decide)) (fun s38 q960 e961 => ?_)
      refine FC.lN q960 (hq.2.2.2 (by decide)) (fun s41 q962 e963 => ?_)
      refine Fo.bind (fc_x6_part (FL.tr (by decide) hq) D   q962) (fun x44 q964 => ?_)
      refine Fo.bind (fc_x14_init (FL.tr (by decide) hq) D (FC.le q960)  q964.1) (fun x46 q965 => ?_)
      exact Fo.some ⟨q965.1, (TE.tr (TE.tr (TE.tr (TE.tr (TE.tr e956 e959) e961) e963) q964.2) q965.2)⟩) _ _  q953 (TE.tr TE.rf e954))
theorem fc_x6_gone {q : FQ} {σ0 : gMem} {N : Nat} {v0 : Nat} {σ : gMem} (hq : FL ([6], [], [], [13, 25]) q) (D : FD q) (hσ : FC q σ0 σ) : Fo (fun r => FC q σ0 r.2 ∧ TE σ r.2) (x6_gone N v0 σ) := by
  unfold x6_gone
  refine Fo.ite (fun c966 => ?_) (fun _ => Fo.none)
  refine Fo.ite (fun _ => ?_) (fun _ => ?_)
  · refine Fo.bind (fc_x6_wrong (FL.tr (by decide) hq) D   hσ) (fun x5 q968 => ?_)
    refine Fo.ite (fun c969 => ?_) (fun _ => Fo.none)
    exact Fo.some ⟨q968.1, (TE.tr TE.rf q968.2)⟩
  · refine Fo.pure (fun x10 => ?_)
    refine Fo.ite (fun _ => ?_) (fun _ => ?_)
    · refine FC.lIo hσ c966 (hq.1 (by decide)) (fun s13 q971 e972 => ?_)
      refine FC.lIo q971 (e972 _ _ (by decide) c966) (hq.1 (by decide)) (fun s16 q973 e974 => ?_)
      refine FC.lN q973 (hq.2.2.2 (by decide)) (fun s19 q975 e976 => ?_)
      refine Fo.bind (fc_x15_init (FL.tr (by decide) hq) D   q975) (fun x21 q977 => ?_)
      exact Fo.some ⟨q977.1, (TE.tr (TE.tr (TE.tr (TE.tr TE.rf e972) e974) e976) q977.2)⟩
    · refine Fo.bind (fc_x6_wrong (FL.tr (by decide) hq) D   hσ) (fun x24 q978 => ?_)
      refine Fo.ite (fun c979 => ?_) (fun _ => Fo.none)
      exact Fo.some ⟨q978.1, (TE.tr TE.rf q978.2)⟩
theorem fc_x6_version_j88 {q : FQ} {σ0 : gMem} {N : Nat} {v0 : Nat} {v1 : Int} {s : gMem} (hq : FL ([6], [], [], [25]) q) (D : FD q) (hs : FC q σ0 s) : Fo (fun r => FC q σ0 r.2 ∧ TE s r.2) (x6_version_j88 N v0 v1 s) := by
  unfold x6_version_j88
  refine Fo.ite (fun c980 => ?_) (fun _ => Fo.none)
  refine Fo.pure (fun x24 => ?_)
  refine Fo.pure (fun x26 => ?_)
  refine Fo.ite (fun _ => ?_) (fun _ => ?_)
  · refine Fo.pure (fun x29 => ?_)
    exact Fo.some ⟨hs, TE.rf⟩
  · refine Fo.bind (fc_x6_wrong hq D   hs) (fun x32 q982 => ?_)
    refine Fo.ite (fun c983 => ?_) (fun _ => Fo.none)
    exact Fo.some ⟨q982.1, (TE.tr TE.rf q982.2)⟩
theorem fc_x6_version {q : FQ} {σ0 : gMem} {N : Nat} {v0 : Nat} {σ : gMem} (hq : FL ([6], [], [], [25]) q) (D : FD q) (hσ : FC q σ0 σ) : Fo (fun r => FC q σ0 r.2 ∧ TE σ r.2) (x6_version N v0 σ) := by
  unfold x6_version
  refine Fo.ite (fun c984 => ?_) (fun _ => Fo.none)
  refine Fo.pure (fun x3 => ?_)
  refine Fo.ite (fun _ => ?_) (fun _ => ?_)
  · refine FC.lIo hσ c984 (hq.1 (by decide)) (fun s6 q986 e987 => ?_)
    refine Fo.pure (fun x10 => ?_)
    refine Fo.pure (fun x12 => ?_)
    refine Fo.ite (fun _ => ?_) (fun _ => ?_)
    · refine FC.lIo q986 (e987 _ _ (by decide) c984) (hq.1 (by decide)) (fun s15 q989 e990 => ?_)
      refine Fo.pure (fun x18 => ?_)
      refine Fo.pure (fun x20 => ?_)
      refine Fo.ite (fun _ => ?_) (fun _ => ?_)
      · exact Fo.te (TE.tr (TE.tr TE.rf e987) e990) (fc_x6_version_j88 hq D   q989)
      · refine FC.lIo q989 (e990 _ _ (by decide) (e987 _ _ (by decide) c984)) (hq.1 (by decide)) (fun s36 q992 e993 => ?_)
        exact Fo.te (TE.tr (TE.tr (TE.tr TE.rf e987) e990) e993) (fc_x6_version_j88 hq D   q992)
    · refine Fo.bind (fc_x6_wrongJust hq D   q986) (fun x39 q994 => ?_)
      refine Fo.ite (fun c995 => ?_) (fun _ => Fo.none)
      exact Fo.some ⟨q994.1, (TE.tr (TE.tr TE.rf e987) q994.2)⟩
  · exact Fo.some ⟨hσ, TE.rf⟩
theorem fc_x6_cornerOf_j72 {q : FQ} {σ0 : gMem} {N : Nat} {v0 : Nat} {v2 : Int} {v3 : Nat} {v4 : Int} {v5 : Int} {v6 : Int} {v7 : Int} {s : gMem} (hq : FL ([], [], [], [14]) q) (D : FD q) (hs : FC q σ0 s) : Fo (fun r => FC q σ0 r.2 ∧ TE s r.2) (x6_cornerOf_j72 N v0 v2 v3 v4 v5 v6 v7 s) := by
  unfold x6_cornerOf_j72
  refine Fo.ite (fun c996 => ?_) (fun _ => Fo.none)
  refine Fo.pure (fun x9 => ?_)
  refine Fo.ite (fun _ => ?_) (fun _ => ?_)
  · exact Fo.some ⟨hs, TE.rf⟩
  · refine Fo.ite (fun c998 => ?_) (fun _ => Fo.none)
    refine Fo.pure (fun x12 => ?_)
    refine Fo.ite (fun _ => ?_) (fun _ => ?_)
    · refine FC.lN hs (hq.2.2.2 (by decide)) (fun s15 q1000 e1001 => ?_)
      refine Fo.ite (fun c1002 => ?_) (fun _ => Fo.none)
      refine Fo.ite (fun _ => ?_) (fun _ => Fo.none)
      refine Fo.ite (fun c1004 => ?_) (fun _ => Fo.none)
      refine Fo.ite (fun _ => ?_) (fun _ => Fo.none)
      refine Fo.bind (fc_x16_init (FL.tr (by decide) hq) D (FC.le hs)  q1000) (fun x21 q1006 => ?_)
      exact Fo.some ⟨q1006.1, (TE.tr (TE.tr TE.rf e1001) q1006.2)⟩
    · exact Fo.some ⟨hs, TE.rf⟩
theorem fc_x6_cornerOf_j62 {q : FQ} {σ0 : gMem} {N : Nat} {v0 : Nat} {v2 : Int} {v3 : Nat} {v4 : Int} {v5 : Int} {v6 : Int} {t0 : Int} {s : gMem} (hq : FL ([], [], [], [14]) q) (D : FD q) (hs : FC q σ0 s) : Fo (fun r => FC q σ0 r.2 ∧ TE s r.2) (x6_cornerOf_j62 N v0 v2 v3 v4 v5 v6 t0 s) := by
  unfold x6_cornerOf_j62
  refine Fo.ite (fun _ => ?_) (fun _ => ?_)
  · exact Fo.te TE.rf (fc_x6_cornerOf_j72 hq D   hs)
  · exact Fo.te TE.rf (fc_x6_cornerOf_j72 hq D   hs)
theorem fc_x6_cornerOf_j30 {q : FQ} {σ0 : gMem} {N : Nat} {v0 : Nat} {v2 : Int} {v3 : Nat} {v4 : Int} {v5 : Int} {s : gMem} (hq : FL ([], [], [], [14]) q) (D : FD q) (hs : FC q σ0 s) : Fo (fun r => FC q σ0 r.2 ∧ TE s r.2) (x6_cornerOf_j30 N v0 v2 v3 v4 v5 s) := by
  unfold x6_cornerOf_j30
  refine Fo.ite (fun c1008 => ?_) (fun _ => Fo.none)
  refine Fo.ite (fun c1009 => ?_) (fun _ => Fo.none)
  refine Fo.ite (fun _ => ?_) (fun _ => Fo.none)
  refine Fo.ite (fun _ => ?_) (fun _ => Fo.none)
  refine Fo.ite (fun _ => ?_) (fun _ => ?_)
  · exact Fo.te TE.rf (fc_x6_cornerOf_j62 hq D   hs)
  · exact Fo.te TE.rf (fc_x6_cornerOf_j62 hq D   hs)
theorem fc_x6_cornerOf_j20 {q : FQ} {σ0 : gMem} {N : Nat} {v0 : Nat} {v2 : Int} {v3 : Nat} {v4 : Int} {t0 : Int} {s : gMem} (hq : FL ([], [], [], [14]) q) (D : FD q) (hs : FC q σ0 s) : Fo (fun r => FC q σ0 r.2 ∧ TE s r.2) (x6_cornerOf_j20 N v0 v2 v3 v4 t0 s) := by
  unfold x6_cornerOf_j20
  refine Fo.ite (fun _ => ?_) (fun _ => ?_)
  · exact Fo.te TE.rf (fc_x6_cornerOf_j30 hq D   hs)
  · exact Fo.te TE.rf (fc_x6_cornerOf_j30 hq D   hs)
theorem fc_x6_cornerOf {q : FQ} {σ0 : gMem} {N : Nat} {v0 : Nat} {v1 : Int} {v2 : Int} {v3 : Nat} {σ : gMem} (hq : FL ([], [], [], [14]) q) (D : FD q) (hσ : FC q σ0 σ) : Fo (fun r => FC q σ0 r.2 ∧ TE σ r.2) (x6_cornerOf N v0 v1 v2 v3 σ) := by
  unfold x6_cornerOf
  refine Fo.ite (fun c1014 => ?_) (fun _ => Fo.none)
  refine Fo.ite (fun c1015 => ?_) (fun _ => Fo.none)
  refine Fo.ite (fun _ => ?_) (fun _ => Fo.none)
  refine Fo.ite (fun _ => ?_) (fun _ => ?_)
  · exact Fo.te TE.rf (fc_x6_cornerOf_j20 hq D   hσ)
  · exact Fo.te TE.rf (fc_x6_cornerOf_j20 hq D   hσ)
theorem fc_x6_area_j128 {q : FQ} {σ0 : gMem} {N : Nat} {v4 : Int} {v5 : Nat} {v6 : Nat} {s : gMem} (hq : FL ([], [], [], [17]) q) (D : FD q) (hs : FC q σ0 s) : Fo (fun r => FC q σ0 r.2 ∧ TE s r.2) (x6_area_j128 N v4 v5 v6 s) := by
  unfold x6_area_j128
  refine FC.lN hs (hq.2.2.2 (by decide)) (fun s35 q1018 e1019 => ?_)
  refine Fo.bind (fc_x19_init (FL.tr (by decide) hq) D (FC.le hs)  q1018) (fun x37 q1020 => ?_)
  exact Fo.some ⟨q1020.1, (TE.tr (TE.tr TE.rf e1019) q1020.2)⟩
theorem fc_x6_area_j122 {q : FQ} {σ0 : gMem} {N : Nat} {v0 : Nat} {v1 : Int} {v4 : Int} {v5 : Nat} {v6 : Nat} {s : gMem} (hq : FL ([6], [], [], [17]) q) (D : FD q) (hs : FC q σ0 s) : Fo (fun r => FC q σ0 r.2 ∧ TE s r.2) (x6_area_j122 N v0 v1 v4 v5 v6 s) := by
  unfold x6_area_j122
  refine Fo.ite (fun c1021 => ?_) (fun _ => Fo.none)
  refine Fo.bind (fc_x6_late (FL.tr (by decide) hq) D   hs) (fun x32 q1022 => ?_)
  exact Fo.te (TE.tr TE.rf q1022.2) (fc_x6_area_j128 (FL.tr (by decide) hq) D   q1022.1)
theorem fc_x6_area {q : FQ} {σ0 : gMem} {N : Nat} {v0 : Nat} {σ : gMem} (hq : FL ([6], [], [], [14, 17, 25]) q) (D : FD q) (hσ : FC q σ0 σ) : Fo (fun r => FC q σ0 r.2 ∧ TE σ r.2) (x6_area N v0 σ) := by
  unfold x6_area
  refine Fo.ite (fun c1023 => ?_) (fun _ => Fo.none)
  refine Fo.pure (fun x5 => ?_)
  refine FC.lIo hσ c1023 (hq.1 (by decide)) (fun s7 q1024 e1025 => ?_)
  refine Fo.pure (fun x10 => ?_)
  refine Fo.ite (fun _ => ?_) (fun _ => ?_)
  · refine Fo.pure (fun x14 => ?_)
    refine FC.lIo q1024 (e1025 _ _ (by decide) c1023) (hq.1 (by decide)) (fun s16 q1027 e1028 => ?_)
    refine Fo.bind (fc_x6_version (FL.tr (by decide) hq) D   q1027) (fun p q1029 => ?_)
    refine Fo.gThrI ⟨q1029.1, (TE.tr (TE.tr (TE.tr TE.rf e1025) e1028) q1029.2)⟩ (fun x18 s21 ys21 => ?_)
    subst ys21
    refine Fo.pure (fun x22 => ?_)
    refine Fo.bind (fc_x6_cornerOf (FL.tr (by decide) hq) D   q1029.1) (fun x23 q1030 => ?_)
    refine Fo.pure (fun x25 => ?_)
    refine Fo.bind (fc_x6_cornerOf (FL.tr (by decide) hq) D   q1030.1) (fun x26 q1031 => ?_)
    refine FC.lIo q1031.1 (q1031.2 _ _ (by decide) (q1030.2 _ _ (by decide) (q1029.2 _ _ (by decide) (e1028 _ _ (by decide) (e1025 _ _ (by decide) c1023))))) (hq.1 (by decide)) (fun s29 q1032 e1033 => ?_)
    refine Fo.ite (fun _ => ?_) (fun _ => ?_)
    · exact Fo.te (TE.tr (TE.tr (TE.tr (TE.tr (TE.tr (TE.tr TE.rf e1025) e1028) q1029.2) q1030.2) q1031.2) e1033) (fc_x6_area_j122 (FL.tr (by decide) hq) D   q1032)
    · refine Fo.ite (fun _ => ?_) (fun _ => ?_)
      · exact Fo.te (TE.tr (TE.tr (TE.tr (TE.tr (TE.tr (TE.tr TE.rf e1025) e1028) q1029.2) q1030.2) q1031.2) e1033) (fc_x6_area_j128 (FL.tr (by decide) hq) D   q1032)
      · exact Fo.te (TE.tr (TE.tr (TE.tr (TE.tr (TE.tr (TE.tr TE.rf e1025) e1028) q1029.2) q1030.2) q1031.2) e1033) (fc_x6_area_j122 (FL.tr (by decide) hq) D   q1032)
  · refine Fo.bind (fc_x6_wrongJust (FL.tr (by decide) hq) D   q1024) (fun x40 q1036 => ?_)
    refine Fo.ite (fun c1037 => ?_) (fun _ => Fo.none)
    exact Fo.some ⟨q1036.1, (TE.tr (TE.tr TE.rf e1025) q1036.2)⟩
theorem fc_x6_comparing_j82 {q : FQ} {σ0 : gMem} {N : Nat} {v1 : Int} {v2 : Int} {s : gMem} (hq : FL ([], [], [], []) q) (D : FD q) (hs : FC q σ0 s) : Fo (fun r => FC q σ0 r.2 ∧ TE s r.2) (x6_comparing_j82 N v1 v2 s) := by
  unfold x6_comparing_j82
  refine Fo.ite (fun _ => ?_) (fun _ => ?_)
  · refine Fo.ite (fun _ => ?_) (fun _ => ?_)
    · refine Fo.ite (fun _ => ?_) (fun _ => ?_)
      · exact Fo.some ⟨hs, TE.rf⟩
      · exact Fo.some ⟨hs, TE.rf⟩
    · exact Fo.some ⟨hs, TE.rf⟩
  · refine Fo.ite (fun _ => ?_) (fun _ => ?_)
    · exact Fo.some ⟨hs, TE.rf⟩
    · exact Fo.some ⟨hs, TE.rf⟩
theorem fc_x6_comparing_j72 {q : FQ} {σ0 : gMem} {N : Nat} {v0 : Nat} {v1 : Int} {v2 : Int} {s : gMem} (hq : FL ([6], [], [], []) q) (D : FD q) (hs : FC q σ0 s) : Fo (fun r => FC q σ0 r.2 ∧ TE s r.2) (x6_comparing_j72 N v0 v1 v2 s) := by
  unfold x6_comparing_j72
  refine Fo.ite (fun c1042 => ?_) (fun _ => Fo.none)
  refine FC.lIo hs c1042 (hq.1 (by decide)) (fun s14 q1043 e1044 => ?_)
  exact Fo.te (TE.tr TE.rf e1044) (fc_x6_comparing_j82 (FL.tr (by decide) hq) D   q1043)
theorem fc_x6_comparing_j25 {q : FQ} {σ0 : gMem} {N : Nat} {v0 : Nat} {v1 : Int} {s : gMem} (hq : FL ([6], [], [], []) q) (D : FD q) (hs : FC q σ0 s) : Fo (fun r => FC q σ0 r.2 ∧ TE s r.2) (x6_comparing_j25 N v0 v1 s) := by
  unfold x6_comparing_j25
  refine Fo.ite (fun c1045 => ?_) (fun _ => Fo.none)
  refine FC.lIo hs c1045 (hq.1 (by decide)) (fun s7 q1046 e1047 => ?_)
  refine Fo.ite (fun _ => ?_) (fun _ => ?_)
  · refine Fo.pure (fun x10 => ?_)
    refine Fo.ite (fun _ => ?_) (fun _ => ?_)
    · exact Fo.te (TE.tr TE.rf e1047) (fc_x6_comparing_j72 hq D   q1046)
    · refine Fo.ite (fun _ => ?_) (fun _ => ?_)
      · exact Fo.te (TE.tr TE.rf e1047) (fc_x6_comparing_j82 (FL.tr (by decide) hq) D   q1046)
      · refine Fo.ite (fun _ => ?_) (fun _ => ?_)
        · exact Fo.te (TE.tr TE.rf e1047) (fc_x6_comparing_j82 (FL.tr (by decide) hq) D   q1046)
        · exact Fo.te (TE.tr TE.rf e1047) (fc_x6_comparing_j72 hq D   q1046)
  · exact Fo.some ⟨q1046, (TE.tr TE.rf e1047)⟩
theorem fc_x6_comparing {q : FQ} {σ0 : gMem} {N : Nat} {v0 : Nat} {σ : gMem} (hq : FL ([6], [], [], []) q) (D : FD q) (hσ : FC q σ0 σ) : Fo (fun r => FC q σ0 r.2 ∧ TE σ r.2) (x6_comparing N v0 σ) := by
  unfold x6_comparing
  refine Fo.ite (fun c1052 => ?_) (fun _ => Fo.none)
  refine Fo.bind (fc_x6_peek hq D   hσ) (fun x2 q1053 => ?_)
  refine Fo.ite (fun _ => ?_) (fun _ => ?_)
  · exact Fo.te (TE.tr TE.rf q1053.2) (fc_x6_comparing_j25 hq D   q1053.1)
  · refine Fo.ite (fun _ => ?_) (fun _ => ?_)
    · exact Fo.te (TE.tr TE.rf q1053.2) (fc_x6_comparing_j25 hq D   q1053.1)
    · refine Fo.ite (fun _ => ?_) (fun _ => ?_)
      · exact Fo.te (TE.tr TE.rf q1053.2) (fc_x6_comparing_j25 hq D   q1053.1)
      · exact Fo.some ⟨q1053.1, (TE.tr TE.rf q1053.2)⟩
theorem fc_x6_plain_l2 {q : FQ} {σ0 τ : gMem} {N : Nat} {v0 : Nat} {v1 : Int} {v2 : Int} {K : gMem → Option gR} (hq : FL ([6], [], [], [25]) q) (D : FD q) (hK : ∀ (a0 : gMem), FC q σ0 a0 → TE τ a0 → Fo (fun r => FC q σ0 r.2 ∧ TE τ r.2) (K a0)) : ∀ (n : Nat) (z0 : Int) (z1 : gMem), FC q σ0 z1 → TE τ z1 → Fo (fun r => FC q σ0 r.2 ∧ TE τ r.2) (x6_plain_l2 N v0 v1 v2 K n z0 z1) := by
  intro n
  induction n with
  | zero => intros; exact Fo.none
  | succ n ih =>
    intro v3 s hs ts
    unfold x6_plain_l2
    refine Fo.ite (fun c1057 => ?_) (fun _ => Fo.none)
    refine Fo.ite (fun _ => ?_) (fun _ => ?_)
    · exact (hK _ hs ts)
    · refine Fo.ite (fun c1059 => ?_) (fun _ => Fo.none)
      refine Fo.ite (fun _ => ?_) (fun _ => Fo.none)
      refine Fo.pure (fun x5 => ?_)
      refine Fo.ite (fun _ => ?_) (fun _ => ?_)
      · exact (ih _ _  hs ts)
      · refine Fo.bind (fc_x6_wrong hq D   hs) (fun x7 q1062 => ?_)
        refine Fo.ite (fun c1063 => ?_) (fun _ => Fo.none)
        exact Fo.some ⟨q1062.1, (TE.tr ts q1062.2)⟩
theorem fc_x6_plain_j168 {q : FQ} {σ0 : gMem} {N : Nat} {v0 : Nat} {v2 : Int} {t0 : Int} {s : gMem} (hq : FL ([6], [], [(6, 16)], [12, 25, 102]) q) (D : FD q) (hs : FC q σ0 s) : Fo (fun r => FC q σ0 r.2 ∧ TE s r.2) (x6_plain_j168 N v0 v2 t0 s) := by
  unfold x6_plain_j168
  refine Fo.ite (fun _ => ?_) (fun _ => ?_)
  · refine FC.lN hs (hq.2.2.2 (by decide)) (fun s19 q1065 e1066 => ?_)
    refine Fo.ite (fun c1067 => ?_) (fun _ => Fo.none)
    refine Fo.bind (fc_x6_part (FL.tr (by decide) hq) D   q1065) (fun x22 q1068 => ?_)
    refine Fo.bind (fc_x14_init (FL.tr (by decide) hq) D (FC.le hs)  q1068.1) (fun x24 q1069 => ?_)
    refine FC.lRr D q1069.1 (q1069.2 _ _ (by decide) (q1068.2 _ _ (by decide) c1067)) (by decide) (hq.2.2.1 (by decide)) (fun s26 q1070 e1071 => ?_)
    exact Fo.some ⟨q1070, (TE.tr (TE.tr (TE.tr (TE.tr TE.rf e1066) q1068.2) q1069.2) e1071)⟩
  · refine Fo.ite (fun c1072 => ?_) (fun _ => Fo.none)
    refine Fo.bind (fc_x6_wrong (FL.tr (by decide) hq) D   hs) (fun x29 q1073 => ?_)
    refine Fo.ite (fun c1074 => ?_) (fun _ => Fo.none)
    exact Fo.some ⟨q1073.1, (TE.tr TE.rf q1073.2)⟩
theorem fc_x6_plain_j76 {q : FQ} {σ0 : gMem} {N : Nat} {v0 : Nat} {v2 : Int} {v3 : Int} {t0 : Int} {t1 : Nat} {s : gMem} (hq : FL ([], [], [(6, 16)], [11]) q) (D : FD q) (hs : FC q σ0 s) : Fo (fun r => FC q σ0 r.2 ∧ TE s r.2) (x6_plain_j76 N v0 v2 v3 t0 t1 s) := by
  unfold x6_plain_j76
  refine Fo.ite (fun c1075 => ?_) (fun _ => Fo.none)
  refine Fo.pure (fun x48 => ?_)
  refine FC.lN hs (hq.2.2.2 (by decide)) (fun s51 q1076 e1077 => ?_)
  refine Fo.ite (fun _ => ?_) (fun _ => ?_)
  · refine Fo.bind (fc_x13_init (FL.tr (by decide) hq) D (FC.le hs)  q1076) (fun x53 q1079 => ?_)
    refine Fo.ite (fun c1080 => ?_) (fun _ => Fo.none)
    refine FC.lRr D q1079.1 c1080 (by decide) (hq.2.2.1 (by decide)) (fun s56 q1081 e1082 => ?_)
    exact Fo.some ⟨q1081, (TE.tr (TE.tr (TE.tr TE.rf e1077) q1079.2) e1082)⟩
  · refine Fo.bind (fc_x13_init (FL.tr (by decide) hq) D (FC.le hs)  q1076) (fun x58 q1083 => ?_)
    refine Fo.ite (fun c1084 => ?_) (fun _ => Fo.none)
    refine FC.lRr D q1083.1 c1084 (by decide) (hq.2.2.1 (by decide)) (fun s61 q1085 e1086 => ?_)
    exact Fo.some ⟨q1085, (TE.tr (TE.tr (TE.tr TE.rf e1077) q1083.2) e1086)⟩
theorem fc_x6_plain_j63 {q : FQ} {σ0 : gMem} {N : Nat} {v0 : Nat} {v1 : Int} {v2 : Int} {t0 : Int} {s : gMem} (hq : FL ([], [], [(6, 16)], [11]) q) (D : FD q) (hs : FC q σ0 s) : Fo (fun r => FC q σ0 r.2 ∧ TE s r.2) (x6_plain_j63 N v0 v1 v2 t0 s) := by
  unfold x6_plain_j63
  refine Fo.ite (fun _ => ?_) (fun _ => ?_)
  · exact Fo.te TE.rf (fc_x6_plain_j76 hq D   hs)
  · exact Fo.te TE.rf (fc_x6_plain_j76 hq D   hs)
theorem fc_x6_plain {q : FQ} {σ0 : gMem} {N : Nat} {v0 : Nat} {v1 : Int} {v2 : Int} {σ : gMem} (hq : FL ([6], [], [(6, 16)], [11, 12, 16, 25, 102]) q) (D : FD q) (hσ : FC q σ0 σ) : Fo (fun r => FC q σ0 r.2 ∧ TE σ r.2) (x6_plain N v0 v1 v2 σ) := by
  unfold x6_plain
  exact (fc_x6_plain_l2 (τ := σ) (FL.tr (by decide) hq) D  (fun s10 q1088 e1089 => by
      refine Fo.ite (fun c1090 => ?_) (fun _ => Fo.none)
      refine Fo.pure (fun x12 => ?_)
      refine Fo.ite (fun _ => ?_) (fun _ => ?_)
      · refine Fo.pure (fun x14 => ?_)
        refine Fo.ite (fun _ => ?_) (fun _ => ?_)
        · refine Fo.ite (fun c1093 => ?_) (fun _ => Fo.none)
          refine Fo.ite (fun _ => ?_) (fun _ => Fo.none)
          refine Fo.ite (fun _ => ?_) (fun _ => ?_)
          · exact Fo.te e1089 (fc_x6_plain_j168 (FL.tr (by decide) hq) D   q1088)
          · exact Fo.te e1089 (fc_x6_plain_j168 (FL.tr (by decide) hq) D   q1088)
        · refine FC.lN q1088 (hq.2.2.2 (by decide)) (fun s33 q1096 e1097 => ?_)
          refine Fo.ite (fun c1098 => ?_) (fun _ => Fo.none)
          refine Fo.ite (fun _ => ?_) (fun _ => Fo.none)
          refine Fo.ite (fun _ => ?_) (fun _ => ?_)
          · refine Fo.bind (fc_x18_init (FL.tr (by decide) hq) D (FC.le q1088)  q1096) (fun x37 q1101 => ?_)
            refine FC.lRr D q1101.1 (q1101.2 _ _ (by decide) (e1097 _ _ (by decide) c1090)) (by decide) (hq.2.2.1 (by decide)) (fun s39 q1102 e1103 => ?_)
            exact Fo.some ⟨q1102, (TE.tr (TE.tr (TE.tr e1089 e1097) q1101.2) e1103)⟩
          · refine Fo.bind (fc_x18_init (FL.tr (by decide) hq) D (FC.le q1088)  q1096) (fun x41 q1104 => ?_)
            refine FC.lRr D q1104.1 (q1104.2 _ _ (by decide) (e1097 _ _ (by decide) c1090)) (by decide) (hq.2.2.1 (by decide)) (fun s43 q1105 e1106 => ?_)
            exact Fo.some ⟨q1105, (TE.tr (TE.tr (TE.tr e1089 e1097) q1104.2) e1106)⟩
      · refine Fo.ite (fun c1107 => ?_) (fun _ => Fo.none)
        refine Fo.ite (fun _ => ?_) (fun _ => Fo.none)
        refine Fo.ite (fun _ => ?_) (fun _ => ?_)
        · exact Fo.te e1089 (fc_x6_plain_j63 (FL.tr (by decide) hq) D   q1088)
        · exact Fo.te e1089 (fc_x6_plain_j63 (FL.tr (by decide) hq) D   q1088)) _ _ _  hσ TE.rf)
theorem fc_x8_begin {q : FQ} {σ0 : gMem} {v0 : Nat} {σ : gMem} (hq : FL ([7], [(7, 0)], [], []) q) (D : FD q) (hσ : FC q σ0 σ) : Fo (fun r => FC q σ0 r ∧ TE σ r) (x8_begin v0 σ) := by
  unfold x8_begin
  refine Fo.ite (fun c1110 => ?_) (fun _ => Fo.none)
  refine Fo.bind (fc_x8_put hq D   hσ) (fun x2 q1111 => ?_)
  refine FC.lIo q1111.1 (q1111.2 _ _ (by decide) c1110) (hq.1 (by decide)) (fun s4 q1112 e1113 => ?_)
  exact Fo.some ⟨q1112, (TE.tr (TE.tr TE.rf q1111.2) e1113)⟩
theorem fc_x9_twin_l40 {q : FQ} {σ0 τ : gMem} {N : Nat} {v0 : Nat} {v1 : Nat} {K : gMem → Option (Nat × gMem)} (hq : FL ([111], [], [], [110]) q) (D : FD q) (hK : ∀ (a0 : gMem), FC q σ0 a0 → TE τ a0 → Fo (fun r => FC q σ0 r.2 ∧ TE τ r.2) (K a0)) : ∀ (n : Nat) (z0 : Int) (z1 : gMem), FC q σ0 z1 → TE τ z1 → Fo (fun r => FC q σ0 r.2 ∧ TE τ r.2) (x9_twin_l40 N v0 v1 K n z0 z1) := by
  intro n
  induction n with
  | zero => intros; exact Fo.none
  | succ n ih =>
    intro v2 s hs ts
    unfold x9_twin_l40
    refine Fo.ite (fun c1114 => ?_) (fun _ => Fo.none)
    refine Fo.ite (fun c1115 => ?_) (fun _ => Fo.none)
    refine Fo.ite (fun _ => ?_) (fun _ => ?_)
    · exact (hK _ hs ts)
    · refine Fo.ite (fun c1117 => ?_) (fun _ => Fo.none)
      refine Fo.ite (fun c1118 => ?_) (fun _ => Fo.none)
      refine Fo.ite (fun _ => ?_) (fun _ => Fo.none)
      refine Fo.ite (fun c1120 => ?_) (fun _ => Fo.none)
      refine FC.lK hs (hq.2.2.2 (by decide)) (fun s25 q1121 e1122 => ?_)
      refine Fo.ite (fun _ => ?_) (fun _ => Fo.none)
      refine Fo.ite (fun _ => ?_) (fun _ => Fo.none)
      refine FC.lRo D q1121 (e1122 _ _ (by decide) c1115) (by decide) (hq.1 (by decide)) (fun s28 q1125 e1126 => ?_)
      exact (ih _ _  q1125 (TE.tr (TE.tr ts e1122) e1126))
theorem fc_x9_twin {q : FQ} {σ0 : gMem} {N : Nat} {v0 : Nat} {σ : gMem} (hq : FL ([111], [], [], [8, 100, 110, 111]) q) (D : FD q) (hσ : FC q σ0 σ) : Fo (fun r => FC q σ0 r.2 ∧ TE σ r.2) (x9_twin N v0 σ) := by
  unfold x9_twin
  refine FC.lN hσ (hq.2.2.2 (by decide)) (fun s2 q1127 e1128 => ?_)
  refine Fo.ite (fun c1129 => ?_) (fun _ => Fo.none)
  refine Fo.ite (fun c1130 => ?_) (fun _ => Fo.none)
  refine FC.lK q1127 (hq.2.2.2 (by decide)) (fun s7 q1131 e1132 => ?_)
  refine Fo.ite (fun c1133 => ?_) (fun _ => Fo.none)
  refine FC.lK q1131 (hq.2.2.2 (by decide)) (fun s11 q1134 e1135 => ?_)
  refine Fo.ite (fun c1136 => ?_) (fun _ => Fo.none)
  refine FC.lK q1134 (hq.2.2.2 (by decide)) (fun s15 q1137 e1138 => ?_)
  refine Fo.bind (fc_x9_init_2 (FL.tr (by decide) hq) D (FC.le hσ)  q1137) (fun x17 q1139 => ?_)
  exact (fc_x9_twin_l40 (τ := σ) (FL.tr (by decide) hq) D  (fun s30 q1140 e1141 => by
      exact Fo.some ⟨q1140, e1141⟩) _ _ _  q1139.1 (TE.tr (TE.tr (TE.tr (TE.tr (TE.tr TE.rf e1128) e1132) e1135) e1138) q1139.2))
theorem fc_x1_take {q : FQ} {σ0 : gMem} {N : Nat} {v0 : Nat} {σ : gMem} (hq : FL ([1, 111], [], [(1, 8)], [8, 100, 110, 111]) q) (D : FD q) (hσ : FC q σ0 σ) : Fo (fun r => FC q σ0 r ∧ TE σ r) (x1_take N v0 σ) := by
  unfold x1_take
  refine Fo.ite (fun c1142 => ?_) (fun _ => Fo.none)
  refine Fo.pure (fun x2 => ?_)
  refine Fo.ite (fun c1143 => ?_) (fun _ => Fo.none)
  refine Fo.ite (fun _ => ?_) (fun _ => Fo.none)
  refine Fo.ite (fun c1145 => ?_) (fun _ => Fo.none)
  refine Fo.ite (fun c1146 => ?_) (fun _ => Fo.none)
  refine Fo.bind (fc_x9_twin (FL.tr (by decide) hq) D   hσ) (fun x7 q1147 => ?_)
  refine FC.lRr D q1147.1 (q1147.2 _ _ (by decide) c1142) (by decide) (hq.2.2.1 (by decide)) (fun s9 q1148 e1149 => ?_)
  refine FC.lIo q1148 (e1149 _ _ (by decide) (q1147.2 _ _ (by decide) c1142)) (hq.1 (by decide)) (fun s11 q1150 e1151 => ?_)
  refine FC.lIo q1150 (e1151 _ _ (by decide) (e1149 _ _ (by decide) (q1147.2 _ _ (by decide) c1142))) (hq.1 (by decide)) (fun s13 q1152 e1153 => ?_)
  refine Fo.bind (fc_x1_forget (FL.tr (by decide) hq) D   q1152) (fun x15 q1154 => ?_)
  exact Fo.some ⟨q1154.1, (TE.tr (TE.tr (TE.tr (TE.tr (TE.tr TE.rf q1147.2) e1149) e1151) e1153) q1154.2)⟩
theorem fc_x1_compare_j35 {q : FQ} {σ0 : gMem} {N : Nat} {v0 : Nat} {v1 : Nat} {s : gMem} (hq : FL ([5], [], [], []) q) (D : FD q) (hs : FC q σ0 s) : Fo (fun r => FC q σ0 r ∧ TE s r) (x1_compare_j35 N v0 v1 s) := by
  unfold x1_compare_j35
  refine Fo.ite (fun _ => ?_) (fun _ => ?_)
  · refine Fo.ite (fun c1156 => ?_) (fun _ => Fo.none)
    refine Fo.bind (fc_x5_is hq D   hs) (fun x43 q1157 => ?_)
    exact Fo.some ⟨q1157.1, (TE.tr TE.rf q1157.2)⟩
  · refine Fo.ite (fun c1158 => ?_) (fun _ => Fo.none)
    refine Fo.bind (fc_x5_is hq D   hs) (fun x46 q1159 => ?_)
    exact Fo.some ⟨q1159.1, (TE.tr TE.rf q1159.2)⟩
theorem fc_x1_compare {q : FQ} {σ0 : gMem} {N : Nat} {v0 : Nat} {v1 : Nat} {v2 : Nat} {σ : gMem} (hq : FL ([5], [], [], []) q) (D : FD q) (hσ : FC q σ0 σ) : Fo (fun r => FC q σ0 r ∧ TE σ r) (x1_compare N v0 v1 v2 σ) := by
  unfold x1_compare
  refine Fo.ite (fun c1160 => ?_) (fun _ => Fo.none)
  refine Fo.bind (fc_x5_adapt hq D   hσ) (fun x2 q1161 => ?_)
  refine Fo.ite (fun c1162 => ?_) (fun _ => Fo.none)
  refine Fo.bind (fc_x5_adapt hq D   q1161.1) (fun x5 q1163 => ?_)
  refine Fo.ite (fun _ => ?_) (fun _ => ?_)
  · refine Fo.pure (fun x9 => ?_)
    refine Fo.ite (fun c1165 => ?_) (fun _ => Fo.none)
    refine Fo.ite (fun _ => ?_) (fun _ => ?_)
    · refine Fo.ite (fun _ => ?_) (fun _ => ?_)
      · refine Fo.bind (fc_x5_is hq D   q1163.1) (fun x14 q1168 => ?_)
        exact Fo.some ⟨q1168.1, (TE.tr (TE.tr (TE.tr TE.rf q1161.2) q1163.2) q1168.2)⟩
      · refine Fo.bind (fc_x5_is hq D   q1163.1) (fun x16 q1169 => ?_)
        exact Fo.some ⟨q1169.1, (TE.tr (TE.tr (TE.tr TE.rf q1161.2) q1163.2) q1169.2)⟩
    · refine Fo.ite (fun _ => ?_) (fun _ => ?_)
      · refine Fo.ite (fun _ => ?_) (fun _ => ?_)
        · refine Fo.bind (fc_x5_is hq D   q1163.1) (fun x19 q1172 => ?_)
          exact Fo.some ⟨q1172.1, (TE.tr (TE.tr (TE.tr TE.rf q1161.2) q1163.2) q1172.2)⟩
        · refine Fo.bind (fc_x5_is hq D   q1163.1) (fun x21 q1173 => ?_)
          exact Fo.some ⟨q1173.1, (TE.tr (TE.tr (TE.tr TE.rf q1161.2) q1163.2) q1173.2)⟩
      · refine Fo.ite (fun _ => ?_) (fun _ => ?_)
        · refine Fo.ite (fun _ => ?_) (fun _ => ?_)
          · refine Fo.bind (fc_x5_is hq D   q1163.1) (fun x24 q1176 => ?_)
            exact Fo.some ⟨q1176.1, (TE.tr (TE.tr (TE.tr TE.rf q1161.2) q1163.2) q1176.2)⟩
          · refine Fo.bind (fc_x5_is hq D   q1163.1) (fun x26 q1177 => ?_)
            exact Fo.some ⟨q1177.1, (TE.tr (TE.tr (TE.tr TE.rf q1161.2) q1163.2) q1177.2)⟩
        · refine Fo.ite (fun _ => ?_) (fun _ => ?_)
          · refine Fo.ite (fun _ => ?_) (fun _ => ?_)
            · refine Fo.bind (fc_x5_is hq D   q1163.1) (fun x29 q1180 => ?_)
              exact Fo.some ⟨q1180.1, (TE.tr (TE.tr (TE.tr TE.rf q1161.2) q1163.2) q1180.2)⟩
            · refine Fo.bind (fc_x5_is hq D   q1163.1) (fun x31 q1181 => ?_)
              exact Fo.some ⟨q1181.1, (TE.tr (TE.tr (TE.tr TE.rf q1161.2) q1163.2) q1181.2)⟩
          · refine Fo.ite (fun _ => ?_) (fun _ => ?_)
            · refine Fo.ite (fun _ => ?_) (fun _ => ?_)
              · refine Fo.bind (fc_x5_is hq D   q1163.1) (fun x34 q1184 => ?_)
                exact Fo.some ⟨q1184.1, (TE.tr (TE.tr (TE.tr TE.rf q1161.2) q1163.2) q1184.2)⟩
              · refine Fo.bind (fc_x5_is hq D   q1163.1) (fun x36 q1185 => ?_)
                exact Fo.some ⟨q1185.1, (TE.tr (TE.tr (TE.tr TE.rf q1161.2) q1163.2) q1185.2)⟩
            · refine Fo.ite (fun _ => ?_) (fun _ => ?_)
              · refine Fo.bind (fc_x5_is hq D   q1163.1) (fun x38 q1187 => ?_)
                exact Fo.some ⟨q1187.1, (TE.tr (TE.tr (TE.tr TE.rf q1161.2) q1163.2) q1187.2)⟩
              · refine Fo.bind (fc_x5_is hq D   q1163.1) (fun x40 q1188 => ?_)
                exact Fo.some ⟨q1188.1, (TE.tr (TE.tr (TE.tr TE.rf q1161.2) q1163.2) q1188.2)⟩
  · refine Fo.ite (fun _ => ?_) (fun _ => ?_)
    · exact Fo.te (TE.tr (TE.tr TE.rf q1161.2) q1163.2) (fc_x1_compare_j35 hq D   q1163.1)
    · refine Fo.ite (fun _ => ?_) (fun _ => ?_)
      · refine Fo.bind (fc_x5_fail hq D   q1163.1) (fun x48 q1191 => ?_)
        exact Fo.some ⟨q1191.1, (TE.tr (TE.tr (TE.tr TE.rf q1161.2) q1163.2) q1191.2)⟩
      · exact Fo.te (TE.tr (TE.tr TE.rf q1161.2) q1163.2) (fc_x1_compare_j35 hq D   q1163.1)
theorem fc_x1_erase_l32_j62 {q : FQ} {σ0 τ : gMem} {N : Nat} {v0 : Nat} {v2 : Int} {v3 : Int} {v4 : Int} {v6 : Int} {v7 : Int} {t0 : Int} {t1 : Int} {Kh : Int → Int → gMem → Option gR} {K : Int → gMem → Option gR} {s : gMem} (hq : FL ([110], [], [], []) q) (D : FD q) (hKh : ∀ (a0 : Int) (a1 : Int) (a2 : gMem), FC q σ0 a2 → TE τ a2 → Fo (fun r => FC q σ0 r.2 ∧ TE τ r.2) (Kh a0 a1 a2)) (hK : ∀ (a0 : Int) (a1 : gMem), FC q σ0 a1 → TE τ a1 → Fo (fun r => FC q σ0 r.2 ∧ TE τ r.2) (K a0 a1)) (hs : FC q σ0 s) (ts : TE τ s) : Fo (fun r => FC q σ0 r.2 ∧ TE τ r.2) (x1_erase_l32_j62 N v0 v2 v3 v4 v6 v7 t0 t1 Kh K s) := by
  unfold x1_erase_l32_j62
  refine Fo.ite (fun c1192 => ?_) (fun _ => Fo.none)
  refine Fo.ite (fun c1193 => ?_) (fun _ => Fo.none)
  refine Fo.ite (fun c1194 => ?_) (fun _ => Fo.none)
  refine Fo.ite (fun _ => ?_) (fun _ => Fo.none)
  refine Fo.ite (fun c1196 => ?_) (fun _ => Fo.none)
  refine Fo.ite (fun _ => ?_) (fun _ => Fo.none)
  refine Fo.ite (fun _ => ?_) (fun _ => Fo.none)
  refine FC.lRo D hs c1196 (by decide) (hq.1 (by decide)) (fun s16 q1199 e1200 => ?_)
  exact (hKh _ _ _ q1199 (TE.tr ts e1200))
theorem fc_x1_erase_l32 {q : FQ} {σ0 τ : gMem} {N : Nat} {v0 : Nat} {v2 : Int} {v3 : Int} {v4 : Int} {v6 : Int} {K : Int → gMem → Option gR} (hq : FL ([110], [], [], []) q) (D : FD q) (hK : ∀ (a0 : Int) (a1 : gMem), FC q σ0 a1 → TE τ a1 → Fo (fun r => FC q σ0 r.2 ∧ TE τ r.2) (K a0 a1)) : ∀ (n : Nat) (z0 : Int) (z1 : Int) (z2 : gMem), FC q σ0 z2 → TE τ z2 → Fo (fun r => FC q σ0 r.2 ∧ TE τ r.2) (x1_erase_l32 N v0 v2 v3 v4 v6 K n z0 z1 z2) := by
  intro n
  induction n with
  | zero => intros; exact Fo.none
  | succ n ih =>
    intro v5 v7 s hs ts
    unfold x1_erase_l32
    refine Fo.ite (fun _ => ?_) (fun _ => ?_)
    · exact (hK _ _ hs ts)
    · refine Fo.ite (fun c1202 => ?_) (fun _ => Fo.none)
      refine Fo.ite (fun c1203 => ?_) (fun _ => Fo.none)
      refine Fo.ite (fun c1204 => ?_) (fun _ => Fo.none)
      refine Fo.ite (fun _ => ?_) (fun _ => Fo.none)
      refine Fo.ite (fun c1206 => ?_) (fun _ => Fo.none)
      refine Fo.ite (fun _ => ?_) (fun _ => Fo.none)
      refine Fo.ite (fun _ => ?_) (fun _ => ?_)
      · exact (fc_x1_erase_l32_j62 (τ := τ) hq D  (fun a0 a1 a2 b t => ih a0 a1 a2 b t) hK hs ts)
      · exact (fc_x1_erase_l32_j62 (τ := τ) hq D  (fun a0 a1 a2 b t => ih a0 a1 a2 b t) hK hs ts)
theorem fc_x1_erase_l21 {q : FQ} {σ0 τ : gMem} {N : Nat} {v0 : Nat} {v2 : Int} {v3 : Int} {v4 : Int} {K : Int → gMem → Option gR} (hq : FL ([110], [], [], []) q) (D : FD q) (hK : ∀ (a0 : Int) (a1 : gMem), FC q σ0 a1 → TE τ a1 → Fo (fun r => FC q σ0 r.2 ∧ TE τ r.2) (K a0 a1)) : ∀ (n : Nat) (z0 : Int) (z1 : Int) (z2 : gMem), FC q σ0 z2 → TE τ z2 → Fo (fun r => FC q σ0 r.2 ∧ TE τ r.2) (x1_erase_l21 N v0 v2 v3 v4 K n z0 z1 z2) := by
  intro n
  induction n with
  | zero => intros; exact Fo.none
  | succ n ih =>
    intro v5 v6 s hs ts
    unfold x1_erase_l21
    refine Fo.ite (fun _ => ?_) (fun _ => ?_)
    · exact (hK _ _ hs ts)
    · exact (fc_x1_erase_l32 (τ := τ) hq D  (fun y18 s19 q1210 e1211 => by
      exact (ih _ _ _  q1210 e1211)) _ _ _ _  hs ts)
theorem fc_x1_against_j127 {q : FQ} {σ0 : gMem} {N : Nat} {v4 : Int} {v5 : Int} {t0 : Int} {s : gMem} (hq : FL ([], [], [], []) q) (D : FD q) (hs : FC q σ0 s) : Fo (fun r => FC q σ0 r.2 ∧ TE s r.2) (x1_against_j127 N v4 v5 t0 s) := by
  unfold x1_against_j127
  refine Fo.ite (fun _ => ?_) (fun _ => ?_)
  · exact Fo.some ⟨hs, TE.rf⟩
  · refine Fo.ite (fun _ => ?_) (fun _ => ?_)
    · exact Fo.some ⟨hs, TE.rf⟩
    · exact Fo.some ⟨hs, TE.rf⟩
theorem fc_x1_against_j122 {q : FQ} {σ0 : gMem} {N : Nat} {v4 : Int} {v5 : Int} {s : gMem} (hq : FL ([], [], [], []) q) (D : FD q) (hs : FC q σ0 s) : Fo (fun r => FC q σ0 r.2 ∧ TE s r.2) (x1_against_j122 N v4 v5 s) := by
  unfold x1_against_j122
  exact Fo.te TE.rf (fc_x1_against_j127 hq D   hs)
theorem fc_x1_against_j102 {q : FQ} {σ0 : gMem} {N : Nat} {v0 : Nat} {v4 : Int} {v5 : Int} {s : gMem} (hq : FL ([], [], [], []) q) (D : FD q) (hs : FC q σ0 s) : Fo (fun r => FC q σ0 r.2 ∧ TE s r.2) (x1_against_j102 N v0 v4 v5 s) := by
  unfold x1_against_j102
  refine Fo.ite (fun c1214 => ?_) (fun _ => Fo.none)
  refine Fo.ite (fun c1215 => ?_) (fun _ => Fo.none)
  refine Fo.ite (fun _ => ?_) (fun _ => ?_)
  · exact Fo.te TE.rf (fc_x1_against_j122 hq D   hs)
  · refine Fo.ite (fun c1217 => ?_) (fun _ => Fo.none)
    refine Fo.ite (fun _ => ?_) (fun _ => ?_)
    · exact Fo.te TE.rf (fc_x1_against_j127 hq D   hs)
    · exact Fo.te TE.rf (fc_x1_against_j122 hq D   hs)
theorem fc_x1_against_j100 {q : FQ} {σ0 : gMem} {N : Nat} {v0 : Nat} {v4 : Int} {t0 : Int} {s : gMem} (hq : FL ([], [], [], []) q) (D : FD q) (hs : FC q σ0 s) : Fo (fun r => FC q σ0 r.2 ∧ TE s r.2) (x1_against_j100 N v0 v4 t0 s) := by
  unfold x1_against_j100
  exact Fo.te TE.rf (fc_x1_against_j102 hq D   hs)
theorem fc_x1_against_j85 {q : FQ} {σ0 : gMem} {N : Nat} {v0 : Nat} {v4 : Int} {s : gMem} (hq : FL ([], [], [], []) q) (D : FD q) (hs : FC q σ0 s) : Fo (fun r => FC q σ0 r.2 ∧ TE s r.2) (x1_against_j85 N v0 v4 s) := by
  unfold x1_against_j85
  exact Fo.te TE.rf (fc_x1_against_j100 hq D   hs)
theorem fc_x1_against {q : FQ} {σ0 : gMem} {N : Nat} {v0 : Nat} {v1 : Int} {v2 : Int} {v3 : Int} {v4 : Int} {σ : gMem} (hq : FL ([5], [(5, 3)], [], []) q) (D : FD q) (hσ : FC q σ0 σ) : Fo (fun r => FC q σ0 r.2 ∧ TE σ r.2) (x1_against N v0 v1 v2 v3 v4 σ) := by
  unfold x1_against
  refine Fo.ite (fun c1219 => ?_) (fun _ => Fo.none)
  refine Fo.ite (fun c1220 => ?_) (fun _ => Fo.none)
  refine Fo.bind (fc_x2_give hq D   hσ) (fun x3 q1221 => ?_)
  refine Fo.ite (fun c1222 => ?_) (fun _ => Fo.none)
  refine Fo.bind (fc_x2_give hq D   q1221.1) (fun x6 q1223 => ?_)
  refine Fo.ite (fun c1224 => ?_) (fun _ => Fo.none)
  refine Fo.pure (fun x10 => ?_)
  refine Fo.ite (fun c1225 => ?_) (fun _ => Fo.none)
  refine Fo.pure (fun x14 => ?_)
  refine Fo.pure (fun x16 => ?_)
  refine Fo.ite (fun _ => ?_) (fun _ => ?_)
  · exact Fo.te (TE.tr (TE.tr TE.rf q1221.2) q1223.2) (fc_x1_against_j102 (FL.tr (by decide) hq) D   q1223.1)
  · refine Fo.ite (fun _ => ?_) (fun _ => ?_)
    · exact Fo.te (TE.tr (TE.tr TE.rf q1221.2) q1223.2) (fc_x1_against_j85 (FL.tr (by decide) hq) D   q1223.1)
    · refine Fo.ite (fun _ => ?_) (fun _ => ?_)
      · refine Fo.pure (fun x25 => ?_)
        exact Fo.te (TE.tr (TE.tr TE.rf q1221.2) q1223.2) (fc_x1_against_j100 (FL.tr (by decide) hq) D   q1223.1)
      · exact Fo.te (TE.tr (TE.tr TE.rf q1221.2) q1223.2) (fc_x1_against_j85 (FL.tr (by decide) hq) D   q1223.1)
theorem fc_x16_write_j41 {q : FQ} {σ0 : gMem} {N : Nat} {v0 : Nat} {v1 : Nat} {v2 : Nat} {s : gMem} (hq : FL ([7], [(7, 0)], [], []) q) (D : FD q) (hs : FC q σ0 s) : Fo (fun r => FC q σ0 r ∧ TE s r) (x16_write_j41 N v0 v1 v2 s) := by
  unfold x16_write_j41
  refine Fo.ite (fun c1229 => ?_) (fun _ => Fo.none)
  refine Fo.ite (fun c1230 => ?_) (fun _ => Fo.none)
  refine Fo.pure (fun x15 => ?_)
  refine Fo.ite (fun c1231 => ?_) (fun _ => Fo.none)
  refine Fo.bind (fc_x8_number hq D   _ _ _ _  hs) (fun x18 q1232 => ?_)
  exact Fo.some ⟨q1232.1, (TE.tr TE.rf q1232.2)⟩
theorem fc_x16_write_j13 {q : FQ} {σ0 : gMem} {N : Nat} {v0 : Nat} {v1 : Nat} {v2 : Nat} {s : gMem} (hq : FL ([7], [(7, 0)], [], []) q) (D : FD q) (hs : FC q σ0 s) : Fo (fun r => FC q σ0 r ∧ TE s r) (x16_write_j13 N v0 v1 v2 s) := by
  unfold x16_write_j13
  refine Fo.ite (fun c1233 => ?_) (fun _ => Fo.none)
  refine Fo.ite (fun c1234 => ?_) (fun _ => Fo.none)
  refine Fo.pure (fun x6 => ?_)
  refine Fo.ite (fun c1235 => ?_) (fun _ => Fo.none)
  refine Fo.bind (fc_x8_put hq D   hs) (fun x9 q1236 => ?_)
  refine Fo.ite (fun _ => ?_) (fun _ => ?_)
  · exact Fo.te (TE.tr TE.rf q1236.2) (fc_x16_write_j41 hq D   q1236.1)
  · refine Fo.bind (fc_x8_put hq D   q1236.1) (fun x20 q1238 => ?_)
    exact Fo.te (TE.tr (TE.tr TE.rf q1236.2) q1238.2) (fc_x16_write_j41 hq D   q1238.1)
theorem fc_x16_write {q : FQ} {σ0 : gMem} {N : Nat} {v0 : Nat} {v1 : Nat} {v2 : Nat} {σ : gMem} (hq : FL ([7], [(7, 0)], [], []) q) (D : FD q) (hσ : FC q σ0 σ) : Fo (fun r => FC q σ0 r ∧ TE σ r) (x16_write N v0 v1 v2 σ) := by
  unfold x16_write
  refine Fo.ite (fun c1239 => ?_) (fun _ => Fo.none)
  refine Fo.ite (fun _ => ?_) (fun _ => ?_)
  · exact Fo.te TE.rf (fc_x16_write_j13 hq D   hσ)
  · refine Fo.ite (fun c1241 => ?_) (fun _ => Fo.none)
    refine Fo.bind (fc_x8_put hq D   hσ) (fun x23 q1242 => ?_)
    exact Fo.te (TE.tr TE.rf q1242.2) (fc_x16_write_j13 hq D   q1242.1)
theorem fc_x16_shifted_j67 {q : FQ} {σ0 : gMem} {N : Nat} {v0 : Nat} {v3 : Int} {t0 : Int} {s : gMem} (hq : FL ([], [], [], [14]) q) (D : FD q) (hs : FC q σ0 s) : Fo (fun r => FC q σ0 r.2 ∧ TE s r.2) (x16_shifted_j67 N v0 v3 t0 s) := by
  unfold x16_shifted_j67
  refine Fo.ite (fun _ => ?_) (fun _ => ?_)
  · exact Fo.some ⟨hs, TE.rf⟩
  · refine Fo.ite (fun _ => ?_) (fun _ => ?_)
    · refine FC.lN hs (hq.2.2.2 (by decide)) (fun s22 q1245 e1246 => ?_)
      refine Fo.ite (fun c1247 => ?_) (fun _ => Fo.none)
      refine Fo.bind (fc_x16_init (FL.tr (by decide) hq) D (FC.le hs)  q1245) (fun x27 q1248 => ?_)
      exact Fo.some ⟨q1248.1, (TE.tr (TE.tr TE.rf e1246) q1248.2)⟩
    · exact Fo.some ⟨hs, TE.rf⟩
theorem fc_x16_shifted_j33 {q : FQ} {σ0 : gMem} {N : Nat} {v0 : Nat} {v1 : Nat} {v2 : Nat} {t0 : Int} {s : gMem} (hq : FL ([], [], [], [14]) q) (D : FD q) (hs : FC q σ0 s) : Fo (fun r => FC q σ0 r.2 ∧ TE s r.2) (x16_shifted_j33 N v0 v1 v2 t0 s) := by
  unfold x16_shifted_j33
  refine Fo.ite (fun c1249 => ?_) (fun _ => Fo.none)
  refine Fo.ite (fun _ => ?_) (fun _ => ?_)
  · refine Fo.ite (fun c1251 => ?_) (fun _ => Fo.none)
    refine Fo.pure (fun x15 => ?_)
    refine Fo.ite (fun c1252 => ?_) (fun _ => Fo.none)
    refine Fo.pure (fun x19 => ?_)
    exact Fo.te TE.rf (fc_x16_shifted_j67 hq D   hs)
  · exact Fo.te TE.rf (fc_x16_shifted_j67 hq D   hs)
theorem fc_x16_shifted {q : FQ} {σ0 : gMem} {N : Nat} {v0 : Nat} {v1 : Nat} {v2 : Nat} {σ : gMem} (hq : FL ([], [], [], [14]) q) (D : FD q) (hσ : FC q σ0 σ) : Fo (fun r => FC q σ0 r.2 ∧ TE σ r.2) (x16_shifted N v0 v1 v2 σ) := by
  unfold x16_shifted
  refine Fo.ite (fun c1253 => ?_) (fun _ => Fo.none)
  refine Fo.ite (fun _ => ?_) (fun _ => ?_)
  · refine Fo.ite (fun c1255 => ?_) (fun _ => Fo.none)
    refine Fo.pure (fun x5 => ?_)
    refine Fo.ite (fun c1256 => ?_) (fun _ => Fo.none)
    refine Fo.pure (fun x9 => ?_)
    exact Fo.te TE.rf (fc_x16_shifted_j33 hq D   hσ)
  · exact Fo.te TE.rf (fc_x16_shifted_j33 hq D   hσ)
theorem fc_x17_leads {q : FQ} {σ0 : gMem} {N : Nat} {v0 : Nat} {v1 : Nat} {v2 : Nat} {σ : gMem} (hq : FL ([], [(4, 0)], [], []) q) (D : FD q) (hσ : FC q σ0 σ) : Fo (fun r => FC q σ0 r ∧ TE σ r) (x17_leads N v0 v1 v2 σ) := by
  unfold x17_leads
  refine Fo.ite (fun c1257 => ?_) (fun _ => Fo.none)
  refine Fo.ite (fun _ => ?_) (fun _ => ?_)
  · exact Fo.some ⟨hσ, TE.rf⟩
  · refine Fo.ite (fun c1259 => ?_) (fun _ => Fo.none)
    refine Fo.pure (fun x4 => ?_)
    refine Fo.ite (fun _ => ?_) (fun _ => ?_)
    · exact Fo.some ⟨hσ, TE.rf⟩
    · refine Fo.ite (fun c1261 => ?_) (fun _ => Fo.none)
      refine Fo.pure (fun x8 => ?_)
      refine Fo.pure (fun x11 => ?_)
      refine Fo.ite (fun c1262 => ?_) (fun _ => Fo.none)
      refine Fo.bind (fc_x4_add hq D   hσ) (fun x14 q1263 => ?_)
      exact Fo.some ⟨q1263.1, (TE.tr TE.rf q1263.2)⟩
theorem fc_x17_work {q : FQ} {σ0 : gMem} {N : Nat} {v0 : Nat} {v1 : Nat} {v2 : Nat} {σ : gMem} (hq : FL ([5], [(5, 3)], [], []) q) (D : FD q) (hσ : FC q σ0 σ) : Fo (fun r => FC q σ0 r ∧ TE σ r) (x17_work N v0 v1 v2 σ) := by
  unfold x17_work
  refine Fo.ite (fun c1264 => ?_) (fun _ => Fo.none)
  refine Fo.ite (fun c1265 => ?_) (fun _ => Fo.none)
  refine Fo.pure (fun x4 => ?_)
  refine Fo.ite (fun c1266 => ?_) (fun _ => Fo.none)
  refine Fo.ite (fun c1267 => ?_) (fun _ => Fo.none)
  refine Fo.pure (fun x8 => ?_)
  refine Fo.pure (fun x11 => ?_)
  refine Fo.ite (fun _ => ?_) (fun _ => ?_)
  · refine Fo.ite (fun c1269 => ?_) (fun _ => Fo.none)
    refine Fo.bind (fc_x5_fail (FL.tr (by decide) hq) D   hσ) (fun x14 q1270 => ?_)
    exact Fo.some ⟨q1270.1, (TE.tr TE.rf q1270.2)⟩
  · refine Fo.ite (fun _ => ?_) (fun _ => ?_)
    · refine Fo.pure (fun x17 => ?_)
      refine Fo.ite (fun c1272 => ?_) (fun _ => Fo.none)
      refine Fo.bind (fc_x2_give hq D   hσ) (fun x19 q1273 => ?_)
      exact Fo.some ⟨q1273.1, (TE.tr TE.rf q1273.2)⟩
    · refine Fo.ite (fun c1274 => ?_) (fun _ => Fo.none)
      refine Fo.bind (fc_x5_fail (FL.tr (by decide) hq) D   hσ) (fun x22 q1275 => ?_)
      exact Fo.some ⟨q1275.1, (TE.tr TE.rf q1275.2)⟩
theorem fc_x17_write {q : FQ} {σ0 : gMem} {N : Nat} {v0 : Nat} {v1 : Nat} {v2 : Nat} {σ : gMem} (hq : FL ([7], [(7, 0)], [], []) q) (D : FD q) (hσ : FC q σ0 σ) : Fo (fun r => FC q σ0 r ∧ TE σ r) (x17_write N v0 v1 v2 σ) := by
  unfold x17_write
  refine Fo.ite (fun c1276 => ?_) (fun _ => Fo.none)
  refine Fo.ite (fun c1277 => ?_) (fun _ => Fo.none)
  refine Fo.pure (fun x4 => ?_)
  refine Fo.ite (fun c1278 => ?_) (fun _ => Fo.none)
  refine Fo.pure (fun x6 => ?_)
  refine Fo.ite (fun _ => ?_) (fun _ => ?_)
  · refine Fo.bind (fc_x16_write hq D   hσ) (fun x8 q1280 => ?_)
    refine Fo.bind (fc_x8_at hq D   q1280.1) (fun x11 q1281 => ?_)
    exact Fo.some ⟨q1281.1, (TE.tr (TE.tr TE.rf q1280.2) q1281.2)⟩
  · refine Fo.bind (fc_x8_word hq D   hσ) (fun x13 q1282 => ?_)
    exact Fo.some ⟨q1282.1, (TE.tr TE.rf q1282.2)⟩
theorem fc_x17_shifted {q : FQ} {σ0 : gMem} {N : Nat} {v0 : Nat} {v1 : Nat} {σ : gMem} (hq : FL ([], [], [], [13, 14, 15]) q) (D : FD q) (hσ : FC q σ0 σ) : Fo (fun r => FC q σ0 r.2 ∧ TE σ r.2) (x17_shifted N v0 v1 σ) := by
  unfold x17_shifted
  refine Fo.ite (fun c1283 => ?_) (fun _ => Fo.none)
  refine Fo.ite (fun c1284 => ?_) (fun _ => Fo.none)
  refine Fo.pure (fun x4 => ?_)
  refine Fo.ite (fun c1285 => ?_) (fun _ => Fo.none)
  refine Fo.bind (fc_x16_shifted (FL.tr (by decide) hq) D   hσ) (fun x6 q1286 => ?_)
  refine Fo.ite (fun _ => ?_) (fun _ => ?_)
  · refine FC.lN q1286.1 (hq.2.2.2 (by decide)) (fun s9 q1288 e1289 => ?_)
    refine Fo.bind (fc_x17_init (FL.tr (by decide) hq) D (FC.le q1286.1)  q1288) (fun x12 q1290 => ?_)
    exact Fo.some ⟨q1290.1, (TE.tr (TE.tr (TE.tr TE.rf q1286.2) e1289) q1290.2)⟩
  · refine FC.lN q1286.1 (hq.2.2.2 (by decide)) (fun s15 q1291 e1292 => ?_)
    refine Fo.bind (fc_x15_init (FL.tr (by decide) hq) D   q1291) (fun x17 q1293 => ?_)
    exact Fo.some ⟨q1293.1, (TE.tr (TE.tr (TE.tr TE.rf q1286.2) e1292) q1293.2)⟩
theorem fc_x19_leads_l152 {q : FQ} {σ0 τ : gMem} {N : Nat} {v1 : Nat} {v4 : Int} {v5 : Int} {v6 : Int} {v7 : Int} {K : gMem → Option gMem} (hq : FL ([], [(4, 0)], [], []) q) (D : FD q) (hK : ∀ (a0 : gMem), FC q σ0 a0 → TE τ a0 → Fo (fun r => FC q σ0 r ∧ TE τ r) (K a0)) : ∀ (n : Nat) (z0 : Int) (z1 : gMem), FC q σ0 z1 → TE τ z1 → Fo (fun r => FC q σ0 r ∧ TE τ r) (x19_leads_l152 N v1 v4 v5 v6 v7 K n z0 z1) := by
  intro n
  induction n with
  | zero => intros; exact Fo.none
  | succ n ih =>
    intro v8 s hs ts
    unfold x19_leads_l152
    refine Fo.ite (fun _ => ?_) (fun _ => ?_)
    · exact (hK _ hs ts)
    · refine Fo.ite (fun c1295 => ?_) (fun _ => Fo.none)
      refine Fo.bind (fc_x4_add hq D   hs) (fun x35 q1296 => ?_)
      exact (ih _ _  q1296.1 (TE.tr ts q1296.2))
theorem fc_x19_leads_l141 {q : FQ} {σ0 τ : gMem} {N : Nat} {v1 : Nat} {v4 : Int} {v5 : Int} {v6 : Int} {K : gMem → Option gMem} (hq : FL ([], [(4, 0)], [], []) q) (D : FD q) (hK : ∀ (a0 : gMem), FC q σ0 a0 → TE τ a0 → Fo (fun r => FC q σ0 r ∧ TE τ r) (K a0)) : ∀ (n : Nat) (z0 : Int) (z1 : gMem), FC q σ0 z1 → TE τ z1 → Fo (fun r => FC q σ0 r ∧ TE τ r) (x19_leads_l141 N v1 v4 v5 v6 K n z0 z1) := by
  intro n
  induction n with
  | zero => intros; exact Fo.none
  | succ n ih =>
    intro v7 s hs ts
    unfold x19_leads_l141
    refine Fo.ite (fun _ => ?_) (fun _ => ?_)
    · exact (hK _ hs ts)
    · exact (fc_x19_leads_l152 (τ := τ) hq D  (fun s37 q1298 e1299 => by
      exact (ih _ _  q1298 e1299)) _ _ _  hs ts)
theorem fc_x19_leads {q : FQ} {σ0 : gMem} {N : Nat} {v0 : Nat} {v1 : Nat} {v2 : Nat} {σ : gMem} (hq : FL ([], [(4, 0)], [], []) q) (D : FD q) (hσ : FC q σ0 σ) : Fo (fun r => FC q σ0 r ∧ TE σ r) (x19_leads N v0 v1 v2 σ) := by
  unfold x19_leads
  refine Fo.ite (fun c1300 => ?_) (fun _ => Fo.none)
  refine Fo.ite (fun _ => ?_) (fun _ => ?_)
  · exact Fo.some ⟨hσ, TE.rf⟩
  · refine Fo.ite (fun c1302 => ?_) (fun _ => Fo.none)
    refine Fo.pure (fun x4 => ?_)
    refine Fo.ite (fun _ => ?_) (fun _ => ?_)
    · exact Fo.some ⟨hσ, TE.rf⟩
    · refine Fo.ite (fun c1304 => ?_) (fun _ => Fo.none)
      refine Fo.pure (fun x7 => ?_)
      refine Fo.ite (fun _ => ?_) (fun _ => ?_)
      · refine Fo.ite (fun c1306 => ?_) (fun _ => Fo.none)
        refine Fo.pure (fun x11 => ?_)
        refine Fo.pure (fun x14 => ?_)
        refine Fo.pure (fun x17 => ?_)
        refine Fo.pure (fun x20 => ?_)
        refine Fo.pure (fun x23 => ?_)
        refine Fo.pure (fun x26 => ?_)
        refine Fo.pure (fun x29 => ?_)
        refine Fo.pure (fun x32 => ?_)
        exact (fc_x19_leads_l141 (τ := σ) hq D  (fun s38 q1307 e1308 => by
      exact Fo.some ⟨q1307, e1308⟩) _ _ _  hσ TE.rf)
      · exact Fo.some ⟨hσ, TE.rf⟩
theorem fc_x19_write {q : FQ} {σ0 : gMem} {N : Nat} {v0 : Nat} {v1 : Nat} {v2 : Nat} {σ : gMem} (hq : FL ([7], [(7, 0)], [], []) q) (D : FD q) (hσ : FC q σ0 σ) : Fo (fun r => FC q σ0 r ∧ TE σ r) (x19_write N v0 v1 v2 σ) := by
  unfold x19_write
  refine Fo.ite (fun c1309 => ?_) (fun _ => Fo.none)
  refine Fo.ite (fun c1310 => ?_) (fun _ => Fo.none)
  refine Fo.pure (fun x4 => ?_)
  refine Fo.ite (fun c1311 => ?_) (fun _ => Fo.none)
  refine Fo.pure (fun x6 => ?_)
  refine Fo.ite (fun _ => ?_) (fun _ => ?_)
  · refine Fo.bind (fc_x8_word hq D   hσ) (fun x8 q1313 => ?_)
    exact Fo.some ⟨q1313.1, (TE.tr TE.rf q1313.2)⟩
  · refine Fo.ite (fun c1314 => ?_) (fun _ => Fo.none)
    refine Fo.pure (fun x11 => ?_)
    refine Fo.ite (fun _ => ?_) (fun _ => ?_)
    · refine Fo.bind (fc_x16_write hq D   hσ) (fun x13 q1316 => ?_)
      refine Fo.bind (fc_x8_put hq D   q1316.1) (fun x15 q1317 => ?_)
      refine Fo.ite (fun c1318 => ?_) (fun _ => Fo.none)
      refine Fo.bind (fc_x16_write hq D   q1317.1) (fun x18 q1319 => ?_)
      refine Fo.bind (fc_x8_at hq D   q1319.1) (fun x21 q1320 => ?_)
      exact Fo.some ⟨q1320.1, (TE.tr (TE.tr (TE.tr (TE.tr TE.rf q1316.2) q1317.2) q1319.2) q1320.2)⟩
    · refine Fo.bind (fc_x8_word hq D   hσ) (fun x23 q1321 => ?_)
      exact Fo.some ⟨q1321.1, (TE.tr TE.rf q1321.2)⟩
theorem fc_x19_shifted {q : FQ} {σ0 : gMem} {N : Nat} {v0 : Nat} {v1 : Nat} {σ : gMem} (hq : FL ([], [], [], [13, 14, 17]) q) (D : FD q) (hσ : FC q σ0 σ) : Fo (fun r => FC q σ0 r.2 ∧ TE σ r.2) (x19_shifted N v0 v1 σ) := by
  unfold x19_shifted
  refine Fo.ite (fun c1322 => ?_) (fun _ => Fo.none)
  refine Fo.ite (fun c1323 => ?_) (fun _ => Fo.none)
  refine Fo.pure (fun x4 => ?_)
  refine Fo.ite (fun c1324 => ?_) (fun _ => Fo.none)
  refine Fo.bind (fc_x16_shifted (FL.tr (by decide) hq) D   hσ) (fun x6 q1325 => ?_)
  refine Fo.ite (fun c1326 => ?_) (fun _ => Fo.none)
  refine Fo.bind (fc_x16_shifted (FL.tr (by decide) hq) D   q1325.1) (fun x9 q1327 => ?_)
  refine Fo.ite (fun _ => ?_) (fun _ => ?_)
  · refine FC.lN q1327.1 (hq.2.2.2 (by decide)) (fun s12 q1329 e1330 => ?_)
    refine Fo.bind (fc_x15_init (FL.tr (by decide) hq) D   q1329) (fun x14 q1331 => ?_)
    exact Fo.some ⟨q1331.1, (TE.tr (TE.tr (TE.tr (TE.tr TE.rf q1325.2) q1327.2) e1330) q1331.2)⟩
  · refine Fo.ite (fun _ => ?_) (fun _ => ?_)
    · refine FC.lN q1327.1 (hq.2.2.2 (by decide)) (fun s17 q1333 e1334 => ?_)
      refine Fo.bind (fc_x19_init (FL.tr (by decide) hq) D (FC.le q1327.1)  q1333) (fun x20 q1335 => ?_)
      exact Fo.some ⟨q1335.1, (TE.tr (TE.tr (TE.tr (TE.tr TE.rf q1325.2) q1327.2) e1334) q1335.2)⟩
    · refine FC.lN q1327.1 (hq.2.2.2 (by decide)) (fun s23 q1336 e1337 => ?_)
      refine Fo.bind (fc_x15_init (FL.tr (by decide) hq) D   q1336) (fun x25 q1338 => ?_)
      exact Fo.some ⟨q1338.1, (TE.tr (TE.tr (TE.tr (TE.tr TE.rf q1325.2) q1327.2) e1337) q1338.2)⟩
theorem fc_x20_workAll_l6_j63 {q : FQ} {σ0 τ : gMem} {N : Nat} {W : Nat → Nat → Nat → gMem → Option gMem} {v0 : Nat} {v1 : Nat} {v2 : Nat} {v3 : Int} {v4 : Int} {v5 : Int} {Kh : Int → Int → gMem → Option (Int × gMem)} {K : Int → gMem → Option (Int × gMem)} {s : gMem} (hq : FL ([], [], [], []) q) (D : FD q) (hW : ∀ (a0 : Nat) (a1 : Nat) (a2 : Nat) (a3 : gMem), FC q σ0 a3 → Fo (fun r => FC q σ0 r ∧ TE a3 r) (W a0 a1 a2 a3)) (hKh : ∀ (a0 : Int) (a1 : Int) (a2 : gMem), FC q σ0 a2 → TE τ a2 → Fo (fun r => FC q σ0 r.2 ∧ TE τ r.2) (Kh a0 a1 a2)) (hK : ∀ (a0 : Int) (a1 : gMem), FC q σ0 a1 → TE τ a1 → Fo (fun r => FC q σ0 r.2 ∧ TE τ r.2) (K a0 a1)) (hs : FC q σ0 s) (ts : TE τ s) : Fo (fun r => FC q σ0 r.2 ∧ TE τ r.2) (x20_workAll_l6_j63 N W v0 v1 v2 v3 v4 v5 Kh K s) := by
  unfold x20_workAll_l6_j63
  exact (hKh _ _ _ hs ts)
theorem fc_x20_workAll_l6 {q : FQ} {σ0 τ : gMem} {N : Nat} {W : Nat → Nat → Nat → gMem → Option gMem} {v0 : Nat} {v1 : Nat} {v2 : Nat} {v3 : Int} {K : Int → gMem → Option (Int × gMem)} (hq : FL ([3, 5], [(5, 3)], [], []) q) (D : FD q) (hW : ∀ (a0 : Nat) (a1 : Nat) (a2 : Nat) (a3 : gMem), FC q σ0 a3 → Fo (fun r => FC q σ0 r ∧ TE a3 r) (W a0 a1 a2 a3)) (hK : ∀ (a0 : Int) (a1 : gMem), FC q σ0 a1 → TE τ a1 → Fo (fun r => FC q σ0 r.2 ∧ TE τ r.2) (K a0 a1)) : ∀ (n : Nat) (z0 : Int) (z1 : Int) (z2 : gMem), FC q σ0 z2 → TE τ z2 → Fo (fun r => FC q σ0 r.2 ∧ TE τ r.2) (x20_workAll_l6 N W v0 v1 v2 v3 K n z0 z1 z2) := by
  intro n
  induction n with
  | zero => intros; exact Fo.none
  | succ n ih =>
    intro v4 v5 s hs ts
    unfold x20_workAll_l6
    refine Fo.ite (fun c1339 => ?_) (fun _ => Fo.none)
    refine Fo.ite (fun c1340 => ?_) (fun _ => Fo.none)
    refine Fo.ite (fun _ => ?_) (fun _ => ?_)
    · exact (hK _ _ hs ts)
    · refine Fo.ite (fun c1342 => ?_) (fun _ => Fo.none)
      refine Fo.bind (fc_x3_take (FL.tr (by decide) hq) D   hs) (fun x4 q1343 => ?_)
      refine Fo.ite (fun c1344 => ?_) (fun _ => Fo.none)
      refine Fo.ite (fun _ => ?_) (fun _ => Fo.none)
      refine Fo.bind (hW _ _ _ _ q1343.1) (fun x7 q1346 => ?_)
      refine Fo.ite (fun _ => ?_) (fun _ => ?_)
      · exact (fc_x20_workAll_l6_j63 (τ := τ) (FL.tr (by decide) hq) D  hW (fun a0 a1 a2 b t => ih a0 a1 a2 b t) hK q1346.1 (TE.tr (TE.tr ts q1343.2) q1346.2))
      · refine Fo.ite (fun _ => ?_) (fun _ => ?_)
        · exact (fc_x20_workAll_l6_j63 (τ := τ) (FL.tr (by decide) hq) D  hW (fun a0 a1 a2 b t => ih a0 a1 a2 b t) hK q1346.1 (TE.tr (TE.tr ts q1343.2) q1346.2))
        · refine Fo.ite (fun c1349 => ?_) (fun _ => Fo.none)
          refine Fo.pure (fun x10 => ?_)
          refine Fo.ite (fun _ => ?_) (fun _ => ?_)
          · exact (fc_x20_workAll_l6_j63 (τ := τ) (FL.tr (by decide) hq) D  hW (fun a0 a1 a2 b t => ih a0 a1 a2 b t) hK q1346.1 (TE.tr (TE.tr ts q1343.2) q1346.2))
          · refine Fo.ite (fun c1351 => ?_) (fun _ => Fo.none)
            refine Fo.bind (fc_x5_copy (FL.tr (by decide) hq) D   q1346.1) (fun x13 q1352 => ?_)
            exact (fc_x20_workAll_l6_j63 (τ := τ) (FL.tr (by decide) hq) D  hW (fun a0 a1 a2 b t => ih a0 a1 a2 b t) hK q1352.1 (TE.tr (TE.tr (TE.tr ts q1343.2) q1346.2) q1352.2))
theorem fc_x20_workAll {q : FQ} {σ0 : gMem} {N : Nat} {W : Nat → Nat → Nat → gMem → Option gMem} {v0 : Nat} {v1 : Nat} {v2 : Nat} {v3 : Int} {σ : gMem} (hq : FL ([3, 5], [(5, 3)], [], []) q) (D : FD q) (hW : ∀ (a0 : Nat) (a1 : Nat) (a2 : Nat) (a3 : gMem), FC q σ0 a3 → Fo (fun r => FC q σ0 r ∧ TE a3 r) (W a0 a1 a2 a3)) (hσ : FC q σ0 σ) : Fo (fun r => FC q σ0 r.2 ∧ TE σ r.2) (x20_workAll N W v0 v1 v2 v3 σ) := by
  unfold x20_workAll
  exact (fc_x20_workAll_l6 (τ := σ) hq D  hW (fun y15 s16 q1353 e1354 => by
      refine Fo.ite (fun _ => ?_) (fun _ => Fo.none)
      exact Fo.some ⟨q1353, e1354⟩) _ _ _ _  hσ TE.rf)
theorem fc_x20_alike_l15 {q : FQ} {σ0 τ : gMem} {N : Nat} {v0 : Nat} {v1 : Nat} {v2 : Nat} {v3 : Nat} {v4 : Nat} {K : Int → Int → gMem → Option gMem} (hq : FL ([3, 5], [(5, 3)], [], []) q) (D : FD q) (hK : ∀ (a0 : Int) (a1 : Int) (a2 : gMem), FC q σ0 a2 → TE τ a2 → Fo (fun r => FC q σ0 r ∧ TE τ r) (K a0 a1 a2)) : ∀ (n : Nat) (z0 : Int) (z1 : Int) (z2 : Int) (z3 : gMem), FC q σ0 z3 → TE τ z3 → Fo (fun r => FC q σ0 r ∧ TE τ r) (x20_alike_l15 N v0 v1 v2 v3 v4 K n z0 z1 z2 z3) := by
  intro n
  induction n with
  | zero => intros; exact Fo.none
  | succ n ih =>
    intro v5 v6 v7 s hs ts
    unfold x20_alike_l15
    refine Fo.ite (fun c1356 => ?_) (fun _ => Fo.none)
    refine Fo.bind (fc_x3_next hq D   hs) (fun x5 q1357 => ?_)
    refine Fo.ite (fun _ => ?_) (fun _ => ?_)
    · exact (hK _ _ _ q1357.1 (TE.tr ts q1357.2))
    · refine Fo.ite (fun c1359 => ?_) (fun _ => Fo.none)
      refine Fo.pure (fun x9 => ?_)
      refine Fo.ite (fun _ => ?_) (fun _ => ?_)
      · refine Fo.ite (fun c1361 => ?_) (fun _ => Fo.none)
        refine Fo.bind (fc_x5_copy (FL.tr (by decide) hq) D   q1357.1) (fun x12 q1362 => ?_)
        refine Fo.bind (fc_x1_compare (FL.tr (by decide) hq) D   q1362.1) (fun x14 q1363 => ?_)
        refine Fo.ite (fun _ => ?_) (fun _ => ?_)
        · refine Fo.ite (fun _ => ?_) (fun _ => ?_)
          · exact (ih _ _ _ _  q1363.1 (TE.tr (TE.tr (TE.tr ts q1357.2) q1362.2) q1363.2))
          · exact (ih _ _ _ _  q1363.1 (TE.tr (TE.tr (TE.tr ts q1357.2) q1362.2) q1363.2))
        · exact (ih _ _ _ _  q1363.1 (TE.tr (TE.tr (TE.tr ts q1357.2) q1362.2) q1363.2))
      · exact (ih _ _ _ _  q1357.1 (TE.tr ts q1357.2))
theorem fc_x20_alike {q : FQ} {σ0 : gMem} {N : Nat} {v0 : Nat} {v1 : Nat} {v2 : Nat} {v3 : Nat} {σ : gMem} (hq : FL ([3, 5], [(5, 3)], [], []) q) (D : FD q) (hσ : FC q σ0 σ) : Fo (fun r => FC q σ0 r ∧ TE σ r) (x20_alike N v0 v1 v2 v3 σ) := by
  unfold x20_alike
  refine Fo.ite (fun c1366 => ?_) (fun _ => Fo.none)
  refine Fo.bind (fc_x3_take (FL.tr (by decide) hq) D   hσ) (fun x2 q1367 => ?_)
  exact (fc_x20_alike_l15 (τ := σ) hq D  (fun y17 y18 s19 q1368 e1369 => by
      refine Fo.ite (fun c1370 => ?_) (fun _ => Fo.none)
      refine Fo.ite (fun _ => ?_) (fun _ => ?_)
      · refine Fo.ite (fun _ => ?_) (fun _ => ?_)
        · refine Fo.ite (fun c1373 => ?_) (fun _ => Fo.none)
          refine Fo.bind (fc_x5_be (FL.tr (by decide) hq) D   q1368) (fun x22 q1374 => ?_)
          refine Fo.ite (fun c1375 => ?_) (fun _ => Fo.none)
          refine Fo.bind (fc_x3_give (FL.tr (by decide) hq) D   q1374.1) (fun x25 q1376 => ?_)
          exact Fo.some ⟨q1376.1, (TE.tr (TE.tr e1369 q1374.2) q1376.2)⟩
        · refine Fo.ite (fun c1377 => ?_) (fun _ => Fo.none)
          refine Fo.bind (fc_x5_fail (FL.tr (by decide) hq) D   q1368) (fun x28 q1378 => ?_)
          refine Fo.ite (fun c1379 => ?_) (fun _ => Fo.none)
          refine Fo.bind (fc_x3_give (FL.tr (by decide) hq) D   q1378.1) (fun x31 q1380 => ?_)
          exact Fo.some ⟨q1380.1, (TE.tr (TE.tr e1369 q1378.2) q1380.2)⟩
      · refine Fo.ite (fun c1381 => ?_) (fun _ => Fo.none)
        refine Fo.bind (fc_x5_be (FL.tr (by decide) hq) D   q1368) (fun x34 q1382 => ?_)
        refine Fo.ite (fun c1383 => ?_) (fun _ => Fo.none)
        refine Fo.bind (fc_x3_give (FL.tr (by decide) hq) D   q1382.1) (fun x37 q1384 => ?_)
        exact Fo.some ⟨q1384.1, (TE.tr (TE.tr e1369 q1382.2) q1384.2)⟩) _ _ _ _ _  q1367.1 (TE.tr TE.rf q1367.2))
theorem fc_x20_place {q : FQ} {σ0 : gMem} {N : Nat} {v0 : Nat} {v1 : Nat} {v2 : Nat} {σ : gMem} (hq : FL ([5], [], [], []) q) (D : FD q) (hσ : FC q σ0 σ) : Fo (fun r => FC q σ0 r ∧ TE σ r) (x20_place N v0 v1 v2 σ) := by
  unfold x20_place
  refine Fo.ite (fun c1385 => ?_) (fun _ => Fo.none)
  refine Fo.ite (fun c1386 => ?_) (fun _ => Fo.none)
  refine Fo.ite (fun _ => ?_) (fun _ => Fo.none)
  refine Fo.ite (fun _ => ?_) (fun _ => Fo.none)
  refine Fo.ite (fun c1389 => ?_) (fun _ => ?_)
  · refine Fo.ite (fun _ => ?_) (fun _ => Fo.none)
    refine Fo.ite (fun _ => ?_) (fun _ => Fo.none)
    refine Fo.ite (fun c1392 => ?_) (fun _ => Fo.none)
    refine Fo.ite (fun c1393 => ?_) (fun _ => Fo.none)
    refine Fo.pure (fun x8 => ?_)
    refine Fo.ite (fun c1394 => ?_) (fun _ => Fo.none)
    refine Fo.pure (fun x10 => ?_)
    refine Fo.ite (fun _ => ?_) (fun _ => ?_)
    · refine Fo.ite (fun _ => ?_) (fun _ => ?_)
      · refine Fo.ite (fun c1397 => ?_) (fun _ => Fo.none)
        refine Fo.pure (fun x14 => ?_)
        refine Fo.ite (fun c1398 => ?_) (fun _ => Fo.none)
        refine Fo.bind (fc_x5_be hq D   hσ) (fun x17 q1399 => ?_)
        exact Fo.some ⟨q1399.1, (TE.tr TE.rf q1399.2)⟩
      · refine Fo.ite (fun c1400 => ?_) (fun _ => Fo.none)
        refine Fo.pure (fun x21 => ?_)
        refine Fo.ite (fun c1401 => ?_) (fun _ => Fo.none)
        refine Fo.bind (fc_x5_be hq D   hσ) (fun x24 q1402 => ?_)
        exact Fo.some ⟨q1402.1, (TE.tr TE.rf q1402.2)⟩
    · refine Fo.ite (fun c1403 => ?_) (fun _ => Fo.none)
      refine Fo.bind (fc_x5_fail hq D   hσ) (fun x27 q1404 => ?_)
      exact Fo.some ⟨q1404.1, (TE.tr TE.rf q1404.2)⟩
  · refine Fo.ite (fun c1405 => ?_) (fun _ => Fo.none)
    refine Fo.bind (fc_x5_fail hq D   hσ) (fun x30 q1406 => ?_)
    exact Fo.some ⟨q1406.1, (TE.tr TE.rf q1406.2)⟩
theorem fc_x20_cut_j43 {q : FQ} {σ0 : gMem} {N : Nat} {W : Nat → Nat → Nat → gMem → Option gMem} {v1 : Nat} {v2 : Nat} {v3 : Nat} {s : gMem} (hq : FL ([3, 5], [(5, 3)], [], []) q) (D : FD q) (hW : ∀ (a0 : Nat) (a1 : Nat) (a2 : Nat) (a3 : gMem), FC q σ0 a3 → Fo (fun r => FC q σ0 r ∧ TE a3 r) (W a0 a1 a2 a3)) (hs : FC q σ0 s) : Fo (fun r => FC q σ0 r ∧ TE s r) (x20_cut_j43 N W v1 v2 v3 s) := by
  unfold x20_cut_j43
  refine Fo.ite (fun c1407 => ?_) (fun _ => Fo.none)
  refine Fo.bind (fc_x5_copy (FL.tr (by decide) hq) D   hs) (fun x19 q1408 => ?_)
  refine Fo.ite (fun c1409 => ?_) (fun _ => Fo.none)
  refine Fo.bind (fc_x3_give (FL.tr (by decide) hq) D   q1408.1) (fun x22 q1410 => ?_)
  exact Fo.some ⟨q1410.1, (TE.tr (TE.tr TE.rf q1408.2) q1410.2)⟩
theorem fc_x20_cut {q : FQ} {σ0 : gMem} {N : Nat} {W : Nat → Nat → Nat → gMem → Option gMem} {v0 : Nat} {v1 : Nat} {v2 : Nat} {σ : gMem} (hq : FL ([3, 5], [(5, 3)], [], []) q) (D : FD q) (hW : ∀ (a0 : Nat) (a1 : Nat) (a2 : Nat) (a3 : gMem), FC q σ0 a3 → Fo (fun r => FC q σ0 r ∧ TE a3 r) (W a0 a1 a2 a3)) (hσ : FC q σ0 σ) : Fo (fun r => FC q σ0 r ∧ TE σ r) (x20_cut N W v0 v1 v2 σ) := by
  unfold x20_cut
  refine Fo.ite (fun c1411 => ?_) (fun _ => Fo.none)
  refine Fo.bind (fc_x3_take (FL.tr (by decide) hq) D   hσ) (fun x2 q1412 => ?_)
  refine Fo.ite (fun c1413 => ?_) (fun _ => Fo.none)
  refine Fo.ite (fun c1414 => ?_) (fun _ => Fo.none)
  refine Fo.ite (fun _ => ?_) (fun _ => Fo.none)
  refine Fo.bind (hW _ _ _ _ q1412.1) (fun x6 q1416 => ?_)
  refine Fo.ite (fun c1417 => ?_) (fun _ => Fo.none)
  refine Fo.pure (fun x9 => ?_)
  refine Fo.ite (fun _ => ?_) (fun _ => ?_)
  · refine Fo.bind (fc_x3_give (FL.tr (by decide) hq) D   q1416.1) (fun x11 q1419 => ?_)
    exact Fo.some ⟨q1419.1, (TE.tr (TE.tr (TE.tr TE.rf q1412.2) q1416.2) q1419.2)⟩
  · refine Fo.bind (fc_x5_wantText (FL.tr (by decide) hq) D   q1416.1) (fun x13 q1420 => ?_)
    refine Fo.ite (fun c1421 => ?_) (fun _ => Fo.none)
    refine Fo.pure (fun x16 => ?_)
    refine Fo.ite (fun _ => ?_) (fun _ => ?_)
    · exact Fo.te (TE.tr (TE.tr (TE.tr TE.rf q1412.2) q1416.2) q1420.2) (fc_x20_cut_j43 hq D  hW q1420.1)
    · refine Fo.bind (fc_x5_wantNumber (FL.tr (by decide) hq) D   q1420.1) (fun x24 q1423 => ?_)
      refine Fo.ite (fun _ => ?_) (fun _ => ?_)
      · refine Fo.ite (fun _ => ?_) (fun _ => ?_)
        · refine Fo.ite (fun _ => ?_) (fun _ => ?_)
          · refine Fo.bind (fc_x5_cut (FL.tr (by decide) hq) D   q1423.1) (fun x29 q1427 => ?_)
            refine Fo.bind (fc_x3_give (FL.tr (by decide) hq) D   q1427.1) (fun x31 q1428 => ?_)
            exact Fo.some ⟨q1428.1, (TE.tr (TE.tr (TE.tr (TE.tr (TE.tr (TE.tr TE.rf q1412.2) q1416.2) q1420.2) q1423.2) q1427.2) q1428.2)⟩
          · refine Fo.bind (fc_x5_cut (FL.tr (by decide) hq) D   q1423.1) (fun x33 q1429 => ?_)
            refine Fo.bind (fc_x3_give (FL.tr (by decide) hq) D   q1429.1) (fun x35 q1430 => ?_)
            exact Fo.some ⟨q1430.1, (TE.tr (TE.tr (TE.tr (TE.tr (TE.tr (TE.tr TE.rf q1412.2) q1416.2) q1420.2) q1423.2) q1429.2) q1430.2)⟩
        · refine Fo.bind (fc_x5_fail (FL.tr (by decide) hq) D   q1423.1) (fun x37 q1431 => ?_)
          refine Fo.bind (fc_x3_give (FL.tr (by decide) hq) D   q1431.1) (fun x39 q1432 => ?_)
          exact Fo.some ⟨q1432.1, (TE.tr (TE.tr (TE.tr (TE.tr (TE.tr (TE.tr TE.rf q1412.2) q1416.2) q1420.2) q1423.2) q1431.2) q1432.2)⟩
      · exact Fo.te (TE.tr (TE.tr (TE.tr (TE.tr TE.rf q1412.2) q1416.2) q1420.2) q1423.2) (fc_x20_cut_j43 hq D  hW q1423.1)
theorem fc_x20_one {q : FQ} {σ0 : gMem} {N : Nat} {v0 : Nat} {v1 : Nat} {σ : gMem} (hq : FL ([5], [(5, 3)], [], []) q) (D : FD q) (hσ : FC q σ0 σ) : Fo (fun r => FC q σ0 r ∧ TE σ r) (x20_one N v0 v1 σ) := by
  unfold x20_one
  refine Fo.ite (fun c1433 => ?_) (fun _ => Fo.none)
  refine Fo.ite (fun _ => ?_) (fun _ => ?_)
  · refine Fo.ite (fun _ => ?_) (fun _ => ?_)
    · refine Fo.ite (fun c1436 => ?_) (fun _ => Fo.none)
      refine Fo.bind (fc_x5_wantText hq D   hσ) (fun x3 q1437 => ?_)
      refine Fo.bind (fc_x5_be (FL.tr (by decide) hq) D   q1437.1) (fun x6 q1438 => ?_)
      exact Fo.some ⟨q1438.1, (TE.tr (TE.tr TE.rf q1437.2) q1438.2)⟩
    · refine Fo.ite (fun c1439 => ?_) (fun _ => Fo.none)
      refine Fo.bind (fc_x5_wantNumber (FL.tr (by decide) hq) D   hσ) (fun x9 q1440 => ?_)
      refine Fo.ite (fun _ => ?_) (fun _ => ?_)
      · exact Fo.some ⟨q1440.1, (TE.tr TE.rf q1440.2)⟩
      · refine Fo.bind (fc_x5_be (FL.tr (by decide) hq) D   q1440.1) (fun x13 q1442 => ?_)
        exact Fo.some ⟨q1442.1, (TE.tr (TE.tr TE.rf q1440.2) q1442.2)⟩
  · refine Fo.ite (fun c1443 => ?_) (fun _ => Fo.none)
    refine Fo.bind (fc_x5_wantTruth (FL.tr (by decide) hq) D   hσ) (fun x16 q1444 => ?_)
    refine Fo.ite (fun _ => ?_) (fun _ => ?_)
    · exact Fo.some ⟨q1444.1, (TE.tr TE.rf q1444.2)⟩
    · refine Fo.ite (fun _ => ?_) (fun _ => ?_)
      · refine Fo.bind (fc_x5_is (FL.tr (by decide) hq) D   q1444.1) (fun x20 q1447 => ?_)
        exact Fo.some ⟨q1447.1, (TE.tr (TE.tr TE.rf q1444.2) q1447.2)⟩
      · refine Fo.bind (fc_x5_is (FL.tr (by decide) hq) D   q1444.1) (fun x22 q1448 => ?_)
        exact Fo.some ⟨q1448.1, (TE.tr (TE.tr TE.rf q1444.2) q1448.2)⟩
theorem fc_x25_tellKept_l11_j96 {q : FQ} {σ0 τ : gMem} {N : Nat} {v0 : Nat} {v1 : Int} {v2 : Nat} {v3 : Int} {Kh : Int → gMem → Option gMem} {K : gMem → Option gMem} {s : gMem} (hq : FL ([], [], [], []) q) (D : FD q) (hKh : ∀ (a0 : Int) (a1 : gMem), FC q σ0 a1 → TE τ a1 → Fo (fun r => FC q σ0 r ∧ TE τ r) (Kh a0 a1)) (hK : ∀ (a0 : gMem), FC q σ0 a0 → TE τ a0 → Fo (fun r => FC q σ0 r ∧ TE τ r) (K a0)) (hs : FC q σ0 s) (ts : TE τ s) : Fo (fun r => FC q σ0 r ∧ TE τ r) (x25_tellKept_l11_j96 N v0 v1 v2 v3 Kh K s) := by
  unfold x25_tellKept_l11_j96
  exact (hKh _ _ hs ts)
theorem fc_x25_tellKept_l11_j89 {q : FQ} {σ0 τ : gMem} {N : Nat} {v0 : Nat} {v1 : Int} {v2 : Nat} {v3 : Int} {v4 : Int} {t0 : Int} {t1 : Int} {t2 : Int} {t3 : Nat} {Kh : Int → gMem → Option gMem} {K : gMem → Option gMem} {s : gMem} (hq : FL ([23, 106], [], [(23, 4)], [24, 106]) q) (D : FD q) (hKh : ∀ (a0 : Int) (a1 : gMem), FC q σ0 a1 → TE τ a1 → Fo (fun r => FC q σ0 r ∧ TE τ r) (Kh a0 a1)) (hK : ∀ (a0 : gMem), FC q σ0 a0 → TE τ a0 → Fo (fun r => FC q σ0 r ∧ TE τ r) (K a0)) (hs : FC q σ0 s) (ts : TE τ s) : Fo (fun r => FC q σ0 r ∧ TE τ r) (x25_tellKept_l11_j89 N v0 v1 v2 v3 v4 t0 t1 t2 t3 Kh K s) := by
  unfold x25_tellKept_l11_j89
  refine Fo.ite (fun c1449 => ?_) (fun _ => Fo.none)
  refine Fo.bind (fc_x25_tell hq D   hs) (fun x18 q1450 => ?_)
  exact (fc_x25_tellKept_l11_j96 (τ := τ) (FL.tr (by decide) hq) D  hKh hK q1450.1 (TE.tr ts q1450.2))
theorem fc_x25_tellKept_l11_j78 {q : FQ} {σ0 τ : gMem} {N : Nat} {v0 : Nat} {v1 : Int} {v2 : Nat} {v3 : Int} {v4 : Int} {t0 : Int} {t1 : Int} {t2 : Nat} {Kh : Int → gMem → Option gMem} {K : gMem → Option gMem} {s : gMem} (hq : FL ([23, 106], [], [(23, 4)], [24, 106]) q) (D : FD q) (hKh : ∀ (a0 : Int) (a1 : gMem), FC q σ0 a1 → TE τ a1 → Fo (fun r => FC q σ0 r ∧ TE τ r) (Kh a0 a1)) (hK : ∀ (a0 : gMem), FC q σ0 a0 → TE τ a0 → Fo (fun r => FC q σ0 r ∧ TE τ r) (K a0)) (hs : FC q σ0 s) (ts : TE τ s) : Fo (fun r => FC q σ0 r ∧ TE τ r) (x25_tellKept_l11_j78 N v0 v1 v2 v3 v4 t0 t1 t2 Kh K s) := by
  unfold x25_tellKept_l11_j78
  refine Fo.ite (fun _ => ?_) (fun _ => ?_)
  · refine Fo.ite (fun c1452 => ?_) (fun _ => Fo.none)
    refine Fo.ite (fun _ => ?_) (fun _ => Fo.none)
    exact (fc_x25_tellKept_l11_j89 (τ := τ) hq D  hKh hK hs ts)
  · exact (fc_x25_tellKept_l11_j89 (τ := τ) hq D  hKh hK hs ts)
theorem fc_x25_tellKept_l11 {q : FQ} {σ0 τ : gMem} {N : Nat} {v0 : Nat} {v1 : Int} {v2 : Nat} {K : gMem → Option gMem} (hq : FL ([23, 106], [], [(23, 4)], [24, 106]) q) (D : FD q) (hK : ∀ (a0 : gMem), FC q σ0 a0 → TE τ a0 → Fo (fun r => FC q σ0 r ∧ TE τ r) (K a0)) : ∀ (n : Nat) (z0 : Int) (z1 : gMem), FC q σ0 z1 → TE τ z1 → Fo (fun r => FC q σ0 r ∧ TE τ r) (x25_tellKept_l11 N v0 v1 v2 K n z0 z1) := by
  intro n
  induction n with
  | zero => intros; exact Fo.none
  | succ n ih =>
    intro v3 s hs ts
    unfold x25_tellKept_l11
    refine Fo.ite (fun c1454 => ?_) (fun _ => Fo.none)
    refine Fo.ite (fun _ => ?_) (fun _ => ?_)
    · exact (hK _ hs ts)
    · refine Fo.ite (fun c1456 => ?_) (fun _ => Fo.none)
      refine Fo.ite (fun _ => ?_) (fun _ => Fo.none)
      refine Fo.pure (fun x7 => ?_)
      refine Fo.ite (fun _ => ?_) (fun _ => Fo.none)
      refine Fo.pure (fun x10 => ?_)
      refine Fo.ite (fun _ => ?_) (fun _ => ?_)
      · exact (fc_x25_tellKept_l11_j96 (τ := τ) (FL.tr (by decide) hq) D  (fun a0 a1 b t => ih a0 a1 b t) hK hs ts)
      · refine Fo.ite (fun _ => ?_) (fun _ => Fo.none)
        refine Fo.pure (fun x13 => ?_)
        refine Fo.ite (fun _ => ?_) (fun _ => ?_)
        · refine Fo.ite (fun _ => ?_) (fun _ => ?_)
          · exact (fc_x25_tellKept_l11_j78 (τ := τ) hq D  (fun a0 a1 b t => ih a0 a1 b t) hK hs ts)
          · refine Fo.ite (fun _ => ?_) (fun _ => Fo.none)
            exact (fc_x25_tellKept_l11_j78 (τ := τ) hq D  (fun a0 a1 b t => ih a0 a1 b t) hK hs ts)
        · exact (fc_x25_tellKept_l11_j96 (τ := τ) (FL.tr (by decide) hq) D  (fun a0 a1 b t => ih a0 a1 b t) hK hs ts)
theorem fc_x25_tellKept {q : FQ} {σ0 : gMem} {N : Nat} {v0 : Nat} {v1 : Int} {σ : gMem} (hq : FL ([23, 106], [], [(23, 4)], [24, 106]) q) (D : FD q) (hσ : FC q σ0 σ) : Fo (fun r => FC q σ0 r ∧ TE σ r) (x25_tellKept N v0 v1 σ) := by
  unfold x25_tellKept
  refine Fo.ite (fun c1464 => ?_) (fun _ => Fo.none)
  refine Fo.ite (fun c1465 => ?_) (fun _ => Fo.none)
  refine Fo.pure (fun x3 => ?_)
  exact (fc_x25_tellKept_l11 (τ := σ) hq D  (fun s21 q1466 e1467 => by
      exact Fo.some ⟨q1466, e1467⟩) _ _ _  hσ TE.rf)
theorem fc_x3_opens {q : FQ} {σ0 : gMem} {N : Nat} {v0 : Nat} {v1 : Nat} {v2 : Nat} {σ : gMem} (hq : FL ([3, 5], [], [(3, 8)], []) q) (D : FD q) (hσ : FC q σ0 σ) : Fo (fun r => FC q σ0 r.2 ∧ TE σ r.2) (x3_opens N v0 v1 v2 σ) := by
  unfold x3_opens
  refine Fo.ite (fun c1468 => ?_) (fun _ => Fo.none)
  refine Fo.ite (fun c1469 => ?_) (fun _ => Fo.none)
  refine Fo.pure (fun x4 => ?_)
  refine Fo.ite (fun c1470 => ?_) (fun _ => Fo.none)
  refine Fo.pure (fun x6 => ?_)
  refine Fo.ite (fun _ => ?_) (fun _ => ?_)
  · refine Fo.ite (fun c1472 => ?_) (fun _ => Fo.none)
    refine Fo.bind (fc_x5_fail (FL.tr (by decide) hq) D   hσ) (fun x9 q1473 => ?_)
    exact Fo.some ⟨q1473.1, (TE.tr TE.rf q1473.2)⟩
  · refine Fo.ite (fun c1474 => ?_) (fun _ => Fo.none)
    refine Fo.pure (fun x12 => ?_)
    refine Fo.ite (fun _ => ?_) (fun _ => ?_)
    · refine Fo.pure (fun x15 => ?_)
      refine FC.lRr D hσ c1469 (by decide) (hq.2.2.1 (by decide)) (fun s16 q1476 e1477 => ?_)
      refine Fo.ite (fun c1478 => ?_) (fun _ => Fo.none)
      refine Fo.ite (fun c1479 => ?_) (fun _ => Fo.none)
      refine Fo.pure (fun x21 => ?_)
      refine Fo.pure (fun x24 => ?_)
      refine Fo.ite (fun c1480 => ?_) (fun _ => Fo.none)
      refine Fo.pure (fun x28 => ?_)
      refine Fo.pure (fun x31 => ?_)
      refine FC.lIo q1476 (e1477 _ _ (by decide) c1469) (hq.1 (by decide)) (fun s33 q1481 e1482 => ?_)
      refine FC.lIo q1481 (e1482 _ _ (by decide) (e1477 _ _ (by decide) c1469)) (hq.1 (by decide)) (fun s35 q1483 e1484 => ?_)
      refine FC.lIo q1483 (e1484 _ _ (by decide) (e1482 _ _ (by decide) (e1477 _ _ (by decide) c1469))) (hq.1 (by decide)) (fun s37 q1485 e1486 => ?_)
      refine FC.lIo q1485 (e1486 _ _ (by decide) (e1484 _ _ (by decide) (e1482 _ _ (by decide) (e1477 _ _ (by decide) c1469)))) (hq.1 (by decide)) (fun s39 q1487 e1488 => ?_)
      refine FC.lIo q1487 (e1488 _ _ (by decide) (e1486 _ _ (by decide) (e1484 _ _ (by decide) (e1482 _ _ (by decide) (e1477 _ _ (by decide) c1469))))) (hq.1 (by decide)) (fun s42 q1489 e1490 => ?_)
      refine FC.lIo q1489 (e1490 _ _ (by decide) (e1488 _ _ (by decide) (e1486 _ _ (by decide) (e1484 _ _ (by decide) (e1482 _ _ (by decide) (e1477 _ _ (by decide) c1469)))))) (hq.1 (by decide)) (fun s45 q1491 e1492 => ?_)
      exact Fo.some ⟨q1491, (TE.tr (TE.tr (TE.tr (TE.tr (TE.tr (TE.tr (TE.tr TE.rf e1477) e1482) e1484) e1486) e1488) e1490) e1492)⟩
    · refine Fo.ite (fun c1493 => ?_) (fun _ => Fo.none)
      refine Fo.bind (fc_x5_fail (FL.tr (by decide) hq) D   hσ) (fun x48 q1494 => ?_)
      exact Fo.some ⟨q1494.1, (TE.tr TE.rf q1494.2)⟩
theorem fc_x6_product_l10_j66 {q : FQ} {σ0 τ : gMem} {N : Nat} {W : Nat → gMem → Option gR} {v0 : Nat} {v1 : Nat} {t0 : Nat} {t1 : Nat} {Kh : Nat → Int → gMem → Option gR} {K : Nat → gMem → Option gR} {s : gMem} (hq : FL ([6], [], [], [20]) q) (D : FD q) (hW : ∀ (a0 : Nat) (a1 : gMem), FC q σ0 a1 → Fo (fun r => FC q σ0 r.2 ∧ TE a1 r.2) (W a0 a1)) (hKh : ∀ (a0 : Nat) (a1 : Int) (a2 : gMem), FC q σ0 a2 → TE τ a2 → Fo (fun r => FC q σ0 r.2 ∧ TE τ r.2) (Kh a0 a1 a2)) (hK : ∀ (a0 : Nat) (a1 : gMem), FC q σ0 a1 → TE τ a1 → Fo (fun r => FC q σ0 r.2 ∧ TE τ r.2) (K a0 a1)) (hs : FC q σ0 s) (ts : TE τ s) : Fo (fun r => FC q σ0 r.2 ∧ TE τ r.2) (x6_product_l10_j66 N W v0 v1 t0 t1 Kh K s) := by
  unfold x6_product_l10_j66
  refine Fo.ite (fun c1495 => ?_) (fun _ => Fo.none)
  refine Fo.bind (hW _ _ hs) (fun p q1496 => ?_)
  refine Fo.gThrR ⟨q1496.1, (TE.tr ts q1496.2)⟩ (fun x13 s15 ys15 => ?_)
  subst ys15
  refine Fo.ite (fun c1497 => ?_) (fun _ => Fo.none)
  refine Fo.bind (fc_x6_two hq D   q1496.1) (fun x17 q1498 => ?_)
  refine Fo.bind (fc_x6_peek (FL.tr (by decide) hq) D   q1498.1) (fun x19 q1499 => ?_)
  exact (hKh _ _ _ q1499.1 (TE.tr (TE.tr (TE.tr ts q1496.2) q1498.2) q1499.2))
theorem fc_x6_product_l10_j28 {q : FQ} {σ0 τ : gMem} {N : Nat} {W : Nat → gMem → Option gR} {v0 : Nat} {v1 : Nat} {v2 : Int} {Kh : Nat → Int → gMem → Option gR} {K : Nat → gMem → Option gR} {s : gMem} (hq : FL ([6], [], [], [20]) q) (D : FD q) (hW : ∀ (a0 : Nat) (a1 : gMem), FC q σ0 a1 → Fo (fun r => FC q σ0 r.2 ∧ TE a1 r.2) (W a0 a1)) (hKh : ∀ (a0 : Nat) (a1 : Int) (a2 : gMem), FC q σ0 a2 → TE τ a2 → Fo (fun r => FC q σ0 r.2 ∧ TE τ r.2) (Kh a0 a1 a2)) (hK : ∀ (a0 : Nat) (a1 : gMem), FC q σ0 a1 → TE τ a1 → Fo (fun r => FC q σ0 r.2 ∧ TE τ r.2) (K a0 a1)) (hs : FC q σ0 s) (ts : TE τ s) : Fo (fun r => FC q σ0 r.2 ∧ TE τ r.2) (x6_product_l10_j28 N W v0 v1 v2 Kh K s) := by
  unfold x6_product_l10_j28
  refine Fo.ite (fun c1500 => ?_) (fun _ => Fo.none)
  refine FC.lIo hs c1500 (hq.1 (by decide)) (fun s10 q1501 e1502 => ?_)
  refine Fo.ite (fun _ => ?_) (fun _ => ?_)
  · refine Fo.ite (fun _ => ?_) (fun _ => ?_)
    · exact (fc_x6_product_l10_j66 (τ := τ) hq D  hW hKh hK q1501 (TE.tr ts e1502))
    · exact (fc_x6_product_l10_j66 (τ := τ) hq D  hW hKh hK q1501 (TE.tr ts e1502))
  · exact (fc_x6_product_l10_j66 (τ := τ) hq D  hW hKh hK q1501 (TE.tr ts e1502))
theorem fc_x6_product_l10 {q : FQ} {σ0 τ : gMem} {N : Nat} {W : Nat → gMem → Option gR} {v0 : Nat} {K : Nat → gMem → Option gR} (hq : FL ([6], [], [], [20]) q) (D : FD q) (hW : ∀ (a0 : Nat) (a1 : gMem), FC q σ0 a1 → Fo (fun r => FC q σ0 r.2 ∧ TE a1 r.2) (W a0 a1)) (hK : ∀ (a0 : Nat) (a1 : gMem), FC q σ0 a1 → TE τ a1 → Fo (fun r => FC q σ0 r.2 ∧ TE τ r.2) (K a0 a1)) : ∀ (n : Nat) (z0 : Nat) (z1 : Int) (z2 : gMem), FC q σ0 z2 → TE τ z2 → Fo (fun r => FC q σ0 r.2 ∧ TE τ r.2) (x6_product_l10 N W v0 K n z0 z1 z2) := by
  intro n
  induction n with
  | zero => intros; exact Fo.none
  | succ n ih =>
    intro v1 v2 s hs ts
    unfold x6_product_l10
    refine Fo.ite (fun _ => ?_) (fun _ => ?_)
    · exact (fc_x6_product_l10_j28 (τ := τ) hq D  hW (fun a0 a1 a2 b t => ih a0 a1 a2 b t) hK hs ts)
    · refine Fo.ite (fun _ => ?_) (fun _ => ?_)
      · exact (fc_x6_product_l10_j28 (τ := τ) hq D  hW (fun a0 a1 a2 b t => ih a0 a1 a2 b t) hK hs ts)
      · refine Fo.ite (fun _ => ?_) (fun _ => ?_)
        · exact (hK _ _ hs ts)
        · exact (fc_x6_product_l10_j28 (τ := τ) hq D  hW (fun a0 a1 a2 b t => ih a0 a1 a2 b t) hK hs ts)
theorem fc_x6_product {q : FQ} {σ0 : gMem} {N : Nat} {W : Nat → gMem → Option gR} {v0 : Nat} {σ : gMem} (hq : FL ([6], [], [], [20]) q) (D : FD q) (hW : ∀ (a0 : Nat) (a1 : gMem), FC q σ0 a1 → Fo (fun r => FC q σ0 r.2 ∧ TE a1 r.2) (W a0 a1)) (hσ : FC q σ0 σ) : Fo (fun r => FC q σ0 r.2 ∧ TE σ r.2) (x6_product N W v0 σ) := by
  unfold x6_product
  refine Fo.ite (fun c1508 => ?_) (fun _ => Fo.none)
  refine Fo.bind (hW _ _ hσ) (fun p q1509 => ?_)
  refine Fo.gThrR ⟨q1509.1, (TE.tr TE.rf q1509.2)⟩ (fun x2 s4 ys4 => ?_)
  subst ys4
  refine Fo.bind (fc_x6_peek (FL.tr (by decide) hq) D   q1509.1) (fun x5 q1510 => ?_)
  exact (fc_x6_product_l10 (τ := σ) hq D  hW (fun y22 s23 q1511 e1512 => by
      exact Fo.some ⟨q1511, e1512⟩) _ _ _ _  q1510.1 (TE.tr (TE.tr TE.rf q1509.2) q1510.2))
theorem fc_x6_opens {q : FQ} {σ0 : gMem} {v0 : Nat} {σ : gMem} (hq : FL ([6], [], [], [25]) q) (D : FD q) (hσ : FC q σ0 σ) : Fo (fun r => FC q σ0 r.2 ∧ TE σ r.2) (x6_opens v0 σ) := by
  unfold x6_opens
  refine Fo.ite (fun c1513 => ?_) (fun _ => Fo.none)
  refine Fo.ite (fun _ => ?_) (fun _ => ?_)
  · refine FC.lIo hσ c1513 (hq.1 (by decide)) (fun s4 q1515 e1516 => ?_)
    refine FC.lIo q1515 (e1516 _ _ (by decide) c1513) (hq.1 (by decide)) (fun s7 q1517 e1518 => ?_)
    exact Fo.some ⟨q1517, (TE.tr (TE.tr TE.rf e1516) e1518)⟩
  · refine Fo.bind (fc_x6_wrong hq D   hσ) (fun x10 q1519 => ?_)
    refine Fo.ite (fun c1520 => ?_) (fun _ => Fo.none)
    exact Fo.some ⟨q1519.1, (TE.tr TE.rf q1519.2)⟩
theorem fc_x6_spot {q : FQ} {σ0 : gMem} {N : Nat} {v0 : Nat} {σ : gMem} (hq : FL ([6], [], [], [14, 15, 25]) q) (D : FD q) (hσ : FC q σ0 σ) : Fo (fun r => FC q σ0 r.2 ∧ TE σ r.2) (x6_spot N v0 σ) := by
  unfold x6_spot
  refine Fo.ite (fun c1521 => ?_) (fun _ => Fo.none)
  refine Fo.pure (fun x5 => ?_)
  refine FC.lIo hσ c1521 (hq.1 (by decide)) (fun s7 q1522 e1523 => ?_)
  refine Fo.bind (fc_x6_version (FL.tr (by decide) hq) D   q1522) (fun p q1524 => ?_)
  refine Fo.gThrI ⟨q1524.1, (TE.tr (TE.tr TE.rf e1523) q1524.2)⟩ (fun x9 s12 ys12 => ?_)
  subst ys12
  refine Fo.pure (fun x13 => ?_)
  refine Fo.bind (fc_x6_cornerOf (FL.tr (by decide) hq) D   q1524.1) (fun x14 q1525 => ?_)
  refine FC.lIo q1525.1 (q1525.2 _ _ (by decide) (q1524.2 _ _ (by decide) (e1523 _ _ (by decide) c1521))) (hq.1 (by decide)) (fun s17 q1526 e1527 => ?_)
  refine Fo.ite (fun _ => ?_) (fun _ => ?_)
  · refine FC.lN q1526 (hq.2.2.2 (by decide)) (fun s20 q1529 e1530 => ?_)
    refine Fo.bind (fc_x17_init (FL.tr (by decide) hq) D (FC.le q1526)  q1529) (fun x22 q1531 => ?_)
    exact Fo.some ⟨q1531.1, (TE.tr (TE.tr (TE.tr (TE.tr (TE.tr (TE.tr TE.rf e1523) q1524.2) q1525.2) e1527) e1530) q1531.2)⟩
  · refine Fo.bind (fc_x6_late (FL.tr (by decide) hq) D   q1526) (fun x24 q1532 => ?_)
    refine FC.lN q1532.1 (hq.2.2.2 (by decide)) (fun s27 q1533 e1534 => ?_)
    refine Fo.bind (fc_x17_init (FL.tr (by decide) hq) D (FC.le q1532.1)  q1533) (fun x29 q1535 => ?_)
    exact Fo.some ⟨q1535.1, (TE.tr (TE.tr (TE.tr (TE.tr (TE.tr (TE.tr (TE.tr TE.rf e1523) q1524.2) q1525.2) e1527) q1532.2) e1534) q1535.2)⟩
theorem fc_x9_lay_2_l22 {q : FQ} {σ0 τ : gMem} {N : Nat} {v0 : Nat} {v1 : Nat} {v2 : Nat} {v3 : Nat} {v4 : Int} {K : gMem → Option gMem} (hq : FL ([110], [], [], []) q) (D : FD q) (hK : ∀ (a0 : gMem), FC q σ0 a0 → TE τ a0 → Fo (fun r => FC q σ0 r ∧ TE τ r) (K a0)) : ∀ (n : Nat) (z0 : Int) (z1 : gMem), FC q σ0 z1 → TE τ z1 → Fo (fun r => FC q σ0 r ∧ TE τ r) (x9_lay_2_l22 N v0 v1 v2 v3 v4 K n z0 z1) := by
  intro n
  induction n with
  | zero => intros; exact Fo.none
  | succ n ih =>
    intro v5 s hs ts
    unfold x9_lay_2_l22
    refine Fo.ite (fun c1536 => ?_) (fun _ => Fo.none)
    refine Fo.ite (fun _ => ?_) (fun _ => ?_)
    · exact (hK _ hs ts)
    · refine Fo.ite (fun c1538 => ?_) (fun _ => Fo.none)
      refine Fo.ite (fun _ => ?_) (fun _ => Fo.none)
      refine Fo.ite (fun c1540 => ?_) (fun _ => Fo.none)
      refine Fo.ite (fun _ => ?_) (fun _ => Fo.none)
      refine Fo.ite (fun _ => ?_) (fun _ => Fo.none)
      refine Fo.ite (fun c1543 => ?_) (fun _ => Fo.none)
      refine Fo.pure (fun x14 => ?_)
      refine Fo.ite (fun c1544 => ?_) (fun _ => Fo.none)
      refine Fo.ite (fun _ => ?_) (fun _ => Fo.none)
      refine Fo.ite (fun _ => ?_) (fun _ => Fo.none)
      refine FC.lRo D hs c1544 (by decide) (hq.1 (by decide)) (fun s17 q1547 e1548 => ?_)
      exact (ih _ _  q1547 (TE.tr ts e1548))
theorem fc_x9_lay_2_l12 {q : FQ} {σ0 τ : gMem} {N : Nat} {v0 : Nat} {v1 : Nat} {v2 : Nat} {v3 : Nat} {K : gMem → Option gMem} (hq : FL ([110], [], [], []) q) (D : FD q) (hK : ∀ (a0 : gMem), FC q σ0 a0 → TE τ a0 → Fo (fun r => FC q σ0 r ∧ TE τ r) (K a0)) : ∀ (n : Nat) (z0 : Int) (z1 : gMem), FC q σ0 z1 → TE τ z1 → Fo (fun r => FC q σ0 r ∧ TE τ r) (x9_lay_2_l12 N v0 v1 v2 v3 K n z0 z1) := by
  intro n
  induction n with
  | zero => intros; exact Fo.none
  | succ n ih =>
    intro v4 s hs ts
    unfold x9_lay_2_l12
    refine Fo.ite (fun c1549 => ?_) (fun _ => Fo.none)
    refine Fo.ite (fun _ => ?_) (fun _ => ?_)
    · exact (hK _ hs ts)
    · exact (fc_x9_lay_2_l22 (τ := τ) hq D  (fun s19 q1551 e1552 => by
      exact (ih _ _  q1551 e1552)) _ _ _  hs ts)
theorem fc_x9_lay_2 {q : FQ} {σ0 : gMem} {N : Nat} {v0 : Nat} {v1 : Nat} {v2 : Nat} {σ : gMem} (hq : FL ([110], [], [(8, 0), (8, 1), (8, 2)], [110, 111]) q) (D : FD q) (hσ : FC q σ0 σ) : Fo (fun r => FC q σ0 r ∧ TE σ r) (x9_lay_2 N v0 v1 v2 σ) := by
  unfold x9_lay_2
  refine Fo.ite (fun c1553 => ?_) (fun _ => Fo.none)
  refine Fo.ite (fun c1554 => ?_) (fun _ => Fo.none)
  refine Fo.ite (fun _ => ?_) (fun _ => Fo.none)
  refine FC.lM hσ (hq.2.2.2 (by decide)) (hq.2.2.2 (by decide)) (fun s5 q1556 e1557 => ?_)
  exact (fc_x9_lay_2_l12 (τ := σ) (FL.tr (by decide) hq) D  (fun s20 q1558 e1559 => by
      refine Fo.ite (fun c1560 => ?_) (fun _ => Fo.none)
      refine FC.lRr D q1558 c1560 (by decide) (hq.2.2.1 (by decide)) (fun s22 q1561 e1562 => ?_)
      refine FC.lRr D q1561 (e1562 _ _ (by decide) c1560) (by decide) (hq.2.2.1 (by decide)) (fun s24 q1563 e1564 => ?_)
      refine FC.lRr D q1563 (e1564 _ _ (by decide) (e1562 _ _ (by decide) c1560)) (by decide) (hq.2.2.1 (by decide)) (fun s26 q1565 e1566 => ?_)
      exact Fo.some ⟨q1565, (TE.tr (TE.tr (TE.tr e1559 e1562) e1564) e1566)⟩) _ _ _  q1556 (TE.tr TE.rf e1557))
theorem fc_dp_Part_leads {q : FQ} {σ0 : gMem} {N : Nat} (hq : FL ([], [(4, 0)], [], []) q) (D : FD q)  : ∀ (n : Nat) (z0 : Nat) (z1 : Nat) (z2 : Nat) (z3 : gMem), FC q σ0 z3 → Fo (fun r => FC q σ0 r ∧ TE z3 r) (dp_Part_leads N n z0 z1 z2 z3) := by
  intro n
  induction n with
  | zero => intros; exact Fo.none
  | succ n ih =>
    intro a0 a1 a2 s hs
    unfold dp_Part_leads
    refine Fo.ite (fun c1567 => ?_) (fun _ => ?_)
    · exact Fo.te TE.rf (fc_x13_leads (FL.tr (by decide) hq) D   hs)
    · refine Fo.ite (fun c1568 => ?_) (fun _ => ?_)
      · exact Fo.te TE.rf (fc_x14_leads (FL.tr (by decide) hq) D   hs)
      · refine Fo.ite (fun c1569 => ?_) (fun _ => ?_)
        · exact Fo.te TE.rf (fc_x18_leads (FL.tr (by decide) hq) D   hs)
        · refine Fo.ite (fun c1570 => ?_) (fun _ => ?_)
          · exact Fo.te TE.rf (fc_x15_leads (FL.tr (by decide) hq) D   hs)
          · refine Fo.ite (fun c1571 => ?_) (fun _ => ?_)
            · exact Fo.te TE.rf (fc_x17_leads hq D   hs)
            · refine Fo.ite (fun c1572 => ?_) (fun _ => ?_)
              · exact Fo.te TE.rf (fc_x19_leads hq D   hs)
              · refine Fo.ite (fun c1573 => ?_) (fun _ => ?_)
                · exact Fo.te TE.rf (fc_x21_leads (FL.tr (by decide) hq) D  (fun a0 a1 a2 a3 b t => ih a0 a1 a2 a3 b t) hs)
                · refine Fo.ite (fun c1574 => ?_) (fun _ => ?_)
                  · exact Fo.te TE.rf (fc_x22_leads (FL.tr (by decide) hq) D  (fun a0 a1 a2 a3 b t => ih a0 a1 a2 a3 b t) hs)
                  · refine Fo.ite (fun c1575 => ?_) (fun _ => Fo.none)
                    exact Fo.te TE.rf (fc_x20_leads (FL.tr (by decide) hq) D  (fun a0 a1 a2 a3 b t => ih a0 a1 a2 a3 b t) hs)
theorem fc_dp_Part_shifted {q : FQ} {σ0 : gMem} {N : Nat} (hq : FL ([], [], [], [13, 14, 15, 17, 18, 19, 20, 108]) q) (D : FD q)  : ∀ (n : Nat) (z0 : Nat) (z1 : Nat) (z2 : gMem), FC q σ0 z2 → Fo (fun r => FC q σ0 r.2 ∧ TE z2 r.2) (dp_Part_shifted N n z0 z1 z2) := by
  intro n
  induction n with
  | zero => intros; exact Fo.none
  | succ n ih =>
    intro a0 a1 s hs
    unfold dp_Part_shifted
    refine Fo.ite (fun c1576 => ?_) (fun _ => ?_)
    · exact Fo.te TE.rf (fc_x13_shifted (FL.tr (by decide) hq) D   hs)
    · refine Fo.ite (fun c1577 => ?_) (fun _ => ?_)
      · exact Fo.te TE.rf (fc_x14_shifted (FL.tr (by decide) hq) D   hs)
      · refine Fo.ite (fun c1578 => ?_) (fun _ => ?_)
        · exact Fo.te TE.rf (fc_x18_shifted (FL.tr (by decide) hq) D   hs)
        · refine Fo.ite (fun c1579 => ?_) (fun _ => ?_)
          · exact Fo.te TE.rf (fc_x15_shifted (FL.tr (by decide) hq) D   hs)
          · refine Fo.ite (fun c1580 => ?_) (fun _ => ?_)
            · exact Fo.te TE.rf (fc_x17_shifted (FL.tr (by decide) hq) D   hs)
            · refine Fo.ite (fun c1581 => ?_) (fun _ => ?_)
              · exact Fo.te TE.rf (fc_x19_shifted (FL.tr (by decide) hq) D   hs)
              · refine Fo.ite (fun c1582 => ?_) (fun _ => ?_)
                · exact Fo.te TE.rf (fc_x21_shifted (FL.tr (by decide) hq) D  (fun a0 a1 a2 b t => ih a0 a1 a2 b t) hs)
                · refine Fo.ite (fun c1583 => ?_) (fun _ => ?_)
                  · exact Fo.te TE.rf (fc_x22_shifted (FL.tr (by decide) hq) D  (fun a0 a1 a2 b t => ih a0 a1 a2 b t) hs)
                  · refine Fo.ite (fun c1584 => ?_) (fun _ => Fo.none)
                    exact Fo.te TE.rf (fc_x20_shifted (FL.tr (by decide) hq) D  (fun a0 a1 a2 b t => ih a0 a1 a2 b t) hs)
theorem fc_x1_drop {q : FQ} {σ0 : gMem} {N : Nat} {v0 : Nat} {σ : gMem} (hq : FL ([1, 111], [], [(1, 8)], [8, 100, 110, 111]) q) (D : FD q) (hσ : FC q σ0 σ) : Fo (fun r => FC q σ0 r.2 ∧ TE σ r.2) (x1_drop N v0 σ) := by
  unfold x1_drop
  refine Fo.ite (fun c1585 => ?_) (fun _ => Fo.none)
  refine Fo.bind (fc_x1_take hq D   hσ) (fun x2 q1586 => ?_)
  refine Fo.pure (fun x4 => ?_)
  exact Fo.some ⟨q1586.1, (TE.tr TE.rf q1586.2)⟩
theorem fc_x1_two {q : FQ} {σ0 : gMem} {N : Nat} {v0 : Nat} {v1 : Nat} {v2 : Nat} {σ : gMem} (hq : FL ([5], [(5, 3)], [], []) q) (D : FD q) (hσ : FC q σ0 σ) : Fo (fun r => FC q σ0 r ∧ TE σ r) (x1_two N v0 v1 v2 σ) := by
  unfold x1_two
  refine Fo.ite (fun c1587 => ?_) (fun _ => Fo.none)
  refine Fo.ite (fun _ => ?_) (fun _ => ?_)
  · refine Fo.ite (fun _ => ?_) (fun _ => ?_)
    · refine Fo.ite (fun c1590 => ?_) (fun _ => Fo.none)
      refine Fo.bind (fc_x5_wantNumber (FL.tr (by decide) hq) D   hσ) (fun x4 q1591 => ?_)
      refine Fo.ite (fun _ => ?_) (fun _ => ?_)
      · exact Fo.some ⟨q1591.1, (TE.tr TE.rf q1591.2)⟩
      · refine Fo.ite (fun c1593 => ?_) (fun _ => Fo.none)
        refine Fo.bind (fc_x5_wantNumber (FL.tr (by decide) hq) D   q1591.1) (fun x8 q1594 => ?_)
        refine Fo.ite (fun _ => ?_) (fun _ => ?_)
        · refine Fo.bind (fc_x5_copy hq D   q1594.1) (fun x11 q1596 => ?_)
          exact Fo.some ⟨q1596.1, (TE.tr (TE.tr (TE.tr TE.rf q1591.2) q1594.2) q1596.2)⟩
        · refine Fo.bind (fc_x1_reckon (FL.tr (by decide) hq) D   q1594.1) (fun x14 q1597 => ?_)
          exact Fo.some ⟨q1597.1, (TE.tr (TE.tr (TE.tr TE.rf q1591.2) q1594.2) q1597.2)⟩
    · refine Fo.ite (fun c1598 => ?_) (fun _ => Fo.none)
      refine Fo.bind (fc_x5_wantText hq D   hσ) (fun x17 q1599 => ?_)
      refine Fo.ite (fun c1600 => ?_) (fun _ => Fo.none)
      refine Fo.bind (fc_x5_wantText hq D   q1599.1) (fun x20 q1601 => ?_)
      refine Fo.bind (fc_x5_join hq D   q1601.1) (fun x22 q1602 => ?_)
      exact Fo.some ⟨q1602.1, (TE.tr (TE.tr (TE.tr TE.rf q1599.2) q1601.2) q1602.2)⟩
  · refine Fo.bind (fc_x1_compare (FL.tr (by decide) hq) D   hσ) (fun x24 q1603 => ?_)
    exact Fo.some ⟨q1603.1, (TE.tr TE.rf q1603.2)⟩
theorem fc_x1_copy_l98_j146 {q : FQ} {σ0 τ : gMem} {N : Nat} {v0 : Nat} {v1 : Int} {v2 : Int} {v5 : Int} {v6 : Int} {v7 : Int} {v8 : Int} {v10 : Int} {v11 : Int} {t0 : Int} {t1 : Int} {Kh : Int → Int → gMem → Option gR} {K : Int → gMem → Option gR} {s : gMem} (hq : FL ([], [], [], []) q) (D : FD q) (hKh : ∀ (a0 : Int) (a1 : Int) (a2 : gMem), FC q σ0 a2 → TE τ a2 → Fo (fun r => FC q σ0 r.2 ∧ TE τ r.2) (Kh a0 a1 a2)) (hK : ∀ (a0 : Int) (a1 : gMem), FC q σ0 a1 → TE τ a1 → Fo (fun r => FC q σ0 r.2 ∧ TE τ r.2) (K a0 a1)) (hs : FC q σ0 s) (ts : TE τ s) : Fo (fun r => FC q σ0 r.2 ∧ TE τ r.2) (x1_copy_l98_j146 N v0 v1 v2 v5 v6 v7 v8 v10 v11 t0 t1 Kh K s) := by
  unfold x1_copy_l98_j146
  exact (hKh _ _ _ hs ts)
theorem fc_x1_copy_l98 {q : FQ} {σ0 τ : gMem} {N : Nat} {v0 : Nat} {v1 : Int} {v2 : Int} {v5 : Int} {v6 : Int} {v7 : Int} {v8 : Int} {v10 : Int} {K : Int → gMem → Option gR} (hq : FL ([], [], [], []) q) (D : FD q) (hK : ∀ (a0 : Int) (a1 : gMem), FC q σ0 a1 → TE τ a1 → Fo (fun r => FC q σ0 r.2 ∧ TE τ r.2) (K a0 a1)) : ∀ (n : Nat) (z0 : Int) (z1 : Int) (z2 : gMem), FC q σ0 z2 → TE τ z2 → Fo (fun r => FC q σ0 r.2 ∧ TE τ r.2) (x1_copy_l98 N v0 v1 v2 v5 v6 v7 v8 v10 K n z0 z1 z2) := by
  intro n
  induction n with
  | zero => intros; exact Fo.none
  | succ n ih =>
    intro v9 v11 s hs ts
    unfold x1_copy_l98
    refine Fo.ite (fun _ => ?_) (fun _ => ?_)
    · exact (hK _ _ hs ts)
    · refine Fo.ite (fun c1605 => ?_) (fun _ => Fo.none)
      refine Fo.ite (fun c1606 => ?_) (fun _ => Fo.none)
      refine Fo.ite (fun c1607 => ?_) (fun _ => Fo.none)
      refine Fo.ite (fun _ => ?_) (fun _ => Fo.none)
      refine Fo.ite (fun c1609 => ?_) (fun _ => Fo.none)
      refine Fo.ite (fun _ => ?_) (fun _ => Fo.none)
      refine Fo.ite (fun _ => ?_) (fun _ => ?_)
      · refine Fo.pure (fun x15 => ?_)
        exact (fc_x1_copy_l98_j146 (τ := τ) hq D  (fun a0 a1 a2 b t => ih a0 a1 a2 b t) hK hs ts)
      · exact (fc_x1_copy_l98_j146 (τ := τ) hq D  (fun a0 a1 a2 b t => ih a0 a1 a2 b t) hK hs ts)
theorem fc_x1_copy_l88 {q : FQ} {σ0 τ : gMem} {N : Nat} {v0 : Nat} {v1 : Int} {v2 : Int} {v5 : Int} {v6 : Int} {v7 : Int} {v8 : Int} {K : Int → gMem → Option gR} (hq : FL ([], [], [], []) q) (D : FD q) (hK : ∀ (a0 : Int) (a1 : gMem), FC q σ0 a1 → TE τ a1 → Fo (fun r => FC q σ0 r.2 ∧ TE τ r.2) (K a0 a1)) : ∀ (n : Nat) (z0 : Int) (z1 : Int) (z2 : gMem), FC q σ0 z2 → TE τ z2 → Fo (fun r => FC q σ0 r.2 ∧ TE τ r.2) (x1_copy_l88 N v0 v1 v2 v5 v6 v7 v8 K n z0 z1 z2) := by
  intro n
  induction n with
  | zero => intros; exact Fo.none
  | succ n ih =>
    intro v9 v10 s hs ts
    unfold x1_copy_l88
    refine Fo.ite (fun _ => ?_) (fun _ => ?_)
    · exact (hK _ _ hs ts)
    · exact (fc_x1_copy_l98 (τ := τ) hq D  (fun y17 s18 q1613 e1614 => by
      exact (ih _ _ _  q1613 e1614)) _ _ _ _  hs ts)
theorem fc_x1_copy_l246_j313 {q : FQ} {σ0 τ : gMem} {N : Nat} {v0 : Nat} {v1 : Int} {v2 : Int} {v5 : Int} {v6 : Int} {v7 : Int} {v8 : Int} {v10 : Nat} {v11 : Nat} {v12 : Int} {v13 : Int} {v14 : Nat} {Kh : Int → gMem → Option gR} {K : gMem → Option gR} {s : gMem} (hq : FL ([110], [], [], []) q) (D : FD q) (hKh : ∀ (a0 : Int) (a1 : gMem), FC q σ0 a1 → TE τ a1 → Fo (fun r => FC q σ0 r.2 ∧ TE τ r.2) (Kh a0 a1)) (hK : ∀ (a0 : gMem), FC q σ0 a0 → TE τ a0 → Fo (fun r => FC q σ0 r.2 ∧ TE τ r.2) (K a0)) (hs : FC q σ0 s) (ts : TE τ s) : Fo (fun r => FC q σ0 r.2 ∧ TE τ r.2) (x1_copy_l246_j313 N v0 v1 v2 v5 v6 v7 v8 v10 v11 v12 v13 v14 Kh K s) := by
  unfold x1_copy_l246_j313
  refine Fo.ite (fun c1615 => ?_) (fun _ => Fo.none)
  refine Fo.ite (fun c1616 => ?_) (fun _ => Fo.none)
  refine Fo.ite (fun c1617 => ?_) (fun _ => Fo.none)
  refine Fo.ite (fun _ => ?_) (fun _ => Fo.none)
  refine Fo.ite (fun c1619 => ?_) (fun _ => Fo.none)
  refine Fo.ite (fun _ => ?_) (fun _ => Fo.none)
  refine Fo.ite (fun _ => ?_) (fun _ => Fo.none)
  refine FC.lRo D hs c1619 (by decide) (hq.1 (by decide)) (fun s55 q1622 e1623 => ?_)
  exact (hKh _ _ q1622 (TE.tr ts e1623))
theorem fc_x1_copy_l246 {q : FQ} {σ0 τ : gMem} {N : Nat} {v0 : Nat} {v1 : Int} {v2 : Int} {v5 : Int} {v6 : Int} {v7 : Int} {v8 : Int} {v10 : Nat} {v11 : Nat} {v12 : Int} {K : gMem → Option gR} (hq : FL ([110], [], [], [13, 14, 15, 17, 18, 19, 20, 21, 108]) q) (D : FD q) (hK : ∀ (a0 : gMem), FC q σ0 a0 → TE τ a0 → Fo (fun r => FC q σ0 r.2 ∧ TE τ r.2) (K a0)) : ∀ (n : Nat) (z0 : Int) (z1 : gMem), FC q σ0 z1 → TE τ z1 → Fo (fun r => FC q σ0 r.2 ∧ TE τ r.2) (x1_copy_l246 N v0 v1 v2 v5 v6 v7 v8 v10 v11 v12 K n z0 z1) := by
  intro n
  induction n with
  | zero => intros; exact Fo.none
  | succ n ih =>
    intro v13 s hs ts
    unfold x1_copy_l246
    refine Fo.ite (fun _ => ?_) (fun _ => ?_)
    · exact (hK _ hs ts)
    · refine Fo.ite (fun c1625 => ?_) (fun _ => Fo.none)
      refine Fo.ite (fun c1626 => ?_) (fun _ => Fo.none)
      refine Fo.ite (fun _ => ?_) (fun _ => Fo.none)
      refine Fo.ite (fun c1628 => ?_) (fun _ => Fo.none)
      refine Fo.ite (fun _ => ?_) (fun _ => Fo.none)
      refine Fo.ite (fun _ => ?_) (fun _ => Fo.none)
      refine Fo.ite (fun c1631 => ?_) (fun _ => ?_)
      · refine FC.lN hs (hq.2.2.2 (by decide)) (fun s40 q1632 e1633 => ?_)
        refine Fo.ite (fun _ => ?_) (fun _ => Fo.none)
        refine Fo.ite (fun c1635 => ?_) (fun _ => Fo.none)
        refine Fo.bind (fc_dp_Part_shifted (FL.tr (by decide) hq) D   _ _ _ _  q1632) (fun x44 q1636 => ?_)
        refine Fo.pure (fun x46 => ?_)
        refine Fo.bind (fc_x23_init (FL.tr (by decide) hq) D (FC.le hs)  q1636.1) (fun x48 q1637 => ?_)
        exact (fc_x1_copy_l246_j313 (τ := τ) (FL.tr (by decide) hq) D  (fun a0 a1 b t => ih a0 a1 b t) hK q1637.1 (TE.tr (TE.tr (TE.tr ts e1633) q1636.2) q1637.2))
      · exact (fc_x1_copy_l246_j313 (τ := τ) (FL.tr (by decide) hq) D  (fun a0 a1 b t => ih a0 a1 b t) hK hs ts)
theorem fc_x1_copy_l236 {q : FQ} {σ0 τ : gMem} {N : Nat} {v0 : Nat} {v1 : Int} {v2 : Int} {v5 : Int} {v6 : Int} {v7 : Int} {v8 : Int} {v10 : Nat} {v11 : Nat} {K : gMem → Option gR} (hq : FL ([110], [], [], [13, 14, 15, 17, 18, 19, 20, 21, 108]) q) (D : FD q) (hK : ∀ (a0 : gMem), FC q σ0 a0 → TE τ a0 → Fo (fun r => FC q σ0 r.2 ∧ TE τ r.2) (K a0)) : ∀ (n : Nat) (z0 : Int) (z1 : gMem), FC q σ0 z1 → TE τ z1 → Fo (fun r => FC q σ0 r.2 ∧ TE τ r.2) (x1_copy_l236 N v0 v1 v2 v5 v6 v7 v8 v10 v11 K n z0 z1) := by
  intro n
  induction n with
  | zero => intros; exact Fo.none
  | succ n ih =>
    intro v12 s hs ts
    unfold x1_copy_l236
    refine Fo.ite (fun _ => ?_) (fun _ => ?_)
    · exact (hK _ hs ts)
    · exact (fc_x1_copy_l246 (τ := τ) hq D  (fun s57 q1639 e1640 => by
      exact (ih _ _  q1639 e1640)) _ _ _  hs ts)
theorem fc_x1_diff_l118_j196 {q : FQ} {σ0 τ : gMem} {N : Nat} {v0 : Nat} {v3 : Nat} {v4 : Nat} {v5 : Int} {v6 : Int} {v7 : Int} {Kh : Int → gMem → Option gR} {K : gMem → Option gR} {s : gMem} (hq : FL ([], [], [], []) q) (D : FD q) (hKh : ∀ (a0 : Int) (a1 : gMem), FC q σ0 a1 → TE τ a1 → Fo (fun r => FC q σ0 r.2 ∧ TE τ r.2) (Kh a0 a1)) (hK : ∀ (a0 : gMem), FC q σ0 a0 → TE τ a0 → Fo (fun r => FC q σ0 r.2 ∧ TE τ r.2) (K a0)) (hs : FC q σ0 s) (ts : TE τ s) : Fo (fun r => FC q σ0 r.2 ∧ TE τ r.2) (x1_diff_l118_j196 N v0 v3 v4 v5 v6 v7 Kh K s) := by
  unfold x1_diff_l118_j196
  exact (hKh _ _ hs ts)
theorem fc_x1_diff_l118 {q : FQ} {σ0 τ : gMem} {N : Nat} {v0 : Nat} {v3 : Nat} {v4 : Nat} {v5 : Int} {v6 : Int} {K : gMem → Option gR} (hq : FL ([1], [(1, 26), (1, 27), (1, 28)], [], []) q) (D : FD q) (hK : ∀ (a0 : gMem), FC q σ0 a0 → TE τ a0 → Fo (fun r => FC q σ0 r.2 ∧ TE τ r.2) (K a0)) : ∀ (n : Nat) (z0 : Int) (z1 : gMem), FC q σ0 z1 → TE τ z1 → Fo (fun r => FC q σ0 r.2 ∧ TE τ r.2) (x1_diff_l118 N v0 v3 v4 v5 v6 K n z0 z1) := by
  intro n
  induction n with
  | zero => intros; exact Fo.none
  | succ n ih =>
    intro v7 s hs ts
    unfold x1_diff_l118
    refine Fo.ite (fun _ => ?_) (fun _ => ?_)
    · exact (hK _ hs ts)
    · refine Fo.ite (fun c1642 => ?_) (fun _ => Fo.none)
      refine Fo.ite (fun c1643 => ?_) (fun _ => Fo.none)
      refine Fo.ite (fun _ => ?_) (fun _ => ?_)
      · exact (hK _ hs ts)
      · refine Fo.ite (fun _ => ?_) (fun _ => Fo.none)
        refine Fo.ite (fun c1646 => ?_) (fun _ => Fo.none)
        refine Fo.pure (fun x28 => ?_)
        refine Fo.ite (fun _ => ?_) (fun _ => ?_)
        · exact (fc_x1_diff_l118_j196 (τ := τ) (FL.tr (by decide) hq) D  (fun a0 a1 b t => ih a0 a1 b t) hK hs ts)
        · refine Fo.ite (fun c1648 => ?_) (fun _ => Fo.none)
          refine Fo.ite (fun _ => ?_) (fun _ => Fo.none)
          refine Fo.ite (fun c1650 => ?_) (fun _ => Fo.none)
          refine Fo.ite (fun _ => ?_) (fun _ => Fo.none)
          refine Fo.ite (fun c1652 => ?_) (fun _ => Fo.none)
          refine Fo.ite (fun _ => ?_) (fun _ => Fo.none)
          refine Fo.ite (fun c1654 => ?_) (fun _ => Fo.none)
          refine Fo.ite (fun _ => ?_) (fun _ => Fo.none)
          refine Fo.pure (fun x34 => ?_)
          refine Fo.ite (fun _ => ?_) (fun _ => ?_)
          · exact (fc_x1_diff_l118_j196 (τ := τ) (FL.tr (by decide) hq) D  (fun a0 a1 b t => ih a0 a1 b t) hK hs ts)
          · refine Fo.ite (fun c1657 => ?_) (fun _ => Fo.none)
            refine Fo.bind (fc_x1_differ hq D   hs) (fun x37 q1658 => ?_)
            exact (fc_x1_diff_l118_j196 (τ := τ) (FL.tr (by decide) hq) D  (fun a0 a1 b t => ih a0 a1 b t) hK q1658.1 (TE.tr ts q1658.2))
theorem fc_x1_diff_l90_j202 {q : FQ} {σ0 τ : gMem} {N : Nat} {v0 : Nat} {v3 : Nat} {v4 : Nat} {v5 : Int} {Kh : Int → gMem → Option gR} {K : gMem → Option gR} {s : gMem} (hq : FL ([], [], [], []) q) (D : FD q) (hKh : ∀ (a0 : Int) (a1 : gMem), FC q σ0 a1 → TE τ a1 → Fo (fun r => FC q σ0 r.2 ∧ TE τ r.2) (Kh a0 a1)) (hK : ∀ (a0 : gMem), FC q σ0 a0 → TE τ a0 → Fo (fun r => FC q σ0 r.2 ∧ TE τ r.2) (K a0)) (hs : FC q σ0 s) (ts : TE τ s) : Fo (fun r => FC q σ0 r.2 ∧ TE τ r.2) (x1_diff_l90_j202 N v0 v3 v4 v5 Kh K s) := by
  unfold x1_diff_l90_j202
  exact (hKh _ _ hs ts)
theorem fc_x1_diff_l90 {q : FQ} {σ0 τ : gMem} {N : Nat} {v0 : Nat} {v3 : Nat} {v4 : Nat} {K : gMem → Option gR} (hq : FL ([1], [(1, 26), (1, 27), (1, 28)], [], []) q) (D : FD q) (hK : ∀ (a0 : gMem), FC q σ0 a0 → TE τ a0 → Fo (fun r => FC q σ0 r.2 ∧ TE τ r.2) (K a0)) : ∀ (n : Nat) (z0 : Int) (z1 : gMem), FC q σ0 z1 → TE τ z1 → Fo (fun r => FC q σ0 r.2 ∧ TE τ r.2) (x1_diff_l90 N v0 v3 v4 K n z0 z1) := by
  intro n
  induction n with
  | zero => intros; exact Fo.none
  | succ n ih =>
    intro v5 s hs ts
    unfold x1_diff_l90
    refine Fo.ite (fun c1659 => ?_) (fun _ => Fo.none)
    refine Fo.ite (fun c1660 => ?_) (fun _ => Fo.none)
    refine Fo.ite (fun _ => ?_) (fun _ => ?_)
    · exact (hK _ hs ts)
    · refine Fo.ite (fun _ => ?_) (fun _ => Fo.none)
      refine Fo.ite (fun c1663 => ?_) (fun _ => Fo.none)
      refine Fo.pure (fun x22 => ?_)
      exact (fc_x1_diff_l118 (τ := τ) hq D  (fun s39 q1664 e1665 => by
      exact (fc_x1_diff_l90_j202 (τ := τ) (FL.tr (by decide) hq) D  (fun a0 a1 b t => ih a0 a1 b t) hK q1664 e1665)) _ _ _  hs ts)
theorem fc_x1_diff {q : FQ} {σ0 : gMem} {N : Nat} {v0 : Nat} {v1 : Int} {v2 : Int} {σ : gMem} (hq : FL ([1], [(1, 26), (1, 27), (1, 28)], [], []) q) (D : FD q) (hσ : FC q σ0 σ) : Fo (fun r => FC q σ0 r.2 ∧ TE σ r.2) (x1_diff N v0 v1 v2 σ) := by
  unfold x1_diff
  refine Fo.ite (fun c1666 => ?_) (fun _ => Fo.none)
  refine Fo.pure (fun x2 => ?_)
  refine Fo.pure (fun x3 => ?_)
  refine Fo.ite (fun _ => ?_) (fun _ => ?_)
  · exact Fo.some ⟨(FC.x hσ), (TE.tr TE.rf TE.x)⟩
  · refine Fo.ite (fun _ => ?_) (fun _ => ?_)
    · refine FC.lIo hσ c1666 (hq.1 (by decide)) (fun s4 q1669 e1670 => ?_)
      refine Fo.bind (fc_x1_differAlone hq D   q1669) (fun x6 q1671 => ?_)
      refine Fo.bind (fc_x1_differAlone hq D   q1671.1) (fun x8 q1672 => ?_)
      refine Fo.bind (fc_x1_differAlone hq D   q1672.1) (fun x10 q1673 => ?_)
      refine Fo.bind (fc_x1_differAlone hq D   q1673.1) (fun x12 q1674 => ?_)
      refine Fo.bind (fc_x1_differInOrder hq D   q1674.1) (fun x14 q1675 => ?_)
      refine Fo.bind (fc_x1_differInOrder hq D   q1675.1) (fun x16 q1676 => ?_)
      exact (fc_x1_diff_l90 (τ := σ) hq D  (fun s40 q1677 e1678 => by
      refine Fo.ite (fun c1679 => ?_) (fun _ => Fo.none)
      exact Fo.some ⟨q1677, e1678⟩) _ _ _  q1676.1 (TE.tr (TE.tr (TE.tr (TE.tr (TE.tr (TE.tr (TE.tr TE.rf e1670) q1671.2) q1672.2) q1673.2) q1674.2) q1675.2) q1676.2))
    · exact Fo.some ⟨(FC.x hσ), (TE.tr TE.rf TE.x)⟩
theorem fc_x14_write {q : FQ} {σ0 : gMem} {N : Nat} {v0 : Nat} {v1 : Nat} {v2 : Nat} {σ : gMem} (hq : FL ([7], [(7, 0)], [], []) q) (D : FD q) (hσ : FC q σ0 σ) : Fo (fun r => FC q σ0 r ∧ TE σ r) (x14_write N v0 v1 v2 σ) := by
  unfold x14_write
  refine Fo.ite (fun c1680 => ?_) (fun _ => Fo.none)
  refine Fo.pure (fun x2 => ?_)
  refine Fo.ite (fun _ => ?_) (fun _ => ?_)
  · refine Fo.ite (fun c1682 => ?_) (fun _ => Fo.none)
    refine Fo.pure (fun x5 => ?_)
    refine Fo.ite (fun _ => ?_) (fun _ => ?_)
    · refine Fo.bind (fc_x8_all hq D   hσ) (fun x7 q1684 => ?_)
      exact Fo.some ⟨q1684.1, (TE.tr TE.rf q1684.2)⟩
    · refine Fo.bind (fc_x8_put hq D   hσ) (fun x9 q1685 => ?_)
      refine Fo.bind (fc_x8_all hq D   q1685.1) (fun x11 q1686 => ?_)
      exact Fo.some ⟨q1686.1, (TE.tr (TE.tr TE.rf q1685.2) q1686.2)⟩
  · refine Fo.bind (fc_x8_put hq D   hσ) (fun x13 q1687 => ?_)
    refine Fo.ite (fun c1688 => ?_) (fun _ => Fo.none)
    refine Fo.bind (fc_x8_all hq D   q1687.1) (fun x16 q1689 => ?_)
    refine Fo.bind (fc_x8_put hq D   q1689.1) (fun x18 q1690 => ?_)
    exact Fo.some ⟨q1690.1, (TE.tr (TE.tr (TE.tr TE.rf q1687.2) q1689.2) q1690.2)⟩
theorem fc_x20_truths_l88_j176 {q : FQ} {σ0 τ : gMem} {N : Nat} {W : Nat → Nat → Nat → gMem → Option gMem} {v0 : Nat} {v1 : Nat} {v2 : Nat} {v3 : Int} {v4 : Int} {v6 : Int} {v7 : Int} {v8 : Nat} {t0 : Int} {Kh : Int → Int → gMem → Option gMem} {K : Int → Int → gMem → Option gMem} {s : gMem} (hq : FL ([], [], [], []) q) (D : FD q) (hW : ∀ (a0 : Nat) (a1 : Nat) (a2 : Nat) (a3 : gMem), FC q σ0 a3 → Fo (fun r => FC q σ0 r ∧ TE a3 r) (W a0 a1 a2 a3)) (hKh : ∀ (a0 : Int) (a1 : Int) (a2 : gMem), FC q σ0 a2 → TE τ a2 → Fo (fun r => FC q σ0 r ∧ TE τ r) (Kh a0 a1 a2)) (hK : ∀ (a0 : Int) (a1 : Int) (a2 : gMem), FC q σ0 a2 → TE τ a2 → Fo (fun r => FC q σ0 r ∧ TE τ r) (K a0 a1 a2)) (hs : FC q σ0 s) (ts : TE τ s) : Fo (fun r => FC q σ0 r ∧ TE τ r) (x20_truths_l88_j176 N W v0 v1 v2 v3 v4 v6 v7 v8 t0 Kh K s) := by
  unfold x20_truths_l88_j176
  exact (hKh _ _ _ hs ts)
theorem fc_x20_truths_l88_j171 {q : FQ} {σ0 τ : gMem} {N : Nat} {W : Nat → Nat → Nat → gMem → Option gMem} {v0 : Nat} {v1 : Nat} {v2 : Nat} {v3 : Int} {v4 : Int} {v6 : Int} {v7 : Int} {v8 : Nat} {Kh : Int → Int → gMem → Option gMem} {K : Int → Int → gMem → Option gMem} {s : gMem} (hq : FL ([], [], [], []) q) (D : FD q) (hW : ∀ (a0 : Nat) (a1 : Nat) (a2 : Nat) (a3 : gMem), FC q σ0 a3 → Fo (fun r => FC q σ0 r ∧ TE a3 r) (W a0 a1 a2 a3)) (hKh : ∀ (a0 : Int) (a1 : Int) (a2 : gMem), FC q σ0 a2 → TE τ a2 → Fo (fun r => FC q σ0 r ∧ TE τ r) (Kh a0 a1 a2)) (hK : ∀ (a0 : Int) (a1 : Int) (a2 : gMem), FC q σ0 a2 → TE τ a2 → Fo (fun r => FC q σ0 r ∧ TE τ r) (K a0 a1 a2)) (hs : FC q σ0 s) (ts : TE τ s) : Fo (fun r => FC q σ0 r ∧ TE τ r) (x20_truths_l88_j171 N W v0 v1 v2 v3 v4 v6 v7 v8 Kh K s) := by
  unfold x20_truths_l88_j171
  exact (fc_x20_truths_l88_j176 (τ := τ) hq D  hW hKh hK hs ts)
theorem fc_x20_truths_l88_j152 {q : FQ} {σ0 τ : gMem} {N : Nat} {W : Nat → Nat → Nat → gMem → Option gMem} {v0 : Nat} {v1 : Nat} {v2 : Nat} {v3 : Int} {v4 : Int} {v6 : Int} {v7 : Int} {v8 : Nat} {Kh : Int → Int → gMem → Option gMem} {K : Int → Int → gMem → Option gMem} {s : gMem} (hq : FL ([], [], [], []) q) (D : FD q) (hW : ∀ (a0 : Nat) (a1 : Nat) (a2 : Nat) (a3 : gMem), FC q σ0 a3 → Fo (fun r => FC q σ0 r ∧ TE a3 r) (W a0 a1 a2 a3)) (hKh : ∀ (a0 : Int) (a1 : Int) (a2 : gMem), FC q σ0 a2 → TE τ a2 → Fo (fun r => FC q σ0 r ∧ TE τ r) (Kh a0 a1 a2)) (hK : ∀ (a0 : Int) (a1 : Int) (a2 : gMem), FC q σ0 a2 → TE τ a2 → Fo (fun r => FC q σ0 r ∧ TE τ r) (K a0 a1 a2)) (hs : FC q σ0 s) (ts : TE τ s) : Fo (fun r => FC q σ0 r ∧ TE τ r) (x20_truths_l88_j152 N W v0 v1 v2 v3 v4 v6 v7 v8 Kh K s) := by
  unfold x20_truths_l88_j152
  exact (fc_x20_truths_l88_j176 (τ := τ) hq D  hW hKh hK hs ts)
theorem fc_x20_truths_l88 {q : FQ} {σ0 τ : gMem} {N : Nat} {W : Nat → Nat → Nat → gMem → Option gMem} {v0 : Nat} {v1 : Nat} {v2 : Nat} {v3 : Int} {v4 : Int} {v7 : Int} {v8 : Nat} {K : Int → Int → gMem → Option gMem} (hq : FL ([3, 5], [(5, 3)], [], []) q) (D : FD q) (hW : ∀ (a0 : Nat) (a1 : Nat) (a2 : Nat) (a3 : gMem), FC q σ0 a3 → Fo (fun r => FC q σ0 r ∧ TE a3 r) (W a0 a1 a2 a3)) (hK : ∀ (a0 : Int) (a1 : Int) (a2 : gMem), FC q σ0 a2 → TE τ a2 → Fo (fun r => FC q σ0 r ∧ TE τ r) (K a0 a1 a2)) : ∀ (n : Nat) (z0 : Int) (z1 : Int) (z2 : gMem), FC q σ0 z2 → TE τ z2 → Fo (fun r => FC q σ0 r ∧ TE τ r) (x20_truths_l88 N W v0 v1 v2 v3 v4 v7 v8 K n z0 z1 z2) := by
  intro n
  induction n with
  | zero => intros; exact Fo.none
  | succ n ih =>
    intro v5 v6 s hs ts
    unfold x20_truths_l88
    refine Fo.ite (fun _ => ?_) (fun _ => ?_)
    · exact (hK _ _ _ hs ts)
    · refine Fo.ite (fun c1692 => ?_) (fun _ => Fo.none)
      refine Fo.bind (fc_x3_next hq D   hs) (fun x17 q1693 => ?_)
      refine Fo.ite (fun _ => ?_) (fun _ => ?_)
      · exact (hK _ _ _ q1693.1 (TE.tr ts q1693.2))
      · refine Fo.ite (fun c1695 => ?_) (fun _ => Fo.none)
        refine Fo.pure (fun x21 => ?_)
        refine Fo.ite (fun _ => ?_) (fun _ => ?_)
        · refine Fo.ite (fun _ => ?_) (fun _ => ?_)
          · exact (ih _ _ _  q1693.1 (TE.tr ts q1693.2))
          · refine Fo.ite (fun _ => ?_) (fun _ => ?_)
            · refine Fo.ite (fun _ => ?_) (fun _ => ?_)
              · exact (fc_x20_truths_l88_j171 (τ := τ) (FL.tr (by decide) hq) D  hW (fun a0 a1 a2 b t => ih a0 a1 a2 b t) hK q1693.1 (TE.tr ts q1693.2))
              · refine Fo.ite (fun _ => ?_) (fun _ => ?_)
                · exact (fc_x20_truths_l88_j176 (τ := τ) (FL.tr (by decide) hq) D  hW (fun a0 a1 a2 b t => ih a0 a1 a2 b t) hK q1693.1 (TE.tr ts q1693.2))
                · exact (fc_x20_truths_l88_j171 (τ := τ) (FL.tr (by decide) hq) D  hW (fun a0 a1 a2 b t => ih a0 a1 a2 b t) hK q1693.1 (TE.tr ts q1693.2))
            · refine Fo.ite (fun _ => ?_) (fun _ => ?_)
              · exact (fc_x20_truths_l88_j152 (τ := τ) (FL.tr (by decide) hq) D  hW (fun a0 a1 a2 b t => ih a0 a1 a2 b t) hK q1693.1 (TE.tr ts q1693.2))
              · refine Fo.ite (fun _ => ?_) (fun _ => ?_)
                · exact (fc_x20_truths_l88_j152 (τ := τ) (FL.tr (by decide) hq) D  hW (fun a0 a1 a2 b t => ih a0 a1 a2 b t) hK q1693.1 (TE.tr ts q1693.2))
                · exact (fc_x20_truths_l88_j176 (τ := τ) (FL.tr (by decide) hq) D  hW (fun a0 a1 a2 b t => ih a0 a1 a2 b t) hK q1693.1 (TE.tr ts q1693.2))
        · refine Fo.ite (fun c1703 => ?_) (fun _ => Fo.none)
          refine Fo.bind (fc_x5_copy (FL.tr (by decide) hq) D   q1693.1) (fun x27 q1704 => ?_)
          exact (ih _ _ _  q1704.1 (TE.tr (TE.tr ts q1693.2) q1704.2))
theorem fc_x20_truths_l37_j266 {q : FQ} {σ0 τ : gMem} {N : Nat} {W : Nat → Nat → Nat → gMem → Option gMem} {v0 : Nat} {v1 : Nat} {v2 : Nat} {v3 : Int} {v4 : Int} {v5 : Int} {v6 : Int} {v7 : Int} {Kh : Int → Int → Int → gMem → Option gMem} {K : Int → Int → gMem → Option gMem} {s : gMem} (hq : FL ([], [], [], []) q) (D : FD q) (hW : ∀ (a0 : Nat) (a1 : Nat) (a2 : Nat) (a3 : gMem), FC q σ0 a3 → Fo (fun r => FC q σ0 r ∧ TE a3 r) (W a0 a1 a2 a3)) (hKh : ∀ (a0 : Int) (a1 : Int) (a2 : Int) (a3 : gMem), FC q σ0 a3 → TE τ a3 → Fo (fun r => FC q σ0 r ∧ TE τ r) (Kh a0 a1 a2 a3)) (hK : ∀ (a0 : Int) (a1 : Int) (a2 : gMem), FC q σ0 a2 → TE τ a2 → Fo (fun r => FC q σ0 r ∧ TE τ r) (K a0 a1 a2)) (hs : FC q σ0 s) (ts : TE τ s) : Fo (fun r => FC q σ0 r ∧ TE τ r) (x20_truths_l37_j266 N W v0 v1 v2 v3 v4 v5 v6 v7 Kh K s) := by
  unfold x20_truths_l37_j266
  exact (hKh _ _ _ _ hs ts)
theorem fc_x20_truths_l37_j264 {q : FQ} {σ0 τ : gMem} {N : Nat} {W : Nat → Nat → Nat → gMem → Option gMem} {v0 : Nat} {v1 : Nat} {v2 : Nat} {v3 : Int} {v4 : Int} {v6 : Int} {v7 : Int} {t0 : Int} {Kh : Int → Int → Int → gMem → Option gMem} {K : Int → Int → gMem → Option gMem} {s : gMem} (hq : FL ([], [], [], []) q) (D : FD q) (hW : ∀ (a0 : Nat) (a1 : Nat) (a2 : Nat) (a3 : gMem), FC q σ0 a3 → Fo (fun r => FC q σ0 r ∧ TE a3 r) (W a0 a1 a2 a3)) (hKh : ∀ (a0 : Int) (a1 : Int) (a2 : Int) (a3 : gMem), FC q σ0 a3 → TE τ a3 → Fo (fun r => FC q σ0 r ∧ TE τ r) (Kh a0 a1 a2 a3)) (hK : ∀ (a0 : Int) (a1 : Int) (a2 : gMem), FC q σ0 a2 → TE τ a2 → Fo (fun r => FC q σ0 r ∧ TE τ r) (K a0 a1 a2)) (hs : FC q σ0 s) (ts : TE τ s) : Fo (fun r => FC q σ0 r ∧ TE τ r) (x20_truths_l37_j264 N W v0 v1 v2 v3 v4 v6 v7 t0 Kh K s) := by
  unfold x20_truths_l37_j264
  exact (fc_x20_truths_l37_j266 (τ := τ) hq D  hW hKh hK hs ts)
theorem fc_x20_truths_l37_j259 {q : FQ} {σ0 τ : gMem} {N : Nat} {W : Nat → Nat → Nat → gMem → Option gMem} {v0 : Nat} {v1 : Nat} {v2 : Nat} {v3 : Int} {v4 : Int} {v6 : Int} {v7 : Int} {Kh : Int → Int → Int → gMem → Option gMem} {K : Int → Int → gMem → Option gMem} {s : gMem} (hq : FL ([], [], [], []) q) (D : FD q) (hW : ∀ (a0 : Nat) (a1 : Nat) (a2 : Nat) (a3 : gMem), FC q σ0 a3 → Fo (fun r => FC q σ0 r ∧ TE a3 r) (W a0 a1 a2 a3)) (hKh : ∀ (a0 : Int) (a1 : Int) (a2 : Int) (a3 : gMem), FC q σ0 a3 → TE τ a3 → Fo (fun r => FC q σ0 r ∧ TE τ r) (Kh a0 a1 a2 a3)) (hK : ∀ (a0 : Int) (a1 : Int) (a2 : gMem), FC q σ0 a2 → TE τ a2 → Fo (fun r => FC q σ0 r ∧ TE τ r) (K a0 a1 a2)) (hs : FC q σ0 s) (ts : TE τ s) : Fo (fun r => FC q σ0 r ∧ TE τ r) (x20_truths_l37_j259 N W v0 v1 v2 v3 v4 v6 v7 Kh K s) := by
  unfold x20_truths_l37_j259
  exact (fc_x20_truths_l37_j264 (τ := τ) hq D  hW hKh hK hs ts)
theorem fc_x20_truths_l37_j240 {q : FQ} {σ0 τ : gMem} {N : Nat} {W : Nat → Nat → Nat → gMem → Option gMem} {v0 : Nat} {v1 : Nat} {v2 : Nat} {v3 : Int} {v4 : Int} {v6 : Int} {v7 : Int} {Kh : Int → Int → Int → gMem → Option gMem} {K : Int → Int → gMem → Option gMem} {s : gMem} (hq : FL ([], [], [], []) q) (D : FD q) (hW : ∀ (a0 : Nat) (a1 : Nat) (a2 : Nat) (a3 : gMem), FC q σ0 a3 → Fo (fun r => FC q σ0 r ∧ TE a3 r) (W a0 a1 a2 a3)) (hKh : ∀ (a0 : Int) (a1 : Int) (a2 : Int) (a3 : gMem), FC q σ0 a3 → TE τ a3 → Fo (fun r => FC q σ0 r ∧ TE τ r) (Kh a0 a1 a2 a3)) (hK : ∀ (a0 : Int) (a1 : Int) (a2 : gMem), FC q σ0 a2 → TE τ a2 → Fo (fun r => FC q σ0 r ∧ TE τ r) (K a0 a1 a2)) (hs : FC q σ0 s) (ts : TE τ s) : Fo (fun r => FC q σ0 r ∧ TE τ r) (x20_truths_l37_j240 N W v0 v1 v2 v3 v4 v6 v7 Kh K s) := by
  unfold x20_truths_l37_j240
  exact (fc_x20_truths_l37_j264 (τ := τ) hq D  hW hKh hK hs ts)
theorem fc_x20_truths_l37 {q : FQ} {σ0 τ : gMem} {N : Nat} {W : Nat → Nat → Nat → gMem → Option gMem} {v0 : Nat} {v1 : Nat} {v2 : Nat} {v3 : Int} {v4 : Int} {K : Int → Int → gMem → Option gMem} (hq : FL ([3, 5], [(5, 3)], [(3, 8)], []) q) (D : FD q) (hW : ∀ (a0 : Nat) (a1 : Nat) (a2 : Nat) (a3 : gMem), FC q σ0 a3 → Fo (fun r => FC q σ0 r ∧ TE a3 r) (W a0 a1 a2 a3)) (hK : ∀ (a0 : Int) (a1 : Int) (a2 : gMem), FC q σ0 a2 → TE τ a2 → Fo (fun r => FC q σ0 r ∧ TE τ r) (K a0 a1 a2)) : ∀ (n : Nat) (z0 : Int) (z1 : Int) (z2 : Int) (z3 : gMem), FC q σ0 z3 → TE τ z3 → Fo (fun r => FC q σ0 r ∧ TE τ r) (x20_truths_l37 N W v0 v1 v2 v3 v4 K n z0 z1 z2 z3) := by
  intro n
  induction n with
  | zero => intros; exact Fo.none
  | succ n ih =>
    intro v5 v6 v7 s hs ts
    unfold x20_truths_l37
    refine Fo.ite (fun _ => ?_) (fun _ => ?_)
    · exact (hK _ _ _ hs ts)
    · refine Fo.ite (fun c1706 => ?_) (fun _ => Fo.none)
      refine Fo.ite (fun c1707 => ?_) (fun _ => Fo.none)
      refine Fo.ite (fun _ => ?_) (fun _ => ?_)
      · exact (hK _ _ _ hs ts)
      · refine Fo.ite (fun _ => ?_) (fun _ => Fo.none)
        refine Fo.ite (fun _ => ?_) (fun _ => Fo.none)
        refine Fo.ite (fun c1711 => ?_) (fun _ => ?_)
        · refine Fo.ite (fun _ => ?_) (fun _ => Fo.none)
          refine Fo.ite (fun _ => ?_) (fun _ => Fo.none)
          refine Fo.ite (fun c1714 => ?_) (fun _ => Fo.none)
          refine Fo.bind (fc_x3_opens (FL.tr (by decide) hq) D   hs) (fun x13 q1715 => ?_)
          exact (fc_x20_truths_l88 (τ := τ) (FL.tr (by decide) hq) D  hW (fun y29 y30 s31 q1716 e1717 => by
      exact (fc_x20_truths_l37_j266 (τ := τ) (FL.tr (by decide) hq) D  hW (fun a0 a1 a2 a3 b t => ih a0 a1 a2 a3 b t) hK q1716 e1717)) _ _ _ _  q1715.1 (TE.tr ts q1715.2))
        · refine Fo.ite (fun c1718 => ?_) (fun _ => Fo.none)
          refine Fo.ite (fun c1719 => ?_) (fun _ => Fo.none)
          refine Fo.ite (fun _ => ?_) (fun _ => Fo.none)
          refine Fo.ite (fun c1721 => ?_) (fun _ => Fo.none)
          refine Fo.bind (fc_x5_wantTruth (FL.tr (by decide) hq) D   hs) (fun x35 q1722 => ?_)
          refine Fo.ite (fun _ => ?_) (fun _ => ?_)
          · refine Fo.ite (fun _ => ?_) (fun _ => ?_)
            · refine Fo.ite (fun _ => ?_) (fun _ => ?_)
              · exact (fc_x20_truths_l37_j259 (τ := τ) (FL.tr (by decide) hq) D  hW (fun a0 a1 a2 a3 b t => ih a0 a1 a2 a3 b t) hK q1722.1 (TE.tr ts q1722.2))
              · refine Fo.ite (fun _ => ?_) (fun _ => ?_)
                · exact (fc_x20_truths_l37_j264 (τ := τ) (FL.tr (by decide) hq) D  hW (fun a0 a1 a2 a3 b t => ih a0 a1 a2 a3 b t) hK q1722.1 (TE.tr ts q1722.2))
                · exact (fc_x20_truths_l37_j259 (τ := τ) (FL.tr (by decide) hq) D  hW (fun a0 a1 a2 a3 b t => ih a0 a1 a2 a3 b t) hK q1722.1 (TE.tr ts q1722.2))
            · refine Fo.ite (fun _ => ?_) (fun _ => ?_)
              · exact (fc_x20_truths_l37_j240 (τ := τ) (FL.tr (by decide) hq) D  hW (fun a0 a1 a2 a3 b t => ih a0 a1 a2 a3 b t) hK q1722.1 (TE.tr ts q1722.2))
              · refine Fo.ite (fun _ => ?_) (fun _ => ?_)
                · exact (fc_x20_truths_l37_j240 (τ := τ) (FL.tr (by decide) hq) D  hW (fun a0 a1 a2 a3 b t => ih a0 a1 a2 a3 b t) hK q1722.1 (TE.tr ts q1722.2))
                · exact (fc_x20_truths_l37_j264 (τ := τ) (FL.tr (by decide) hq) D  hW (fun a0 a1 a2 a3 b t => ih a0 a1 a2 a3 b t) hK q1722.1 (TE.tr ts q1722.2))
          · refine Fo.ite (fun c1729 => ?_) (fun _ => Fo.none)
            refine Fo.bind (fc_x5_copy (FL.tr (by decide) hq) D   q1722.1) (fun x41 q1730 => ?_)
            exact (fc_x20_truths_l37_j266 (τ := τ) (FL.tr (by decide) hq) D  hW (fun a0 a1 a2 a3 b t => ih a0 a1 a2 a3 b t) hK q1730.1 (TE.tr (TE.tr ts q1722.2) q1730.2))
theorem fc_x20_truths_j272 {q : FQ} {σ0 : gMem} {N : Nat} {W : Nat → Nat → Nat → gMem → Option gMem} {v1 : Nat} {v2 : Nat} {v4 : Int} {v5 : Int} {v6 : Int} {s : gMem} (hq : FL ([3, 5], [], [], []) q) (D : FD q) (hW : ∀ (a0 : Nat) (a1 : Nat) (a2 : Nat) (a3 : gMem), FC q σ0 a3 → Fo (fun r => FC q σ0 r ∧ TE a3 r) (W a0 a1 a2 a3)) (hs : FC q σ0 s) : Fo (fun r => FC q σ0 r ∧ TE s r) (x20_truths_j272 N W v1 v2 v4 v5 v6 s) := by
  unfold x20_truths_j272
  refine Fo.ite (fun _ => ?_) (fun _ => ?_)
  · refine Fo.ite (fun c1732 => ?_) (fun _ => Fo.none)
    refine FC.lIo hs c1732 (hq.1 (by decide)) (fun s47 q1733 e1734 => ?_)
    exact Fo.some ⟨q1733, (TE.tr TE.rf e1734)⟩
  · refine Fo.ite (fun c1735 => ?_) (fun _ => Fo.none)
    refine Fo.bind (fc_x5_is (FL.tr (by decide) hq) D   hs) (fun x50 q1736 => ?_)
    refine Fo.ite (fun c1737 => ?_) (fun _ => Fo.none)
    refine FC.lIo q1736.1 c1737 (hq.1 (by decide)) (fun s53 q1738 e1739 => ?_)
    exact Fo.some ⟨q1738, (TE.tr (TE.tr TE.rf q1736.2) e1739)⟩
theorem fc_x20_truths_j15 {q : FQ} {σ0 : gMem} {N : Nat} {W : Nat → Nat → Nat → gMem → Option gMem} {v0 : Nat} {v1 : Nat} {v2 : Nat} {t0 : Int} {s : gMem} (hq : FL ([3, 5], [(5, 3)], [(3, 8)], []) q) (D : FD q) (hW : ∀ (a0 : Nat) (a1 : Nat) (a2 : Nat) (a3 : gMem), FC q σ0 a3 → Fo (fun r => FC q σ0 r ∧ TE a3 r) (W a0 a1 a2 a3)) (hs : FC q σ0 s) : Fo (fun r => FC q σ0 r ∧ TE s r) (x20_truths_j15 N W v0 v1 v2 t0 s) := by
  unfold x20_truths_j15
  refine Fo.ite (fun c1740 => ?_) (fun _ => Fo.none)
  refine Fo.ite (fun c1741 => ?_) (fun _ => Fo.none)
  refine Fo.bind (fc_x20_workAll (FL.tr (by decide) hq) D  hW hs) (fun x5 q1742 => ?_)
  exact (fc_x20_truths_l37 (τ := s) hq D  hW (fun y43 y44 s45 q1743 e1744 => by
      exact Fo.te e1744 (fc_x20_truths_j272 (FL.tr (by decide) hq) D  hW q1743)) _ _ _ _ _  q1742.1 (TE.tr TE.rf q1742.2))
theorem fc_x20_truths {q : FQ} {σ0 : gMem} {N : Nat} {W : Nat → Nat → Nat → gMem → Option gMem} {v0 : Nat} {v1 : Nat} {v2 : Nat} {σ : gMem} (hq : FL ([3, 5], [(5, 3)], [(3, 8)], []) q) (D : FD q) (hW : ∀ (a0 : Nat) (a1 : Nat) (a2 : Nat) (a3 : gMem), FC q σ0 a3 → Fo (fun r => FC q σ0 r ∧ TE a3 r) (W a0 a1 a2 a3)) (hσ : FC q σ0 σ) : Fo (fun r => FC q σ0 r ∧ TE σ r) (x20_truths N W v0 v1 v2 σ) := by
  unfold x20_truths
  refine Fo.ite (fun c1745 => ?_) (fun _ => Fo.none)
  refine Fo.ite (fun _ => ?_) (fun _ => ?_)
  · exact Fo.te TE.rf (fc_x20_truths_j15 hq D  hW hσ)
  · exact Fo.te TE.rf (fc_x20_truths_j15 hq D  hW hσ)
theorem fc_x20_numbers_l90_j127 {q : FQ} {σ0 τ : gMem} {N : Nat} {W : Nat → Nat → Nat → gMem → Option gMem} {v0 : Nat} {v1 : Nat} {v2 : Nat} {v3 : Int} {v4 : Int} {v5 : Int} {v6 : Int} {v7 : Nat} {Kh : Int → gMem → Option gMem} {K : Int → gMem → Option gMem} {s : gMem} (hq : FL ([3], [], [], []) q) (D : FD q) (hW : ∀ (a0 : Nat) (a1 : Nat) (a2 : Nat) (a3 : gMem), FC q σ0 a3 → Fo (fun r => FC q σ0 r ∧ TE a3 r) (W a0 a1 a2 a3)) (hKh : ∀ (a0 : Int) (a1 : gMem), FC q σ0 a1 → TE τ a1 → Fo (fun r => FC q σ0 r ∧ TE τ r) (Kh a0 a1)) (hK : ∀ (a0 : Int) (a1 : gMem), FC q σ0 a1 → TE τ a1 → Fo (fun r => FC q σ0 r ∧ TE τ r) (K a0 a1)) (hs : FC q σ0 s) (ts : TE τ s) : Fo (fun r => FC q σ0 r ∧ TE τ r) (x20_numbers_l90_j127 N W v0 v1 v2 v3 v4 v5 v6 v7 Kh K s) := by
  unfold x20_numbers_l90_j127
  refine Fo.ite (fun c1747 => ?_) (fun _ => Fo.none)
  refine Fo.ite (fun _ => ?_) (fun _ => ?_)
  · exact (hKh _ _ hs ts)
  · refine Fo.ite (fun c1749 => ?_) (fun _ => Fo.none)
    refine Fo.bind (fc_x3_tally hq D   hs) (fun x30 q1750 => ?_)
    exact (hKh _ _ q1750.1 (TE.tr ts q1750.2))
theorem fc_x20_numbers_l90 {q : FQ} {σ0 τ : gMem} {N : Nat} {W : Nat → Nat → Nat → gMem → Option gMem} {v0 : Nat} {v1 : Nat} {v2 : Nat} {v3 : Int} {v4 : Int} {v6 : Int} {v7 : Nat} {K : Int → gMem → Option gMem} (hq : FL ([3, 5], [(5, 3)], [], []) q) (D : FD q) (hW : ∀ (a0 : Nat) (a1 : Nat) (a2 : Nat) (a3 : gMem), FC q σ0 a3 → Fo (fun r => FC q σ0 r ∧ TE a3 r) (W a0 a1 a2 a3)) (hK : ∀ (a0 : Int) (a1 : gMem), FC q σ0 a1 → TE τ a1 → Fo (fun r => FC q σ0 r ∧ TE τ r) (K a0 a1)) : ∀ (n : Nat) (z0 : Int) (z1 : gMem), FC q σ0 z1 → TE τ z1 → Fo (fun r => FC q σ0 r ∧ TE τ r) (x20_numbers_l90 N W v0 v1 v2 v3 v4 v6 v7 K n z0 z1) := by
  intro n
  induction n with
  | zero => intros; exact Fo.none
  | succ n ih =>
    intro v5 s hs ts
    unfold x20_numbers_l90
    refine Fo.ite (fun _ => ?_) (fun _ => ?_)
    · exact (hK _ _ hs ts)
    · refine Fo.ite (fun c1752 => ?_) (fun _ => Fo.none)
      refine Fo.bind (fc_x3_next hq D   hs) (fun x20 q1753 => ?_)
      refine Fo.ite (fun _ => ?_) (fun _ => ?_)
      · exact (hK _ _ q1753.1 (TE.tr ts q1753.2))
      · refine Fo.ite (fun c1755 => ?_) (fun _ => Fo.none)
        refine Fo.pure (fun x24 => ?_)
        refine Fo.ite (fun _ => ?_) (fun _ => ?_)
        · exact (fc_x20_numbers_l90_j127 (τ := τ) (FL.tr (by decide) hq) D  hW (fun a0 a1 b t => ih a0 a1 b t) hK q1753.1 (TE.tr ts q1753.2))
        · refine Fo.ite (fun _ => ?_) (fun _ => ?_)
          · exact (fc_x20_numbers_l90_j127 (τ := τ) (FL.tr (by decide) hq) D  hW (fun a0 a1 b t => ih a0 a1 b t) hK q1753.1 (TE.tr ts q1753.2))
          · refine Fo.ite (fun c1758 => ?_) (fun _ => Fo.none)
            refine Fo.bind (fc_x5_copy (FL.tr (by decide) hq) D   q1753.1) (fun x33 q1759 => ?_)
            exact (ih _ _  q1759.1 (TE.tr (TE.tr ts q1753.2) q1759.2))
theorem fc_x20_numbers_l39_j244 {q : FQ} {σ0 τ : gMem} {N : Nat} {W : Nat → Nat → Nat → gMem → Option gMem} {v0 : Nat} {v1 : Nat} {v2 : Nat} {v3 : Int} {v4 : Int} {v5 : Int} {v6 : Int} {Kh : Int → Int → gMem → Option gMem} {K : Int → gMem → Option gMem} {s : gMem} (hq : FL ([], [], [], []) q) (D : FD q) (hW : ∀ (a0 : Nat) (a1 : Nat) (a2 : Nat) (a3 : gMem), FC q σ0 a3 → Fo (fun r => FC q σ0 r ∧ TE a3 r) (W a0 a1 a2 a3)) (hKh : ∀ (a0 : Int) (a1 : Int) (a2 : gMem), FC q σ0 a2 → TE τ a2 → Fo (fun r => FC q σ0 r ∧ TE τ r) (Kh a0 a1 a2)) (hK : ∀ (a0 : Int) (a1 : gMem), FC q σ0 a1 → TE τ a1 → Fo (fun r => FC q σ0 r ∧ TE τ r) (K a0 a1)) (hs : FC q σ0 s) (ts : TE τ s) : Fo (fun r => FC q σ0 r ∧ TE τ r) (x20_numbers_l39_j244 N W v0 v1 v2 v3 v4 v5 v6 Kh K s) := by
  unfold x20_numbers_l39_j244
  exact (hKh _ _ _ hs ts)
theorem fc_x20_numbers_l39 {q : FQ} {σ0 τ : gMem} {N : Nat} {W : Nat → Nat → Nat → gMem → Option gMem} {v0 : Nat} {v1 : Nat} {v2 : Nat} {v3 : Int} {v4 : Int} {K : Int → gMem → Option gMem} (hq : FL ([3, 5], [(5, 3)], [(3, 8)], []) q) (D : FD q) (hW : ∀ (a0 : Nat) (a1 : Nat) (a2 : Nat) (a3 : gMem), FC q σ0 a3 → Fo (fun r => FC q σ0 r ∧ TE a3 r) (W a0 a1 a2 a3)) (hK : ∀ (a0 : Int) (a1 : gMem), FC q σ0 a1 → TE τ a1 → Fo (fun r => FC q σ0 r ∧ TE τ r) (K a0 a1)) : ∀ (n : Nat) (z0 : Int) (z1 : Int) (z2 : gMem), FC q σ0 z2 → TE τ z2 → Fo (fun r => FC q σ0 r ∧ TE τ r) (x20_numbers_l39 N W v0 v1 v2 v3 v4 K n z0 z1 z2) := by
  intro n
  induction n with
  | zero => intros; exact Fo.none
  | succ n ih =>
    intro v5 v6 s hs ts
    unfold x20_numbers_l39
    refine Fo.ite (fun _ => ?_) (fun _ => ?_)
    · exact (hK _ _ hs ts)
    · refine Fo.ite (fun c1761 => ?_) (fun _ => Fo.none)
      refine Fo.ite (fun c1762 => ?_) (fun _ => Fo.none)
      refine Fo.ite (fun _ => ?_) (fun _ => ?_)
      · exact (hK _ _ hs ts)
      · refine Fo.ite (fun _ => ?_) (fun _ => Fo.none)
        refine Fo.ite (fun _ => ?_) (fun _ => Fo.none)
        refine Fo.ite (fun c1766 => ?_) (fun _ => ?_)
        · refine Fo.ite (fun _ => ?_) (fun _ => Fo.none)
          refine Fo.ite (fun _ => ?_) (fun _ => Fo.none)
          refine Fo.ite (fun c1769 => ?_) (fun _ => Fo.none)
          refine Fo.bind (fc_x3_opens (FL.tr (by decide) hq) D   hs) (fun x16 q1770 => ?_)
          exact (fc_x20_numbers_l90 (τ := τ) (FL.tr (by decide) hq) D  hW (fun y35 s36 q1771 e1772 => by
      exact (fc_x20_numbers_l39_j244 (τ := τ) (FL.tr (by decide) hq) D  hW (fun a0 a1 a2 b t => ih a0 a1 a2 b t) hK q1771 e1772)) _ _ _  q1770.1 (TE.tr ts q1770.2))
        · refine Fo.ite (fun c1773 => ?_) (fun _ => Fo.none)
          refine Fo.ite (fun c1774 => ?_) (fun _ => Fo.none)
          refine Fo.ite (fun _ => ?_) (fun _ => Fo.none)
          refine Fo.ite (fun _ => ?_) (fun _ => ?_)
          · refine Fo.ite (fun c1777 => ?_) (fun _ => Fo.none)
            refine Fo.bind (fc_x5_wantNumber (FL.tr (by decide) hq) D   hs) (fun x40 q1778 => ?_)
            refine Fo.ite (fun _ => ?_) (fun _ => ?_)
            · refine Fo.ite (fun c1780 => ?_) (fun _ => Fo.none)
              refine Fo.bind (fc_x5_copy (FL.tr (by decide) hq) D   q1778.1) (fun x44 q1781 => ?_)
              exact (fc_x20_numbers_l39_j244 (τ := τ) (FL.tr (by decide) hq) D  hW (fun a0 a1 a2 b t => ih a0 a1 a2 b t) hK q1781.1 (TE.tr (TE.tr ts q1778.2) q1781.2))
            · refine Fo.bind (fc_x3_tally (FL.tr (by decide) hq) D   q1778.1) (fun x47 q1782 => ?_)
              exact (fc_x20_numbers_l39_j244 (τ := τ) (FL.tr (by decide) hq) D  hW (fun a0 a1 a2 b t => ih a0 a1 a2 b t) hK q1782.1 (TE.tr (TE.tr ts q1778.2) q1782.2))
          · refine Fo.ite (fun _ => ?_) (fun _ => Fo.none)
            refine Fo.pure (fun x49 => ?_)
            refine Fo.ite (fun _ => ?_) (fun _ => ?_)
            · refine Fo.ite (fun c1785 => ?_) (fun _ => Fo.none)
              refine Fo.ite (fun _ => ?_) (fun _ => ?_)
              · exact (fc_x20_numbers_l39_j244 (τ := τ) (FL.tr (by decide) hq) D  hW (fun a0 a1 a2 b t => ih a0 a1 a2 b t) hK hs ts)
              · refine Fo.bind (fc_x3_tally (FL.tr (by decide) hq) D   hs) (fun x54 q1787 => ?_)
                exact (fc_x20_numbers_l39_j244 (τ := τ) (FL.tr (by decide) hq) D  hW (fun a0 a1 a2 b t => ih a0 a1 a2 b t) hK q1787.1 (TE.tr ts q1787.2))
            · refine Fo.ite (fun c1788 => ?_) (fun _ => Fo.none)
              refine Fo.bind (fc_x5_fail (FL.tr (by decide) hq) D   hs) (fun x57 q1789 => ?_)
              exact (fc_x20_numbers_l39_j244 (τ := τ) (FL.tr (by decide) hq) D  hW (fun a0 a1 a2 b t => ih a0 a1 a2 b t) hK q1789.1 (TE.tr ts q1789.2))
theorem fc_x20_numbers_j250 {q : FQ} {σ0 : gMem} {N : Nat} {W : Nat → Nat → Nat → gMem → Option gMem} {v0 : Nat} {v1 : Nat} {v2 : Nat} {v3 : Int} {v4 : Int} {v5 : Int} {s : gMem} (hq : FL ([3, 5], [], [], []) q) (D : FD q) (hW : ∀ (a0 : Nat) (a1 : Nat) (a2 : Nat) (a3 : gMem), FC q σ0 a3 → Fo (fun r => FC q σ0 r ∧ TE a3 r) (W a0 a1 a2 a3)) (hs : FC q σ0 s) : Fo (fun r => FC q σ0 r ∧ TE s r) (x20_numbers_j250 N W v0 v1 v2 v3 v4 v5 s) := by
  unfold x20_numbers_j250
  refine Fo.ite (fun _ => ?_) (fun _ => ?_)
  · refine Fo.ite (fun c1791 => ?_) (fun _ => Fo.none)
    refine FC.lIo hs c1791 (hq.1 (by decide)) (fun s62 q1792 e1793 => ?_)
    exact Fo.some ⟨q1792, (TE.tr TE.rf e1793)⟩
  · refine Fo.ite (fun c1794 => ?_) (fun _ => Fo.none)
    refine Fo.ite (fun _ => ?_) (fun _ => ?_)
    · refine Fo.ite (fun _ => ?_) (fun _ => ?_)
      · refine Fo.ite (fun c1797 => ?_) (fun _ => Fo.none)
        refine Fo.ite (fun _ => ?_) (fun _ => ?_)
        · refine Fo.ite (fun _ => ?_) (fun _ => ?_)
          · refine Fo.ite (fun c1800 => ?_) (fun _ => Fo.none)
            refine Fo.bind (fc_x5_be (FL.tr (by decide) hq) D   hs) (fun x69 q1801 => ?_)
            refine FC.lIo q1801.1 (q1801.2 _ _ (by decide) c1797) (hq.1 (by decide)) (fun s71 q1802 e1803 => ?_)
            exact Fo.some ⟨q1802, (TE.tr (TE.tr TE.rf q1801.2) e1803)⟩
          · refine Fo.ite (fun c1804 => ?_) (fun _ => Fo.none)
            refine Fo.bind (fc_x5_be (FL.tr (by decide) hq) D   hs) (fun x75 q1805 => ?_)
            refine FC.lIo q1805.1 (q1805.2 _ _ (by decide) c1797) (hq.1 (by decide)) (fun s77 q1806 e1807 => ?_)
            exact Fo.some ⟨q1806, (TE.tr (TE.tr TE.rf q1805.2) e1807)⟩
        · refine Fo.ite (fun c1808 => ?_) (fun _ => Fo.none)
          refine Fo.bind (fc_x5_fail (FL.tr (by decide) hq) D   hs) (fun x80 q1809 => ?_)
          refine FC.lIo q1809.1 (q1809.2 _ _ (by decide) c1797) (hq.1 (by decide)) (fun s82 q1810 e1811 => ?_)
          exact Fo.some ⟨q1810, (TE.tr (TE.tr TE.rf q1809.2) e1811)⟩
      · refine Fo.ite (fun c1812 => ?_) (fun _ => Fo.none)
        refine Fo.ite (fun c1813 => ?_) (fun _ => Fo.none)
        refine Fo.bind (fc_x5_be (FL.tr (by decide) hq) D   hs) (fun x87 q1814 => ?_)
        refine FC.lIo q1814.1 (q1814.2 _ _ (by decide) c1812) (hq.1 (by decide)) (fun s89 q1815 e1816 => ?_)
        exact Fo.some ⟨q1815, (TE.tr (TE.tr TE.rf q1814.2) e1816)⟩
    · refine Fo.ite (fun c1817 => ?_) (fun _ => Fo.none)
      refine Fo.ite (fun c1818 => ?_) (fun _ => Fo.none)
      refine Fo.bind (fc_x5_be (FL.tr (by decide) hq) D   hs) (fun x94 q1819 => ?_)
      refine FC.lIo q1819.1 (q1819.2 _ _ (by decide) c1817) (hq.1 (by decide)) (fun s96 q1820 e1821 => ?_)
      exact Fo.some ⟨q1820, (TE.tr (TE.tr TE.rf q1819.2) e1821)⟩
theorem fc_x20_numbers_j20 {q : FQ} {σ0 : gMem} {N : Nat} {W : Nat → Nat → Nat → gMem → Option gMem} {v0 : Nat} {v1 : Nat} {v2 : Nat} {v3 : Int} {t0 : Int} {s : gMem} (hq : FL ([3, 5], [(5, 3)], [(3, 8)], []) q) (D : FD q) (hW : ∀ (a0 : Nat) (a1 : Nat) (a2 : Nat) (a3 : gMem), FC q σ0 a3 → Fo (fun r => FC q σ0 r ∧ TE a3 r) (W a0 a1 a2 a3)) (hs : FC q σ0 s) : Fo (fun r => FC q σ0 r ∧ TE s r) (x20_numbers_j20 N W v0 v1 v2 v3 t0 s) := by
  unfold x20_numbers_j20
  refine Fo.ite (fun c1822 => ?_) (fun _ => Fo.none)
  refine Fo.bind (fc_x20_workAll (FL.tr (by decide) hq) D  hW hs) (fun x5 q1823 => ?_)
  refine Fo.ite (fun c1824 => ?_) (fun _ => Fo.none)
  refine Fo.bind (fc_x3_clear (FL.tr (by decide) hq) D   q1823.1) (fun x9 q1825 => ?_)
  exact (fc_x20_numbers_l39 (τ := s) hq D  hW (fun y59 s60 q1826 e1827 => by
      exact Fo.te e1827 (fc_x20_numbers_j250 (FL.tr (by decide) hq) D  hW q1826)) _ _ _ _  q1825.1 (TE.tr (TE.tr TE.rf q1823.2) q1825.2))
theorem fc_x20_numbers {q : FQ} {σ0 : gMem} {N : Nat} {W : Nat → Nat → Nat → gMem → Option gMem} {v0 : Nat} {v1 : Nat} {v2 : Nat} {σ : gMem} (hq : FL ([3, 5], [(5, 3)], [(3, 8)], []) q) (D : FD q) (hW : ∀ (a0 : Nat) (a1 : Nat) (a2 : Nat) (a3 : gMem), FC q σ0 a3 → Fo (fun r => FC q σ0 r ∧ TE a3 r) (W a0 a1 a2 a3)) (hσ : FC q σ0 σ) : Fo (fun r => FC q σ0 r ∧ TE σ r) (x20_numbers N W v0 v1 v2 σ) := by
  unfold x20_numbers
  refine Fo.ite (fun c1828 => ?_) (fun _ => Fo.none)
  refine Fo.ite (fun c1829 => ?_) (fun _ => Fo.none)
  refine Fo.ite (fun _ => ?_) (fun _ => ?_)
  · exact Fo.te TE.rf (fc_x20_numbers_j20 hq D  hW hσ)
  · exact Fo.te TE.rf (fc_x20_numbers_j20 hq D  hW hσ)
theorem fc_x20_search_j46 {q : FQ} {σ0 : gMem} {N : Nat} {W : Nat → Nat → Nat → gMem → Option gMem} {v0 : Nat} {v1 : Nat} {v2 : Nat} {v3 : Nat} {v4 : Nat} {t0 : Int} {t1 : Nat} {s : gMem} (hq : FL ([3, 5], [(5, 3)], [(3, 8)], []) q) (D : FD q) (hW : ∀ (a0 : Nat) (a1 : Nat) (a2 : Nat) (a3 : gMem), FC q σ0 a3 → Fo (fun r => FC q σ0 r ∧ TE a3 r) (W a0 a1 a2 a3)) (hs : FC q σ0 s) : Fo (fun r => FC q σ0 r ∧ TE s r) (x20_search_j46 N W v0 v1 v2 v3 v4 t0 t1 s) := by
  unfold x20_search_j46
  refine Fo.ite (fun c1831 => ?_) (fun _ => Fo.none)
  refine Fo.ite (fun _ => ?_) (fun _ => Fo.none)
  refine Fo.bind (hW _ _ _ _ hs) (fun x8 q1833 => ?_)
  refine Fo.ite (fun c1834 => ?_) (fun _ => Fo.none)
  refine Fo.pure (fun x11 => ?_)
  refine Fo.ite (fun _ => ?_) (fun _ => ?_)
  · refine Fo.ite (fun _ => ?_) (fun _ => Fo.none)
    refine Fo.ite (fun c1837 => ?_) (fun _ => ?_)
    · refine Fo.ite (fun _ => ?_) (fun _ => Fo.none)
      refine Fo.ite (fun c1839 => ?_) (fun _ => Fo.none)
      refine Fo.bind (fc_x3_opens (FL.tr (by decide) hq) D   q1833.1) (fun x16 q1840 => ?_)
      refine Fo.ite (fun _ => ?_) (fun _ => ?_)
      · refine Fo.bind (fc_x3_give (FL.tr (by decide) hq) D   q1840.1) (fun x19 q1842 => ?_)
        exact Fo.some ⟨q1842.1, (TE.tr (TE.tr (TE.tr TE.rf q1833.2) q1840.2) q1842.2)⟩
      · refine Fo.ite (fun c1843 => ?_) (fun _ => Fo.none)
        refine Fo.ite (fun _ => ?_) (fun _ => ?_)
        · refine Fo.bind (fc_x20_alike (FL.tr (by decide) hq) D   q1840.1) (fun x22 q1845 => ?_)
          refine Fo.bind (fc_x3_give (FL.tr (by decide) hq) D   q1845.1) (fun x24 q1846 => ?_)
          exact Fo.some ⟨q1846.1, (TE.tr (TE.tr (TE.tr (TE.tr TE.rf q1833.2) q1840.2) q1845.2) q1846.2)⟩
        · refine Fo.bind (fc_x20_nth (FL.tr (by decide) hq) D   q1840.1) (fun x26 q1847 => ?_)
          refine Fo.bind (fc_x3_give (FL.tr (by decide) hq) D   q1847.1) (fun x28 q1848 => ?_)
          exact Fo.some ⟨q1848.1, (TE.tr (TE.tr (TE.tr (TE.tr TE.rf q1833.2) q1840.2) q1847.2) q1848.2)⟩
    · refine Fo.ite (fun c1849 => ?_) (fun _ => Fo.none)
      refine Fo.bind (fc_x5_fail (FL.tr (by decide) hq) D   q1833.1) (fun x31 q1850 => ?_)
      refine Fo.ite (fun c1851 => ?_) (fun _ => Fo.none)
      refine Fo.bind (fc_x3_give (FL.tr (by decide) hq) D   q1850.1) (fun x34 q1852 => ?_)
      exact Fo.some ⟨q1852.1, (TE.tr (TE.tr (TE.tr TE.rf q1833.2) q1850.2) q1852.2)⟩
  · refine Fo.ite (fun c1853 => ?_) (fun _ => Fo.none)
    refine Fo.bind (fc_x5_copy (FL.tr (by decide) hq) D   q1833.1) (fun x37 q1854 => ?_)
    refine Fo.ite (fun c1855 => ?_) (fun _ => Fo.none)
    refine Fo.bind (fc_x3_give (FL.tr (by decide) hq) D   q1854.1) (fun x40 q1856 => ?_)
    exact Fo.some ⟨q1856.1, (TE.tr (TE.tr (TE.tr TE.rf q1833.2) q1854.2) q1856.2)⟩
theorem fc_x20_search_j19 {q : FQ} {σ0 : gMem} {N : Nat} {W : Nat → Nat → Nat → gMem → Option gMem} {v0 : Nat} {v1 : Nat} {v2 : Nat} {t0 : Int} {t1 : Nat} {s : gMem} (hq : FL ([3, 5], [(5, 3)], [(3, 8)], []) q) (D : FD q) (hW : ∀ (a0 : Nat) (a1 : Nat) (a2 : Nat) (a3 : gMem), FC q σ0 a3 → Fo (fun r => FC q σ0 r ∧ TE a3 r) (W a0 a1 a2 a3)) (hs : FC q σ0 s) : Fo (fun r => FC q σ0 r ∧ TE s r) (x20_search_j19 N W v0 v1 v2 t0 t1 s) := by
  unfold x20_search_j19
  refine Fo.ite (fun c1857 => ?_) (fun _ => Fo.none)
  refine Fo.ite (fun _ => ?_) (fun _ => Fo.none)
  refine Fo.ite (fun c1859 => ?_) (fun _ => Fo.none)
  refine Fo.bind (fc_x3_take (FL.tr (by decide) hq) D   hs) (fun x4 q1860 => ?_)
  refine Fo.ite (fun c1861 => ?_) (fun _ => Fo.none)
  refine Fo.ite (fun _ => ?_) (fun _ => ?_)
  · exact Fo.te (TE.tr TE.rf q1860.2) (fc_x20_search_j46 hq D  hW q1860.1)
  · exact Fo.te (TE.tr TE.rf q1860.2) (fc_x20_search_j46 hq D  hW q1860.1)
theorem fc_x20_search {q : FQ} {σ0 : gMem} {N : Nat} {W : Nat → Nat → Nat → gMem → Option gMem} {v0 : Nat} {v1 : Nat} {v2 : Nat} {σ : gMem} (hq : FL ([3, 5], [(5, 3)], [(3, 8)], []) q) (D : FD q) (hW : ∀ (a0 : Nat) (a1 : Nat) (a2 : Nat) (a3 : gMem), FC q σ0 a3 → Fo (fun r => FC q σ0 r ∧ TE a3 r) (W a0 a1 a2 a3)) (hσ : FC q σ0 σ) : Fo (fun r => FC q σ0 r ∧ TE σ r) (x20_search N W v0 v1 v2 σ) := by
  unfold x20_search
  refine Fo.ite (fun c1863 => ?_) (fun _ => Fo.none)
  refine Fo.ite (fun _ => ?_) (fun _ => ?_)
  · exact Fo.te TE.rf (fc_x20_search_j19 hq D  hW hσ)
  · exact Fo.te TE.rf (fc_x20_search_j19 hq D  hW hσ)
theorem fc_x22_work {q : FQ} {σ0 : gMem} {N : Nat} {W : Nat → Nat → Nat → gMem → Option gMem} {v0 : Nat} {v1 : Nat} {v2 : Nat} {σ : gMem} (hq : FL ([3, 5], [(5, 3)], [], []) q) (D : FD q) (hW : ∀ (a0 : Nat) (a1 : Nat) (a2 : Nat) (a3 : gMem), FC q σ0 a3 → Fo (fun r => FC q σ0 r ∧ TE a3 r) (W a0 a1 a2 a3)) (hσ : FC q σ0 σ) : Fo (fun r => FC q σ0 r ∧ TE σ r) (x22_work N W v0 v1 v2 σ) := by
  unfold x22_work
  refine Fo.ite (fun c1865 => ?_) (fun _ => Fo.none)
  refine Fo.bind (hW _ _ _ _ hσ) (fun x2 q1866 => ?_)
  refine Fo.ite (fun c1867 => ?_) (fun _ => Fo.none)
  refine Fo.bind (fc_x3_take (FL.tr (by decide) hq) D   q1866.1) (fun x5 q1868 => ?_)
  refine Fo.bind (hW _ _ _ _ q1868.1) (fun x7 q1869 => ?_)
  refine Fo.ite (fun c1870 => ?_) (fun _ => Fo.none)
  refine Fo.pure (fun x10 => ?_)
  refine Fo.ite (fun _ => ?_) (fun _ => ?_)
  · refine Fo.bind (fc_x3_give (FL.tr (by decide) hq) D   q1869.1) (fun x12 q1872 => ?_)
    exact Fo.some ⟨q1872.1, (TE.tr (TE.tr (TE.tr (TE.tr TE.rf q1866.2) q1868.2) q1869.2) q1872.2)⟩
  · refine Fo.ite (fun c1873 => ?_) (fun _ => Fo.none)
    refine Fo.pure (fun x15 => ?_)
    refine Fo.ite (fun _ => ?_) (fun _ => ?_)
    · refine Fo.bind (fc_x1_two (FL.tr (by decide) hq) D   q1869.1) (fun x17 q1875 => ?_)
      refine Fo.bind (fc_x3_give (FL.tr (by decide) hq) D   q1875.1) (fun x19 q1876 => ?_)
      exact Fo.some ⟨q1876.1, (TE.tr (TE.tr (TE.tr (TE.tr (TE.tr TE.rf q1866.2) q1868.2) q1869.2) q1875.2) q1876.2)⟩
    · refine Fo.bind (fc_x5_copy (FL.tr (by decide) hq) D   q1869.1) (fun x21 q1877 => ?_)
      refine Fo.bind (fc_x3_give (FL.tr (by decide) hq) D   q1877.1) (fun x23 q1878 => ?_)
      exact Fo.some ⟨q1878.1, (TE.tr (TE.tr (TE.tr (TE.tr (TE.tr TE.rf q1866.2) q1868.2) q1869.2) q1877.2) q1878.2)⟩
theorem fc_x25_cell_j53 {q : FQ} {σ0 : gMem} {N : Nat} {v3 : Nat} {v4 : Nat} {v5 : Int} {s : gMem} (hq : FL ([], [], [], []) q) (D : FD q) (hs : FC q σ0 s) : Fo (fun r => FC q σ0 r.2 ∧ TE s r.2) (x25_cell_j53 N v3 v4 v5 s) := by
  unfold x25_cell_j53
  refine Fo.ite (fun _ => ?_) (fun _ => ?_)
  · exact Fo.some ⟨hs, TE.rf⟩
  · exact Fo.some ⟨hs, TE.rf⟩
theorem fc_x25_cell {q : FQ} {σ0 : gMem} {N : Nat} {v0 : Nat} {v1 : Int} {v2 : Int} {σ : gMem} (hq : FL ([23, 106], [], [(23, 4)], [24, 106]) q) (D : FD q) (hσ : FC q σ0 σ) : Fo (fun r => FC q σ0 r.2 ∧ TE σ r.2) (x25_cell N v0 v1 v2 σ) := by
  unfold x25_cell
  refine Fo.ite (fun c1880 => ?_) (fun _ => Fo.none)
  refine Fo.ite (fun c1881 => ?_) (fun _ => Fo.none)
  refine Fo.pure (fun x3 => ?_)
  refine Fo.ite (fun c1882 => ?_) (fun _ => Fo.none)
  refine Fo.pure (fun x5 => ?_)
  refine Fo.pure (fun x6 => ?_)
  refine Fo.pure (fun x8 => ?_)
  refine Fo.ite (fun _ => ?_) (fun _ => ?_)
  · exact Fo.te TE.rf (fc_x25_cell_j53 (FL.tr (by decide) hq) D   hσ)
  · refine Fo.ite (fun _ => ?_) (fun _ => ?_)
    · refine Fo.ite (fun c1885 => ?_) (fun _ => Fo.none)
      refine Fo.pure (fun x11 => ?_)
      refine Fo.pure (fun x12 => ?_)
      refine Fo.ite (fun _ => ?_) (fun _ => ?_)
      · exact Fo.some ⟨hσ, TE.rf⟩
      · refine Fo.pure (fun x14 => ?_)
        refine Fo.ite (fun _ => ?_) (fun _ => ?_)
        · refine Fo.pure (fun x16 => ?_)
          refine Fo.ite (fun _ => ?_) (fun _ => ?_)
          · refine Fo.bind (fc_x25_tell hq D   hσ) (fun x18 q1889 => ?_)
            exact Fo.some ⟨q1889.1, (TE.tr TE.rf q1889.2)⟩
          · exact Fo.some ⟨hσ, TE.rf⟩
        · exact Fo.some ⟨hσ, TE.rf⟩
    · exact Fo.te TE.rf (fc_x25_cell_j53 (FL.tr (by decide) hq) D   hσ)
theorem fc_x4_walk_l14 {q : FQ} {σ0 τ : gMem} {N : Nat} {v0 : Nat} {K : gMem → Option gMem} (hq : FL ([4], [(4, 1), (4, 2), (4, 3), (4, 4), (4, 5), (4, 6), (4, 7), (4, 8)], [], []) q) (D : FD q) (hK : ∀ (a0 : gMem), FC q σ0 a0 → TE τ a0 → Fo (fun r => FC q σ0 r ∧ TE τ r) (K a0)) : ∀ (n : Nat) (z0 : Int) (z1 : gMem), FC q σ0 z1 → TE τ z1 → Fo (fun r => FC q σ0 r ∧ TE τ r) (x4_walk_l14 N v0 K n z0 z1) := by
  intro n
  induction n with
  | zero => intros; exact Fo.none
  | succ n ih =>
    intro v2 s hs ts
    unfold x4_walk_l14
    refine Fo.ite (fun _ => ?_) (fun _ => ?_)
    · exact (hK _ hs ts)
    · refine Fo.ite (fun c1891 => ?_) (fun _ => Fo.none)
      refine Fo.ite (fun c1892 => ?_) (fun _ => Fo.none)
      refine Fo.ite (fun _ => ?_) (fun _ => Fo.none)
      refine Fo.ite (fun c1894 => ?_) (fun _ => Fo.none)
      refine Fo.ite (fun _ => ?_) (fun _ => Fo.none)
      refine Fo.pure (fun x12 => ?_)
      refine Fo.ite (fun _ => ?_) (fun _ => ?_)
      · refine Fo.ite (fun _ => ?_) (fun _ => Fo.none)
        refine FC.lIp D hs c1891 (hq.2.1 (by decide)) (fun s14 q1898 e1899 => ?_)
        refine Fo.ite (fun c1900 => ?_) (fun _ => Fo.none)
        refine Fo.ite (fun _ => ?_) (fun _ => Fo.none)
        refine Fo.ite (fun _ => ?_) (fun _ => ?_)
        · refine Fo.ite (fun c1903 => ?_) (fun _ => Fo.none)
          refine Fo.ite (fun _ => ?_) (fun _ => Fo.none)
          refine Fo.ite (fun _ => ?_) (fun _ => ?_)
          · exact (ih _ _  q1898 (TE.tr ts e1899))
          · refine Fo.ite (fun c1906 => ?_) (fun _ => Fo.none)
            refine Fo.ite (fun _ => ?_) (fun _ => Fo.none)
            refine Fo.ite (fun _ => ?_) (fun _ => Fo.none)
            refine Fo.ite (fun _ => ?_) (fun _ => Fo.none)
            refine FC.lIp D q1898 (e1899 _ _ (by decide) c1891) (hq.2.1 (by decide)) (fun s23 q1910 e1911 => ?_)
            exact (ih _ _  q1910 (TE.tr (TE.tr ts e1899) e1911))
        · refine Fo.ite (fun c1912 => ?_) (fun _ => Fo.none)
          refine Fo.ite (fun _ => ?_) (fun _ => Fo.none)
          refine FC.lIp D q1898 (e1899 _ _ (by decide) c1891) (hq.2.1 (by decide)) (fun s26 q1914 e1915 => ?_)
          refine Fo.bind (fc_x4_meet (FL.tr (by decide) hq) D   q1914) (fun x28 q1916 => ?_)
          exact (ih _ _  q1916.1 (TE.tr (TE.tr (TE.tr ts e1899) e1915) q1916.2))
      · refine Fo.bind (fc_x4_leave (FL.tr (by decide) hq) D   hs) (fun x30 q1917 => ?_)
        refine Fo.ite (fun _ => ?_) (fun _ => ?_)
        · exact (ih _ _  q1917.1 (TE.tr ts q1917.2))
        · refine Fo.ite (fun c1919 => ?_) (fun _ => Fo.none)
          refine Fo.ite (fun _ => ?_) (fun _ => Fo.none)
          refine Fo.ite (fun _ => ?_) (fun _ => Fo.none)
          refine Fo.ite (fun c1922 => ?_) (fun _ => Fo.none)
          refine Fo.ite (fun _ => ?_) (fun _ => Fo.none)
          refine Fo.ite (fun _ => ?_) (fun _ => Fo.none)
          refine Fo.ite (fun _ => ?_) (fun _ => Fo.none)
          refine FC.lIp D q1917.1 (q1917.2 _ _ (by decide) c1891) (hq.2.1 (by decide)) (fun s38 q1926 e1927 => ?_)
          exact (ih _ _  q1926 (TE.tr (TE.tr ts q1917.2) e1927))
theorem fc_x4_walk {q : FQ} {σ0 : gMem} {N : Nat} {v0 : Nat} {v1 : Int} {σ : gMem} (hq : FL ([4], [(4, 1), (4, 2), (4, 3), (4, 4), (4, 5), (4, 6), (4, 7), (4, 8)], [], []) q) (D : FD q) (hσ : FC q σ0 σ) : Fo (fun r => FC q σ0 r ∧ TE σ r) (x4_walk N v0 v1 σ) := by
  unfold x4_walk
  refine Fo.ite (fun c1928 => ?_) (fun _ => Fo.none)
  refine Fo.ite (fun c1929 => ?_) (fun _ => Fo.none)
  refine Fo.ite (fun _ => ?_) (fun _ => Fo.none)
  refine FC.lIp D hσ c1928 (hq.2.1 (by decide)) (fun s3 q1931 e1932 => ?_)
  refine Fo.bind (fc_x4_meet (FL.tr (by decide) hq) D   q1931) (fun x5 q1933 => ?_)
  exact (fc_x4_walk_l14 (τ := σ) hq D  (fun s40 q1934 e1935 => by
      exact Fo.some ⟨q1934, e1935⟩) _ _ _  q1933.1 (TE.tr (TE.tr TE.rf e1932) q1933.2))
theorem fc_x6_sum_l10_j48 {q : FQ} {σ0 τ : gMem} {N : Nat} {W : Nat → gMem → Option gR} {v0 : Nat} {v1 : Nat} {t0 : Nat} {t1 : Nat} {Kh : Nat → Int → gMem → Option gR} {K : Nat → gMem → Option gR} {s : gMem} (hq : FL ([6], [], [], [20]) q) (D : FD q) (hW : ∀ (a0 : Nat) (a1 : gMem), FC q σ0 a1 → Fo (fun r => FC q σ0 r.2 ∧ TE a1 r.2) (W a0 a1)) (hKh : ∀ (a0 : Nat) (a1 : Int) (a2 : gMem), FC q σ0 a2 → TE τ a2 → Fo (fun r => FC q σ0 r.2 ∧ TE τ r.2) (Kh a0 a1 a2)) (hK : ∀ (a0 : Nat) (a1 : gMem), FC q σ0 a1 → TE τ a1 → Fo (fun r => FC q σ0 r.2 ∧ TE τ r.2) (K a0 a1)) (hs : FC q σ0 s) (ts : TE τ s) : Fo (fun r => FC q σ0 r.2 ∧ TE τ r.2) (x6_sum_l10_j48 N W v0 v1 t0 t1 Kh K s) := by
  unfold x6_sum_l10_j48
  refine Fo.ite (fun c1936 => ?_) (fun _ => Fo.none)
  refine Fo.bind (fc_x6_product hq D  hW hs) (fun p q1937 => ?_)
  refine Fo.gThrR ⟨q1937.1, (TE.tr ts q1937.2)⟩ (fun x13 s15 ys15 => ?_)
  subst ys15
  refine Fo.ite (fun c1938 => ?_) (fun _ => Fo.none)
  refine Fo.bind (fc_x6_two hq D   q1937.1) (fun x17 q1939 => ?_)
  refine Fo.bind (fc_x6_peek (FL.tr (by decide) hq) D   q1939.1) (fun x19 q1940 => ?_)
  exact (hKh _ _ _ q1940.1 (TE.tr (TE.tr (TE.tr ts q1937.2) q1939.2) q1940.2))
theorem fc_x6_sum_l10_j22 {q : FQ} {σ0 τ : gMem} {N : Nat} {W : Nat → gMem → Option gR} {v0 : Nat} {v1 : Nat} {v2 : Int} {Kh : Nat → Int → gMem → Option gR} {K : Nat → gMem → Option gR} {s : gMem} (hq : FL ([6], [], [], [20]) q) (D : FD q) (hW : ∀ (a0 : Nat) (a1 : gMem), FC q σ0 a1 → Fo (fun r => FC q σ0 r.2 ∧ TE a1 r.2) (W a0 a1)) (hKh : ∀ (a0 : Nat) (a1 : Int) (a2 : gMem), FC q σ0 a2 → TE τ a2 → Fo (fun r => FC q σ0 r.2 ∧ TE τ r.2) (Kh a0 a1 a2)) (hK : ∀ (a0 : Nat) (a1 : gMem), FC q σ0 a1 → TE τ a1 → Fo (fun r => FC q σ0 r.2 ∧ TE τ r.2) (K a0 a1)) (hs : FC q σ0 s) (ts : TE τ s) : Fo (fun r => FC q σ0 r.2 ∧ TE τ r.2) (x6_sum_l10_j22 N W v0 v1 v2 Kh K s) := by
  unfold x6_sum_l10_j22
  refine Fo.ite (fun c1941 => ?_) (fun _ => Fo.none)
  refine FC.lIo hs c1941 (hq.1 (by decide)) (fun s10 q1942 e1943 => ?_)
  refine Fo.ite (fun _ => ?_) (fun _ => ?_)
  · exact (fc_x6_sum_l10_j48 (τ := τ) hq D  hW hKh hK q1942 (TE.tr ts e1943))
  · exact (fc_x6_sum_l10_j48 (τ := τ) hq D  hW hKh hK q1942 (TE.tr ts e1943))
theorem fc_x6_sum_l10 {q : FQ} {σ0 τ : gMem} {N : Nat} {W : Nat → gMem → Option gR} {v0 : Nat} {K : Nat → gMem → Option gR} (hq : FL ([6], [], [], [20]) q) (D : FD q) (hW : ∀ (a0 : Nat) (a1 : gMem), FC q σ0 a1 → Fo (fun r => FC q σ0 r.2 ∧ TE a1 r.2) (W a0 a1)) (hK : ∀ (a0 : Nat) (a1 : gMem), FC q σ0 a1 → TE τ a1 → Fo (fun r => FC q σ0 r.2 ∧ TE τ r.2) (K a0 a1)) : ∀ (n : Nat) (z0 : Nat) (z1 : Int) (z2 : gMem), FC q σ0 z2 → TE τ z2 → Fo (fun r => FC q σ0 r.2 ∧ TE τ r.2) (x6_sum_l10 N W v0 K n z0 z1 z2) := by
  intro n
  induction n with
  | zero => intros; exact Fo.none
  | succ n ih =>
    intro v1 v2 s hs ts
    unfold x6_sum_l10
    refine Fo.ite (fun _ => ?_) (fun _ => ?_)
    · exact (fc_x6_sum_l10_j22 (τ := τ) hq D  hW (fun a0 a1 a2 b t => ih a0 a1 a2 b t) hK hs ts)
    · refine Fo.ite (fun _ => ?_) (fun _ => ?_)
      · exact (hK _ _ hs ts)
      · exact (fc_x6_sum_l10_j22 (τ := τ) hq D  hW (fun a0 a1 a2 b t => ih a0 a1 a2 b t) hK hs ts)
theorem fc_x6_sum {q : FQ} {σ0 : gMem} {N : Nat} {W : Nat → gMem → Option gR} {v0 : Nat} {σ : gMem} (hq : FL ([6], [], [], [20]) q) (D : FD q) (hW : ∀ (a0 : Nat) (a1 : gMem), FC q σ0 a1 → Fo (fun r => FC q σ0 r.2 ∧ TE a1 r.2) (W a0 a1)) (hσ : FC q σ0 σ) : Fo (fun r => FC q σ0 r.2 ∧ TE σ r.2) (x6_sum N W v0 σ) := by
  unfold x6_sum
  refine Fo.ite (fun c1947 => ?_) (fun _ => Fo.none)
  refine Fo.bind (fc_x6_product hq D  hW hσ) (fun p q1948 => ?_)
  refine Fo.gThrR ⟨q1948.1, (TE.tr TE.rf q1948.2)⟩ (fun x2 s4 ys4 => ?_)
  subst ys4
  refine Fo.bind (fc_x6_peek (FL.tr (by decide) hq) D   q1948.1) (fun x5 q1949 => ?_)
  exact (fc_x6_sum_l10 (τ := σ) hq D  hW (fun y22 s23 q1950 e1951 => by
      exact Fo.some ⟨q1950, e1951⟩) _ _ _ _  q1949.1 (TE.tr (TE.tr TE.rf q1948.2) q1949.2))
theorem fc_x9_lay {q : FQ} {σ0 : gMem} {N : Nat} {v0 : Nat} {v1 : Int} {v2 : Nat} {σ : gMem} (hq : FL ([110], [], [(8, 0), (8, 1), (8, 2)], [110, 111]) q) (D : FD q) (hσ : FC q σ0 σ) : Fo (fun r => FC q σ0 r ∧ TE σ r) (x9_lay N v0 v1 v2 σ) := by
  unfold x9_lay
  refine Fo.ite (fun _ => ?_) (fun _ => ?_)
  · refine Fo.ite (fun c1953 => ?_) (fun _ => Fo.none)
    refine Fo.bind (fc_x9_lay_2 hq D   hσ) (fun x2 q1954 => ?_)
    exact Fo.some ⟨q1954.1, (TE.tr TE.rf q1954.2)⟩
  · refine Fo.ite (fun c1955 => ?_) (fun _ => Fo.none)
    refine Fo.bind (fc_x9_lay_2 hq D   hσ) (fun x5 q1956 => ?_)
    exact Fo.some ⟨q1956.1, (TE.tr TE.rf q1956.2)⟩
theorem fc_dp_Part_write {q : FQ} {σ0 : gMem} {N : Nat} (hq : FL ([7], [(7, 0)], [], []) q) (D : FD q)  : ∀ (n : Nat) (z0 : Nat) (z1 : Nat) (z2 : Nat) (z3 : gMem), FC q σ0 z3 → Fo (fun r => FC q σ0 r ∧ TE z3 r) (dp_Part_write N n z0 z1 z2 z3) := by
  intro n
  induction n with
  | zero => intros; exact Fo.none
  | succ n ih =>
    intro a0 a1 a2 s hs
    unfold dp_Part_write
    refine Fo.ite (fun c1957 => ?_) (fun _ => ?_)
    · exact Fo.te TE.rf (fc_x13_write hq D   hs)
    · refine Fo.ite (fun c1958 => ?_) (fun _ => ?_)
      · exact Fo.te TE.rf (fc_x14_write hq D   hs)
      · refine Fo.ite (fun c1959 => ?_) (fun _ => ?_)
        · exact Fo.te TE.rf (fc_x18_write hq D   hs)
        · refine Fo.ite (fun c1960 => ?_) (fun _ => ?_)
          · exact Fo.te TE.rf (fc_x15_write hq D   hs)
          · refine Fo.ite (fun c1961 => ?_) (fun _ => ?_)
            · exact Fo.te TE.rf (fc_x17_write hq D   hs)
            · refine Fo.ite (fun c1962 => ?_) (fun _ => ?_)
              · exact Fo.te TE.rf (fc_x19_write hq D   hs)
              · refine Fo.ite (fun c1963 => ?_) (fun _ => ?_)
                · exact Fo.te TE.rf (fc_x21_write hq D  (fun a0 a1 a2 a3 b t => ih a0 a1 a2 a3 b t) hs)
                · refine Fo.ite (fun c1964 => ?_) (fun _ => ?_)
                  · exact Fo.te TE.rf (fc_x22_write hq D  (fun a0 a1 a2 a3 b t => ih a0 a1 a2 a3 b t) hs)
                  · refine Fo.ite (fun c1965 => ?_) (fun _ => Fo.none)
                    exact Fo.te TE.rf (fc_x20_write hq D  (fun a0 a1 a2 a3 b t => ih a0 a1 a2 a3 b t) hs)
theorem fc_x1_insert_j99 {q : FQ} {σ0 : gMem} {N : Nat} {v0 : Nat} {v1 : Int} {v2 : Int} {v3 : Nat} {v4 : Int} {s : gMem} (hq : FL ([110], [], [(8, 0), (8, 1), (8, 2)], [100, 110, 111]) q) (D : FD q) (hs : FC q σ0 s) : Fo (fun r => FC q σ0 r.2 ∧ TE s r.2) (x1_insert_j99 N v0 v1 v2 v3 v4 s) := by
  unfold x1_insert_j99
  refine Fo.ite (fun c1966 => ?_) (fun _ => Fo.none)
  refine Fo.bind (fc_x1_with (FL.tr (by decide) hq) D   hs) (fun x15 q1967 => ?_)
  refine Fo.ite (fun c1968 => ?_) (fun _ => Fo.none)
  refine Fo.bind (fc_x9_lay (FL.tr (by decide) hq) D   q1967.1) (fun x18 q1969 => ?_)
  refine Fo.ite (fun c1970 => ?_) (fun _ => Fo.none)
  exact Fo.some ⟨q1969.1, (TE.tr (TE.tr TE.rf q1967.2) q1969.2)⟩
theorem fc_x1_insert_j70 {q : FQ} {σ0 : gMem} {N : Nat} {v0 : Nat} {v1 : Int} {v2 : Int} {v3 : Nat} {t0 : Int} {s : gMem} (hq : FL ([1, 110], [], [(8, 0), (8, 1), (8, 2)], [100, 110, 111]) q) (D : FD q) (hs : FC q σ0 s) : Fo (fun r => FC q σ0 r.2 ∧ TE s r.2) (x1_insert_j70 N v0 v1 v2 v3 t0 s) := by
  unfold x1_insert_j70
  refine Fo.ite (fun _ => ?_) (fun _ => ?_)
  · refine Fo.ite (fun c1972 => ?_) (fun _ => Fo.none)
    refine FC.lIo hs c1972 (hq.1 (by decide)) (fun s12 q1973 e1974 => ?_)
    exact Fo.te (TE.tr TE.rf e1974) (fc_x1_insert_j99 (FL.tr (by decide) hq) D   q1973)
  · refine Fo.ite (fun c1975 => ?_) (fun _ => Fo.none)
    refine FC.lIo hs c1975 (hq.1 (by decide)) (fun s23 q1976 e1977 => ?_)
    exact Fo.te (TE.tr TE.rf e1977) (fc_x1_insert_j99 (FL.tr (by decide) hq) D   q1976)
theorem fc_x1_go {q : FQ} {σ0 : gMem} {N : Nat} {v0 : Nat} {v1 : Int} {σ : gMem} (hq : FL ([1, 111], [], [(1, 8)], [8, 100, 110, 111]) q) (D : FD q) (hσ : FC q σ0 σ) : Fo (fun r => FC q σ0 r.2 ∧ TE σ r.2) (x1_go N v0 v1 σ) := by
  unfold x1_go
  refine Fo.pure (fun x1 => ?_)
  refine Fo.ite (fun _ => ?_) (fun _ => ?_)
  · refine Fo.ite (fun c1979 => ?_) (fun _ => Fo.none)
    refine Fo.ite (fun c1980 => ?_) (fun _ => Fo.none)
    refine Fo.ite (fun _ => ?_) (fun _ => Fo.none)
    refine Fo.ite (fun _ => ?_) (fun _ => ?_)
    · refine Fo.pure (fun x6 => ?_)
      refine Fo.ite (fun _ => ?_) (fun _ => ?_)
      · exact Fo.some ⟨(FC.x hσ), (TE.tr TE.rf TE.x)⟩
      · refine Fo.pure (fun x8 => ?_)
        refine Fo.ite (fun c1984 => ?_) (fun _ => Fo.none)
        refine Fo.ite (fun _ => ?_) (fun _ => Fo.none)
        refine Fo.ite (fun c1986 => ?_) (fun _ => Fo.none)
        refine Fo.ite (fun c1987 => ?_) (fun _ => Fo.none)
        refine Fo.pure (fun x13 => ?_)
        refine Fo.ite (fun _ => ?_) (fun _ => ?_)
        · refine FC.lIo hσ c1979 (hq.1 (by decide)) (fun s15 q1989 e1990 => ?_)
          refine Fo.bind (fc_x1_take hq D   q1989) (fun x17 q1991 => ?_)
          refine Fo.pure (fun x19 => ?_)
          exact Fo.some ⟨q1991.1, (TE.tr (TE.tr TE.rf e1990) q1991.2)⟩
        · exact Fo.some ⟨(FC.x hσ), (TE.tr TE.rf TE.x)⟩
    · exact Fo.some ⟨(FC.x hσ), (TE.tr TE.rf TE.x)⟩
  · exact Fo.some ⟨(FC.x hσ), (TE.tr TE.rf TE.x)⟩
theorem fc_x1_choose_j156 {q : FQ} {σ0 : gMem} {N : Nat} {v0 : Nat} {v4 : Int} {t0 : Int} {t1 : Nat} {s : gMem} (hq : FL ([110], [], [(8, 0), (8, 1), (8, 2)], [100, 110, 111]) q) (D : FD q) (hs : FC q σ0 s) : Fo (fun r => FC q σ0 r.2 ∧ TE s r.2) (x1_choose_j156 N v0 v4 t0 t1 s) := by
  unfold x1_choose_j156
  refine Fo.pure (fun x18 => ?_)
  refine Fo.ite (fun _ => ?_) (fun _ => ?_)
  · refine Fo.ite (fun c1993 => ?_) (fun _ => Fo.none)
    refine Fo.pure (fun x21 => ?_)
    exact Fo.some ⟨hs, TE.rf⟩
  · refine Fo.ite (fun c1994 => ?_) (fun _ => Fo.none)
    refine Fo.ite (fun c1995 => ?_) (fun _ => Fo.none)
    refine Fo.pure (fun x25 => ?_)
    refine Fo.ite (fun c1996 => ?_) (fun _ => Fo.none)
    refine Fo.ite (fun _ => ?_) (fun _ => ?_)
    · refine Fo.pure (fun x27 => ?_)
      exact Fo.some ⟨hs, TE.rf⟩
    · refine Fo.pure (fun x29 => ?_)
      refine Fo.bind (fc_x1_without (FL.tr (by decide) hq) D   hs) (fun x30 q1998 => ?_)
      refine Fo.bind (fc_x9_lay (FL.tr (by decide) hq) D   q1998.1) (fun x32 q1999 => ?_)
      refine Fo.pure (fun x34 => ?_)
      exact Fo.some ⟨q1999.1, (TE.tr (TE.tr TE.rf q1998.2) q1999.2)⟩
theorem fc_x1_blame_l91_j169 {q : FQ} {σ0 τ : gMem} {N : Nat} {v0 : Nat} {v3 : Nat} {v4 : Int} {v5 : Int} {v6 : Int} {v9 : Int} {t0 : Int} {Kh : Int → Int → gMem → Option gR} {K : Int → gMem → Option gR} {s : gMem} (hq : FL ([], [], [], []) q) (D : FD q) (hKh : ∀ (a0 : Int) (a1 : Int) (a2 : gMem), FC q σ0 a2 → TE τ a2 → Fo (fun r => FC q σ0 r.2 ∧ TE τ r.2) (Kh a0 a1 a2)) (hK : ∀ (a0 : Int) (a1 : gMem), FC q σ0 a1 → TE τ a1 → Fo (fun r => FC q σ0 r.2 ∧ TE τ r.2) (K a0 a1)) (hs : FC q σ0 s) (ts : TE τ s) : Fo (fun r => FC q σ0 r.2 ∧ TE τ r.2) (x1_blame_l91_j169 N v0 v3 v4 v5 v6 v9 t0 Kh K s) := by
  unfold x1_blame_l91_j169
  refine Fo.ite (fun _ => ?_) (fun _ => ?_)
  · exact (hKh _ _ _ hs ts)
  · exact (hKh _ _ _ hs ts)
theorem fc_x1_blame_l91_j156 {q : FQ} {σ0 τ : gMem} {N : Nat} {v0 : Nat} {v3 : Nat} {v4 : Int} {v5 : Int} {v6 : Int} {t0 : Int} {Kh : Int → Int → gMem → Option gR} {K : Int → gMem → Option gR} {s : gMem} (hq : FL ([], [], [], []) q) (D : FD q) (hKh : ∀ (a0 : Int) (a1 : Int) (a2 : gMem), FC q σ0 a2 → TE τ a2 → Fo (fun r => FC q σ0 r.2 ∧ TE τ r.2) (Kh a0 a1 a2)) (hK : ∀ (a0 : Int) (a1 : gMem), FC q σ0 a1 → TE τ a1 → Fo (fun r => FC q σ0 r.2 ∧ TE τ r.2) (K a0 a1)) (hs : FC q σ0 s) (ts : TE τ s) : Fo (fun r => FC q σ0 r.2 ∧ TE τ r.2) (x1_blame_l91_j156 N v0 v3 v4 v5 v6 t0 Kh K s) := by
  unfold x1_blame_l91_j156
  refine Fo.ite (fun _ => ?_) (fun _ => ?_)
  · exact (fc_x1_blame_l91_j169 (τ := τ) hq D  hKh hK hs ts)
  · exact (fc_x1_blame_l91_j169 (τ := τ) hq D  hKh hK hs ts)
theorem fc_x1_blame_l91 {q : FQ} {σ0 τ : gMem} {N : Nat} {v0 : Nat} {v3 : Nat} {v4 : Int} {v5 : Int} {K : Int → gMem → Option gR} (hq : FL ([], [], [], []) q) (D : FD q) (hK : ∀ (a0 : Int) (a1 : gMem), FC q σ0 a1 → TE τ a1 → Fo (fun r => FC q σ0 r.2 ∧ TE τ r.2) (K a0 a1)) : ∀ (n : Nat) (z0 : Int) (z1 : Int) (z2 : gMem), FC q σ0 z2 → TE τ z2 → Fo (fun r => FC q σ0 r.2 ∧ TE τ r.2) (x1_blame_l91 N v0 v3 v4 v5 K n z0 z1 z2) := by
  intro n
  induction n with
  | zero => intros; exact Fo.none
  | succ n ih =>
    intro v6 v7 s hs ts
    unfold x1_blame_l91
    refine Fo.ite (fun _ => ?_) (fun _ => ?_)
    · exact (hK _ _ hs ts)
    · refine Fo.ite (fun c2003 => ?_) (fun _ => Fo.none)
      refine Fo.ite (fun c2004 => ?_) (fun _ => Fo.none)
      refine Fo.ite (fun _ => ?_) (fun _ => Fo.none)
      refine Fo.ite (fun c2006 => ?_) (fun _ => Fo.none)
      refine Fo.pure (fun x19 => ?_)
      refine Fo.ite (fun _ => ?_) (fun _ => ?_)
      · refine Fo.pure (fun x22 => ?_)
        refine Fo.ite (fun _ => ?_) (fun _ => ?_)
        · exact (fc_x1_blame_l91_j156 (τ := τ) hq D  (fun a0 a1 a2 b t => ih a0 a1 a2 b t) hK hs ts)
        · exact (fc_x1_blame_l91_j156 (τ := τ) hq D  (fun a0 a1 a2 b t => ih a0 a1 a2 b t) hK hs ts)
      · exact (fc_x1_blame_l91_j156 (τ := τ) hq D  (fun a0 a1 a2 b t => ih a0 a1 a2 b t) hK hs ts)
theorem fc_x1_blame {q : FQ} {σ0 : gMem} {N : Nat} {v0 : Nat} {v1 : Int} {v2 : Int} {σ : gMem} (hq : FL ([], [], [], []) q) (D : FD q) (hσ : FC q σ0 σ) : Fo (fun r => FC q σ0 r.2 ∧ TE σ r.2) (x1_blame N v0 v1 v2 σ) := by
  unfold x1_blame
  refine Fo.ite (fun c2009 => ?_) (fun _ => Fo.none)
  refine Fo.ite (fun c2010 => ?_) (fun _ => Fo.none)
  refine Fo.pure (fun x3 => ?_)
  refine Fo.ite (fun _ => ?_) (fun _ => ?_)
  · refine Fo.ite (fun c2012 => ?_) (fun _ => Fo.none)
    refine Fo.ite (fun _ => ?_) (fun _ => Fo.none)
    refine Fo.ite (fun c2014 => ?_) (fun _ => Fo.none)
    refine Fo.ite (fun _ => ?_) (fun _ => Fo.none)
    refine Fo.ite (fun c2016 => ?_) (fun _ => Fo.none)
    refine Fo.ite (fun _ => ?_) (fun _ => Fo.none)
    refine Fo.ite (fun c2018 => ?_) (fun _ => Fo.none)
    refine Fo.ite (fun _ => ?_) (fun _ => Fo.none)
    refine Fo.pure (fun x11 => ?_)
    refine Fo.pure (fun x13 => ?_)
    refine Fo.ite (fun _ => ?_) (fun _ => ?_)
    · exact (fc_x1_blame_l91 (τ := σ) hq D  (fun y26 s27 q2021 e2022 => by
      exact Fo.some ⟨q2021, e2022⟩) _ _ _ _  hσ TE.rf)
    · exact Fo.some ⟨hσ, TE.rf⟩
  · exact Fo.some ⟨(FC.x hσ), (TE.tr TE.rf TE.x)⟩
theorem fc_x20_work_j184 {q : FQ} {σ0 : gMem} {N : Nat} {W : Nat → Nat → Nat → gMem → Option gMem} {v0 : Nat} {v1 : Nat} {v2 : Nat} {s : gMem} (hq : FL ([3, 5], [(5, 3)], [], []) q) (D : FD q) (hW : ∀ (a0 : Nat) (a1 : Nat) (a2 : Nat) (a3 : gMem), FC q σ0 a3 → Fo (fun r => FC q σ0 r ∧ TE a3 r) (W a0 a1 a2 a3)) (hs : FC q σ0 s) : Fo (fun r => FC q σ0 r ∧ TE s r) (x20_work_j184 N W v0 v1 v2 s) := by
  unfold x20_work_j184
  refine Fo.ite (fun c2023 => ?_) (fun _ => Fo.none)
  refine Fo.ite (fun c2024 => ?_) (fun _ => Fo.none)
  refine Fo.ite (fun _ => ?_) (fun _ => Fo.none)
  refine Fo.bind (hW _ _ _ _ hs) (fun x30 q2026 => ?_)
  refine Fo.ite (fun _ => ?_) (fun _ => ?_)
  · refine Fo.ite (fun _ => ?_) (fun _ => ?_)
    · refine Fo.bind (fc_x20_cut hq D  hW q2026.1) (fun x32 q2029 => ?_)
      exact Fo.some ⟨q2029.1, (TE.tr (TE.tr TE.rf q2026.2) q2029.2)⟩
    · refine Fo.ite (fun _ => ?_) (fun _ => ?_)
      · refine Fo.ite (fun c2031 => ?_) (fun _ => Fo.none)
        refine Fo.pure (fun x35 => ?_)
        refine Fo.ite (fun _ => ?_) (fun _ => ?_)
        · exact Fo.some ⟨q2026.1, (TE.tr TE.rf q2026.2)⟩
        · refine Fo.bind (fc_x20_one (FL.tr (by decide) hq) D   q2026.1) (fun x37 q2033 => ?_)
          exact Fo.some ⟨q2033.1, (TE.tr (TE.tr TE.rf q2026.2) q2033.2)⟩
      · refine Fo.bind (fc_x20_cut hq D  hW q2026.1) (fun x39 q2034 => ?_)
        exact Fo.some ⟨q2034.1, (TE.tr (TE.tr TE.rf q2026.2) q2034.2)⟩
  · refine Fo.ite (fun c2035 => ?_) (fun _ => Fo.none)
    refine Fo.pure (fun x42 => ?_)
    refine Fo.bind (fc_x5_is (FL.tr (by decide) hq) D   q2026.1) (fun x44 q2036 => ?_)
    exact Fo.some ⟨q2036.1, (TE.tr (TE.tr TE.rf q2026.2) q2036.2)⟩
theorem fc_x20_work {q : FQ} {σ0 : gMem} {N : Nat} {W : Nat → Nat → Nat → gMem → Option gMem} {v0 : Nat} {v1 : Nat} {v2 : Nat} {σ : gMem} (hq : FL ([3, 5], [(5, 3)], [(3, 8)], []) q) (D : FD q) (hW : ∀ (a0 : Nat) (a1 : Nat) (a2 : Nat) (a3 : gMem), FC q σ0 a3 → Fo (fun r => FC q σ0 r ∧ TE a3 r) (W a0 a1 a2 a3)) (hσ : FC q σ0 σ) : Fo (fun r => FC q σ0 r ∧ TE σ r) (x20_work N W v0 v1 v2 σ) := by
  unfold x20_work
  refine Fo.ite (fun c2037 => ?_) (fun _ => Fo.none)
  refine Fo.ite (fun c2038 => ?_) (fun _ => Fo.none)
  refine Fo.ite (fun _ => ?_) (fun _ => ?_)
  · refine Fo.ite (fun c2040 => ?_) (fun _ => Fo.none)
    refine Fo.ite (fun _ => ?_) (fun _ => Fo.none)
    refine Fo.bind (hW _ _ _ _ hσ) (fun x6 q2042 => ?_)
    refine Fo.ite (fun c2043 => ?_) (fun _ => Fo.none)
    refine Fo.pure (fun x9 => ?_)
    refine Fo.ite (fun _ => ?_) (fun _ => ?_)
    · exact Fo.some ⟨q2042.1, (TE.tr TE.rf q2042.2)⟩
    · refine Fo.bind (fc_x5_wantTruth (FL.tr (by decide) hq) D   q2042.1) (fun x11 q2045 => ?_)
      refine Fo.ite (fun _ => ?_) (fun _ => ?_)
      · exact Fo.some ⟨q2045.1, (TE.tr (TE.tr TE.rf q2042.2) q2045.2)⟩
      · refine Fo.ite (fun _ => ?_) (fun _ => ?_)
        · refine Fo.ite (fun c2048 => ?_) (fun _ => Fo.none)
          refine Fo.ite (fun _ => ?_) (fun _ => Fo.none)
          refine Fo.bind (hW _ _ _ _ q2045.1) (fun x16 q2050 => ?_)
          exact Fo.some ⟨q2050.1, (TE.tr (TE.tr (TE.tr TE.rf q2042.2) q2045.2) q2050.2)⟩
        · refine Fo.ite (fun c2051 => ?_) (fun _ => Fo.none)
          refine Fo.ite (fun _ => ?_) (fun _ => Fo.none)
          refine Fo.bind (hW _ _ _ _ q2045.1) (fun x19 q2053 => ?_)
          exact Fo.some ⟨q2053.1, (TE.tr (TE.tr (TE.tr TE.rf q2042.2) q2045.2) q2053.2)⟩
  · refine Fo.ite (fun _ => ?_) (fun _ => ?_)
    · refine Fo.bind (fc_x20_truths hq D  hW hσ) (fun x22 q2055 => ?_)
      exact Fo.some ⟨q2055.1, (TE.tr TE.rf q2055.2)⟩
    · refine Fo.ite (fun _ => ?_) (fun _ => ?_)
      · refine Fo.bind (fc_x20_truths hq D  hW hσ) (fun x25 q2057 => ?_)
        exact Fo.some ⟨q2057.1, (TE.tr TE.rf q2057.2)⟩
      · refine Fo.ite (fun _ => ?_) (fun _ => ?_)
        · exact Fo.te TE.rf (fc_x20_work_j184 (FL.tr (by decide) hq) D  hW hσ)
        · refine Fo.ite (fun _ => ?_) (fun _ => ?_)
          · exact Fo.te TE.rf (fc_x20_work_j184 (FL.tr (by decide) hq) D  hW hσ)
          · refine Fo.ite (fun _ => ?_) (fun _ => ?_)
            · refine Fo.bind (fc_x20_numbers hq D  hW hσ) (fun x48 q2061 => ?_)
              exact Fo.some ⟨q2061.1, (TE.tr TE.rf q2061.2)⟩
            · refine Fo.ite (fun _ => ?_) (fun _ => ?_)
              · refine Fo.bind (fc_x20_numbers hq D  hW hσ) (fun x51 q2063 => ?_)
                exact Fo.some ⟨q2063.1, (TE.tr TE.rf q2063.2)⟩
              · refine Fo.ite (fun _ => ?_) (fun _ => ?_)
                · refine Fo.bind (fc_x20_numbers hq D  hW hσ) (fun x54 q2065 => ?_)
                  exact Fo.some ⟨q2065.1, (TE.tr TE.rf q2065.2)⟩
                · refine Fo.ite (fun _ => ?_) (fun _ => ?_)
                  · refine Fo.bind (fc_x20_numbers hq D  hW hσ) (fun x57 q2067 => ?_)
                    exact Fo.some ⟨q2067.1, (TE.tr TE.rf q2067.2)⟩
                  · refine Fo.ite (fun _ => ?_) (fun _ => ?_)
                    · exact Fo.te TE.rf (fc_x20_work_j184 (FL.tr (by decide) hq) D  hW hσ)
                    · refine Fo.ite (fun _ => ?_) (fun _ => ?_)
                      · exact Fo.te TE.rf (fc_x20_work_j184 (FL.tr (by decide) hq) D  hW hσ)
                      · refine Fo.ite (fun _ => ?_) (fun _ => ?_)
                        · exact Fo.te TE.rf (fc_x20_work_j184 (FL.tr (by decide) hq) D  hW hσ)
                        · refine Fo.ite (fun _ => ?_) (fun _ => ?_)
                          · refine Fo.bind (fc_x20_search hq D  hW hσ) (fun x63 q2072 => ?_)
                            exact Fo.some ⟨q2072.1, (TE.tr TE.rf q2072.2)⟩
                          · refine Fo.ite (fun _ => ?_) (fun _ => ?_)
                            · refine Fo.bind (fc_x20_search hq D  hW hσ) (fun x66 q2074 => ?_)
                              exact Fo.some ⟨q2074.1, (TE.tr TE.rf q2074.2)⟩
                            · refine Fo.ite (fun _ => ?_) (fun _ => ?_)
                              · refine Fo.bind (fc_x20_search hq D  hW hσ) (fun x69 q2076 => ?_)
                                exact Fo.some ⟨q2076.1, (TE.tr TE.rf q2076.2)⟩
                              · refine Fo.ite (fun _ => ?_) (fun _ => ?_)
                                · exact Fo.te TE.rf (fc_x20_work_j184 (FL.tr (by decide) hq) D  hW hσ)
                                · refine Fo.ite (fun _ => ?_) (fun _ => ?_)
                                  · refine Fo.bind (fc_x20_place (FL.tr (by decide) hq) D   hσ) (fun x73 q2079 => ?_)
                                    exact Fo.some ⟨q2079.1, (TE.tr TE.rf q2079.2)⟩
                                  · refine Fo.ite (fun _ => ?_) (fun _ => ?_)
                                    · refine Fo.bind (fc_x20_place (FL.tr (by decide) hq) D   hσ) (fun x76 q2081 => ?_)
                                      exact Fo.some ⟨q2081.1, (TE.tr TE.rf q2081.2)⟩
                                    · exact Fo.te TE.rf (fc_x20_work_j184 (FL.tr (by decide) hq) D  hW hσ)
theorem fc_x23_write {q : FQ} {σ0 : gMem} {N : Nat} {v0 : Nat} {v1 : Nat} {v2 : Nat} {σ : gMem} (hq : FL ([7], [(7, 0)], [], []) q) (D : FD q) (hσ : FC q σ0 σ) : Fo (fun r => FC q σ0 r ∧ TE σ r) (x23_write N v0 v1 v2 σ) := by
  unfold x23_write
  refine Fo.ite (fun c2082 => ?_) (fun _ => Fo.none)
  refine Fo.bind (fc_x8_begin hq D   hσ) (fun x2 q2083 => ?_)
  refine Fo.ite (fun c2084 => ?_) (fun _ => Fo.none)
  refine Fo.bind (fc_dp_Part_write hq D   _ _ _ _ _  q2083.1) (fun x5 q2085 => ?_)
  exact Fo.some ⟨q2085.1, (TE.tr (TE.tr TE.rf q2083.2) q2085.2)⟩
theorem fc_x4_find_l2 {q : FQ} {σ0 τ : gMem} {N : Nat} {v0 : Nat} {v1 : Nat} {K : gMem → Option gMem} (hq : FL ([], [(4, 0)], [], []) q) (D : FD q) (hK : ∀ (a0 : gMem), FC q σ0 a0 → TE τ a0 → Fo (fun r => FC q σ0 r ∧ TE τ r) (K a0)) : ∀ (n : Nat) (z0 : Int) (z1 : gMem), FC q σ0 z1 → TE τ z1 → Fo (fun r => FC q σ0 r ∧ TE τ r) (x4_find_l2 N v0 v1 K n z0 z1) := by
  intro n
  induction n with
  | zero => intros; exact Fo.none
  | succ n ih =>
    intro v2 s hs ts
    unfold x4_find_l2
    refine Fo.ite (fun c2086 => ?_) (fun _ => Fo.none)
    refine Fo.ite (fun c2087 => ?_) (fun _ => Fo.none)
    refine Fo.ite (fun _ => ?_) (fun _ => ?_)
    · exact (hK _ hs ts)
    · refine Fo.ite (fun _ => ?_) (fun _ => Fo.none)
      refine FC.lLp D hs c2086 (hq.2.1 (by decide)) (fun s3 q2090 e2091 => ?_)
      exact (ih _ _  q2090 (TE.tr ts e2091))
theorem fc_x4_find_l37_j91 {q : FQ} {σ0 τ : gMem} {N : Nat} {v0 : Nat} {v1 : Nat} {v2 : Int} {v3 : Int} {Kh : Int → gMem → Option gMem} {K : gMem → Option gMem} {s : gMem} (hq : FL ([], [], [], []) q) (D : FD q) (hKh : ∀ (a0 : Int) (a1 : gMem), FC q σ0 a1 → TE τ a1 → Fo (fun r => FC q σ0 r ∧ TE τ r) (Kh a0 a1)) (hK : ∀ (a0 : gMem), FC q σ0 a0 → TE τ a0 → Fo (fun r => FC q σ0 r ∧ TE τ r) (K a0)) (hs : FC q σ0 s) (ts : TE τ s) : Fo (fun r => FC q σ0 r ∧ TE τ r) (x4_find_l37_j91 N v0 v1 v2 v3 Kh K s) := by
  unfold x4_find_l37_j91
  exact (hKh _ _ hs ts)
theorem fc_x4_find_l37 {q : FQ} {σ0 τ : gMem} {N : Nat} {v0 : Nat} {v1 : Nat} {v2 : Int} {K : gMem → Option gMem} (hq : FL ([4], [(4, 0)], [], []) q) (D : FD q) (hK : ∀ (a0 : gMem), FC q σ0 a0 → TE τ a0 → Fo (fun r => FC q σ0 r ∧ TE τ r) (K a0)) : ∀ (n : Nat) (z0 : Int) (z1 : gMem), FC q σ0 z1 → TE τ z1 → Fo (fun r => FC q σ0 r ∧ TE τ r) (x4_find_l37 N v0 v1 v2 K n z0 z1) := by
  intro n
  induction n with
  | zero => intros; exact Fo.none
  | succ n ih =>
    intro v3 s hs ts
    unfold x4_find_l37
    refine Fo.ite (fun c2092 => ?_) (fun _ => Fo.none)
    refine Fo.ite (fun c2093 => ?_) (fun _ => Fo.none)
    refine Fo.ite (fun _ => ?_) (fun _ => ?_)
    · exact (hK _ hs ts)
    · refine Fo.ite (fun c2095 => ?_) (fun _ => Fo.none)
      refine FC.lIo hs c2095 (hq.1 (by decide)) (fun s11 q2096 e2097 => ?_)
      refine Fo.ite (fun c2098 => ?_) (fun _ => Fo.none)
      refine Fo.ite (fun _ => ?_) (fun _ => Fo.none)
      refine Fo.ite (fun c2100 => ?_) (fun _ => Fo.none)
      refine Fo.ite (fun _ => ?_) (fun _ => Fo.none)
      refine Fo.ite (fun _ => ?_) (fun _ => Fo.none)
      refine Fo.ite (fun c2103 => ?_) (fun _ => ?_)
      · refine Fo.ite (fun _ => ?_) (fun _ => Fo.none)
        refine Fo.ite (fun _ => ?_) (fun _ => Fo.none)
        refine Fo.ite (fun _ => ?_) (fun _ => Fo.none)
        refine Fo.ite (fun c2107 => ?_) (fun _ => Fo.none)
        refine Fo.bind (fc_dp_Part_leads (FL.tr (by decide) hq) D   _ _ _ _ _  q2096) (fun x18 q2108 => ?_)
        exact (fc_x4_find_l37_j91 (τ := τ) (FL.tr (by decide) hq) D  (fun a0 a1 b t => ih a0 a1 b t) hK q2108.1 (TE.tr (TE.tr ts e2097) q2108.2))
      · exact (fc_x4_find_l37_j91 (τ := τ) (FL.tr (by decide) hq) D  (fun a0 a1 b t => ih a0 a1 b t) hK q2096 (TE.tr ts e2097))
theorem fc_x4_find_l26 {q : FQ} {σ0 τ : gMem} {N : Nat} {v0 : Nat} {v1 : Nat} {K : gMem → Option gMem} (hq : FL ([4], [(4, 0)], [], []) q) (D : FD q) (hK : ∀ (a0 : gMem), FC q σ0 a0 → TE τ a0 → Fo (fun r => FC q σ0 r ∧ TE τ r) (K a0)) : ∀ (n : Nat) (z0 : Int) (z1 : gMem), FC q σ0 z1 → TE τ z1 → Fo (fun r => FC q σ0 r ∧ TE τ r) (x4_find_l26 N v0 v1 K n z0 z1) := by
  intro n
  induction n with
  | zero => intros; exact Fo.none
  | succ n ih =>
    intro v2 s hs ts
    unfold x4_find_l26
    refine Fo.ite (fun c2109 => ?_) (fun _ => Fo.none)
    refine Fo.ite (fun c2110 => ?_) (fun _ => Fo.none)
    refine Fo.ite (fun _ => ?_) (fun _ => ?_)
    · exact (hK _ hs ts)
    · exact (fc_x4_find_l37 (τ := τ) hq D  (fun s20 q2112 e2113 => by
      exact (ih _ _  q2112 e2113)) _ _ _  hs ts)
theorem fc_x4_find_l120 {q : FQ} {σ0 τ : gMem} {N : Nat} {v0 : Nat} {v1 : Nat} {K : gMem → Option gMem} (hq : FL ([], [(4, 2), (4, 7), (4, 8)], [], []) q) (D : FD q) (hK : ∀ (a0 : gMem), FC q σ0 a0 → TE τ a0 → Fo (fun r => FC q σ0 r ∧ TE τ r) (K a0)) : ∀ (n : Nat) (z0 : Int) (z1 : gMem), FC q σ0 z1 → TE τ z1 → Fo (fun r => FC q σ0 r ∧ TE τ r) (x4_find_l120 N v0 v1 K n z0 z1) := by
  intro n
  induction n with
  | zero => intros; exact Fo.none
  | succ n ih =>
    intro v2 s hs ts
    unfold x4_find_l120
    refine Fo.ite (fun _ => ?_) (fun _ => ?_)
    · exact (hK _ hs ts)
    · refine Fo.ite (fun c2115 => ?_) (fun _ => Fo.none)
      refine Fo.ite (fun c2116 => ?_) (fun _ => Fo.none)
      refine Fo.ite (fun _ => ?_) (fun _ => Fo.none)
      refine FC.lIp D hs c2115 (hq.2.1 (by decide)) (fun s31 q2118 e2119 => ?_)
      refine Fo.ite (fun c2120 => ?_) (fun _ => Fo.none)
      refine Fo.ite (fun _ => ?_) (fun _ => Fo.none)
      refine FC.lIp D q2118 (e2119 _ _ (by decide) c2115) (hq.2.1 (by decide)) (fun s34 q2122 e2123 => ?_)
      refine Fo.ite (fun c2124 => ?_) (fun _ => Fo.none)
      refine Fo.ite (fun _ => ?_) (fun _ => Fo.none)
      refine FC.lIp D q2122 (e2123 _ _ (by decide) (e2119 _ _ (by decide) c2115)) (hq.2.1 (by decide)) (fun s37 q2126 e2127 => ?_)
      exact (ih _ _  q2126 (TE.tr (TE.tr (TE.tr ts e2119) e2123) e2127))
theorem fc_x4_find_l167_j201 {q : FQ} {σ0 τ : gMem} {N : Nat} {v0 : Nat} {v1 : Nat} {v2 : Int} {v3 : Int} {Kh : Int → gMem → Option gMem} {K : gMem → Option gMem} {s : gMem} (hq : FL ([], [], [], []) q) (D : FD q) (hKh : ∀ (a0 : Int) (a1 : gMem), FC q σ0 a1 → TE τ a1 → Fo (fun r => FC q σ0 r ∧ TE τ r) (Kh a0 a1)) (hK : ∀ (a0 : gMem), FC q σ0 a0 → TE τ a0 → Fo (fun r => FC q σ0 r ∧ TE τ r) (K a0)) (hs : FC q σ0 s) (ts : TE τ s) : Fo (fun r => FC q σ0 r ∧ TE τ r) (x4_find_l167_j201 N v0 v1 v2 v3 Kh K s) := by
  unfold x4_find_l167_j201
  exact (hKh _ _ hs ts)
theorem fc_x4_find_l167 {q : FQ} {σ0 τ : gMem} {N : Nat} {v0 : Nat} {v1 : Nat} {v2 : Int} {K : gMem → Option gMem} (hq : FL ([4], [(4, 1), (4, 2), (4, 3), (4, 4), (4, 5), (4, 6), (4, 7), (4, 8)], [], []) q) (D : FD q) (hK : ∀ (a0 : gMem), FC q σ0 a0 → TE τ a0 → Fo (fun r => FC q σ0 r ∧ TE τ r) (K a0)) : ∀ (n : Nat) (z0 : Int) (z1 : gMem), FC q σ0 z1 → TE τ z1 → Fo (fun r => FC q σ0 r ∧ TE τ r) (x4_find_l167 N v0 v1 v2 K n z0 z1) := by
  intro n
  induction n with
  | zero => intros; exact Fo.none
  | succ n ih =>
    intro v3 s hs ts
    unfold x4_find_l167
    refine Fo.ite (fun c2128 => ?_) (fun _ => Fo.none)
    refine Fo.ite (fun c2129 => ?_) (fun _ => Fo.none)
    refine Fo.ite (fun _ => ?_) (fun _ => ?_)
    · exact (hK _ hs ts)
    · refine Fo.ite (fun c2131 => ?_) (fun _ => Fo.none)
      refine Fo.ite (fun c2132 => ?_) (fun _ => Fo.none)
      refine Fo.ite (fun _ => ?_) (fun _ => Fo.none)
      refine Fo.ite (fun _ => ?_) (fun _ => ?_)
      · exact (fc_x4_find_l167_j201 (τ := τ) (FL.tr (by decide) hq) D  (fun a0 a1 b t => ih a0 a1 b t) hK hs ts)
      · refine Fo.bind (fc_x4_walk hq D   hs) (fun x47 q2135 => ?_)
        exact (fc_x4_find_l167_j201 (τ := τ) (FL.tr (by decide) hq) D  (fun a0 a1 b t => ih a0 a1 b t) hK q2135.1 (TE.tr ts q2135.2))
theorem fc_x4_find_l156 {q : FQ} {σ0 τ : gMem} {N : Nat} {v0 : Nat} {v1 : Nat} {K : gMem → Option gMem} (hq : FL ([4], [(4, 1), (4, 2), (4, 3), (4, 4), (4, 5), (4, 6), (4, 7), (4, 8)], [], []) q) (D : FD q) (hK : ∀ (a0 : gMem), FC q σ0 a0 → TE τ a0 → Fo (fun r => FC q σ0 r ∧ TE τ r) (K a0)) : ∀ (n : Nat) (z0 : Int) (z1 : gMem), FC q σ0 z1 → TE τ z1 → Fo (fun r => FC q σ0 r ∧ TE τ r) (x4_find_l156 N v0 v1 K n z0 z1) := by
  intro n
  induction n with
  | zero => intros; exact Fo.none
  | succ n ih =>
    intro v2 s hs ts
    unfold x4_find_l156
    refine Fo.ite (fun c2136 => ?_) (fun _ => Fo.none)
    refine Fo.ite (fun c2137 => ?_) (fun _ => Fo.none)
    refine Fo.ite (fun _ => ?_) (fun _ => ?_)
    · exact (hK _ hs ts)
    · exact (fc_x4_find_l167 (τ := τ) hq D  (fun s49 q2139 e2140 => by
      exact (ih _ _  q2139 e2140)) _ _ _  hs ts)
theorem fc_x4_find {q : FQ} {σ0 : gMem} {N : Nat} {v0 : Nat} {v1 : Nat} {σ : gMem} (hq : FL ([4], [(4, 0), (4, 1), (4, 2), (4, 3), (4, 4), (4, 5), (4, 6), (4, 7), (4, 8)], [], []) q) (D : FD q) (hσ : FC q σ0 σ) : Fo (fun r => FC q σ0 r ∧ TE σ r) (x4_find N v0 v1 σ) := by
  unfold x4_find
  exact (fc_x4_find_l2 (τ := σ) (FL.tr (by decide) hq) D  (fun s5 q2141 e2142 => by
      exact (fc_x4_find_l26 (τ := σ) (FL.tr (by decide) hq) D  (fun s21 q2143 e2144 => by
        refine Fo.ite (fun c2145 => ?_) (fun _ => Fo.none)
        refine FC.lIo q2143 c2145 (hq.1 (by decide)) (fun s23 q2146 e2147 => ?_)
        refine FC.lIo q2146 (e2147 _ _ (by decide) c2145) (hq.1 (by decide)) (fun s25 q2148 e2149 => ?_)
        refine FC.lIo q2148 (e2149 _ _ (by decide) (e2147 _ _ (by decide) c2145)) (hq.1 (by decide)) (fun s27 q2150 e2151 => ?_)
        exact (fc_x4_find_l120 (τ := σ) (FL.tr (by decide) hq) D  (fun s39 q2152 e2153 => by
          exact (fc_x4_find_l156 (τ := σ) (FL.tr (by decide) hq) D  (fun s50 q2154 e2155 => by
            exact Fo.some ⟨q2154, e2155⟩) _ _ _  q2152 e2153)) _ _ _  q2150 (TE.tr (TE.tr (TE.tr e2144 e2147) e2149) e2151))) _ _ _  q2141 e2142)) _ _ _  hσ TE.rf)
theorem fc_x6_chain_l5 {q : FQ} {σ0 τ : gMem} {N : Nat} {W : Nat → gMem → Option gR} {v0 : Nat} {K : Nat → gMem → Option gR} (hq : FL ([6], [], [], [20]) q) (D : FD q) (hW : ∀ (a0 : Nat) (a1 : gMem), FC q σ0 a1 → Fo (fun r => FC q σ0 r.2 ∧ TE a1 r.2) (W a0 a1)) (hK : ∀ (a0 : Nat) (a1 : gMem), FC q σ0 a1 → TE τ a1 → Fo (fun r => FC q σ0 r.2 ∧ TE τ r.2) (K a0 a1)) : ∀ (n : Nat) (z0 : Nat) (z1 : gMem), FC q σ0 z1 → TE τ z1 → Fo (fun r => FC q σ0 r.2 ∧ TE τ r.2) (x6_chain_l5 N W v0 K n z0 z1) := by
  intro n
  induction n with
  | zero => intros; exact Fo.none
  | succ n ih =>
    intro v1 s hs ts
    unfold x6_chain_l5
    refine Fo.ite (fun c2156 => ?_) (fun _ => Fo.none)
    refine Fo.bind (fc_x6_peek (FL.tr (by decide) hq) D   hs) (fun x6 q2157 => ?_)
    refine Fo.ite (fun _ => ?_) (fun _ => ?_)
    · exact (hK _ _ q2157.1 (TE.tr ts q2157.2))
    · refine FC.lIo q2157.1 (q2157.2 _ _ (by decide) c2156) (hq.1 (by decide)) (fun s10 q2159 e2160 => ?_)
      refine Fo.bind (fc_x6_sum hq D  hW q2159) (fun p q2161 => ?_)
      refine Fo.gThrR ⟨q2161.1, (TE.tr (TE.tr (TE.tr ts q2157.2) e2160) q2161.2)⟩ (fun x12 s14 ys14 => ?_)
      subst ys14
      refine Fo.bind (fc_x6_two hq D   q2161.1) (fun x15 q2162 => ?_)
      exact (ih _ _  q2162.1 (TE.tr (TE.tr (TE.tr (TE.tr ts q2157.2) e2160) q2161.2) q2162.2))
theorem fc_x6_chain {q : FQ} {σ0 : gMem} {N : Nat} {W : Nat → gMem → Option gR} {v0 : Nat} {σ : gMem} (hq : FL ([6], [], [], [20]) q) (D : FD q) (hW : ∀ (a0 : Nat) (a1 : gMem), FC q σ0 a1 → Fo (fun r => FC q σ0 r.2 ∧ TE a1 r.2) (W a0 a1)) (hσ : FC q σ0 σ) : Fo (fun r => FC q σ0 r.2 ∧ TE σ r.2) (x6_chain N W v0 σ) := by
  unfold x6_chain
  refine Fo.ite (fun c2163 => ?_) (fun _ => Fo.none)
  refine Fo.bind (fc_x6_sum hq D  hW hσ) (fun p q2164 => ?_)
  refine Fo.gThrR ⟨q2164.1, (TE.tr TE.rf q2164.2)⟩ (fun x2 s4 ys4 => ?_)
  subst ys4
  exact (fc_x6_chain_l5 (τ := σ) hq D  hW (fun y17 s18 q2165 e2166 => by
      exact Fo.some ⟨q2165, e2166⟩) _ _ _  q2164.1 (TE.tr TE.rf q2164.2))
theorem fc_dp_Content_write {q : FQ} {σ0 : gMem} {N : Nat} {a0 : Nat} {a1 : Nat} {a2 : Nat} {s : gMem} (hq : FL ([7], [(7, 0)], [], []) q) (D : FD q) (hs : FC q σ0 s) : Fo (fun r => FC q σ0 r ∧ TE s r) (dp_Content_write N a0 a1 a2 s) := by
  unfold dp_Content_write
  refine Fo.ite (fun c2167 => ?_) (fun _ => ?_)
  · exact Fo.te TE.rf (fc_x13_write hq D   hs)
  · refine Fo.ite (fun c2168 => ?_) (fun _ => ?_)
    · exact Fo.te TE.rf (fc_x14_write hq D   hs)
    · refine Fo.ite (fun c2169 => ?_) (fun _ => ?_)
      · exact Fo.te TE.rf (fc_x18_write hq D   hs)
      · refine Fo.ite (fun c2170 => ?_) (fun _ => Fo.none)
        exact Fo.te TE.rf (fc_x23_write hq D   hs)
theorem fc_dp_Part_work {q : FQ} {σ0 : gMem} {N : Nat} (hq : FL ([3, 5], [(5, 3)], [(3, 8)], []) q) (D : FD q)  : ∀ (n : Nat) (z0 : Nat) (z1 : Nat) (z2 : Nat) (z3 : gMem), FC q σ0 z3 → Fo (fun r => FC q σ0 r ∧ TE z3 r) (dp_Part_work N n z0 z1 z2 z3) := by
  intro n
  induction n with
  | zero => intros; exact Fo.none
  | succ n ih =>
    intro a0 a1 a2 s hs
    unfold dp_Part_work
    refine Fo.ite (fun c2171 => ?_) (fun _ => ?_)
    · exact Fo.te TE.rf (fc_x13_work (FL.tr (by decide) hq) D   hs)
    · refine Fo.ite (fun c2172 => ?_) (fun _ => ?_)
      · exact Fo.te TE.rf (fc_x14_work (FL.tr (by decide) hq) D   hs)
      · refine Fo.ite (fun c2173 => ?_) (fun _ => ?_)
        · exact Fo.te TE.rf (fc_x18_work (FL.tr (by decide) hq) D   hs)
        · refine Fo.ite (fun c2174 => ?_) (fun _ => ?_)
          · exact Fo.te TE.rf (fc_x15_work (FL.tr (by decide) hq) D   hs)
          · refine Fo.ite (fun c2175 => ?_) (fun _ => ?_)
            · exact Fo.te TE.rf (fc_x17_work (FL.tr (by decide) hq) D   hs)
            · refine Fo.ite (fun c2176 => ?_) (fun _ => ?_)
              · exact Fo.te TE.rf (fc_x19_work (FL.tr (by decide) hq) D   hs)
              · refine Fo.ite (fun c2177 => ?_) (fun _ => ?_)
                · exact Fo.te TE.rf (fc_x21_work (FL.tr (by decide) hq) D  (fun a0 a1 a2 a3 b t => ih a0 a1 a2 a3 b t) hs)
                · refine Fo.ite (fun c2178 => ?_) (fun _ => ?_)
                  · exact Fo.te TE.rf (fc_x22_work (FL.tr (by decide) hq) D  (fun a0 a1 a2 a3 b t => ih a0 a1 a2 a3 b t) hs)
                  · refine Fo.ite (fun c2179 => ?_) (fun _ => Fo.none)
                    exact Fo.te TE.rf (fc_x20_work hq D  (fun a0 a1 a2 a3 b t => ih a0 a1 a2 a3 b t) hs)
theorem fc_x1_written_j59 {q : FQ} {σ0 : gMem} {N : Nat} {v0 : Nat} {v4 : Int} {s : gMem} (hq : FL ([], [], [], []) q) (D : FD q) (hs : FC q σ0 s) : Fo (fun r => FC q σ0 r.2 ∧ TE s r.2) (x1_written_j59 N v0 v4 s) := by
  unfold x1_written_j59
  refine Fo.ite (fun _ => ?_) (fun _ => ?_)
  · exact Fo.some ⟨hs, TE.rf⟩
  · refine Fo.ite (fun c2181 => ?_) (fun _ => Fo.none)
    refine Fo.ite (fun c2182 => ?_) (fun _ => Fo.none)
    refine Fo.ite (fun _ => ?_) (fun _ => ?_)
    · exact Fo.some ⟨hs, TE.rf⟩
    · refine Fo.ite (fun c2184 => ?_) (fun _ => Fo.none)
      refine Fo.ite (fun _ => ?_) (fun _ => Fo.none)
      exact Fo.some ⟨hs, TE.rf⟩
theorem fc_x1_written {q : FQ} {σ0 : gMem} {N : Nat} {v0 : Nat} {v1 : Int} {v2 : Int} {v3 : Int} {v4 : Int} {σ : gMem} (hq : FL ([7], [(7, 0)], [], []) q) (D : FD q) (hσ : FC q σ0 σ) : Fo (fun r => FC q σ0 r.2 ∧ TE σ r.2) (x1_written N v0 v1 v2 v3 v4 σ) := by
  unfold x1_written
  refine Fo.ite (fun c2186 => ?_) (fun _ => Fo.none)
  refine Fo.pure (fun x2 => ?_)
  refine Fo.ite (fun _ => ?_) (fun _ => ?_)
  · refine Fo.pure (fun x4 => ?_)
    refine Fo.ite (fun c2188 => ?_) (fun _ => Fo.none)
    refine Fo.ite (fun c2189 => ?_) (fun _ => Fo.none)
    refine Fo.ite (fun _ => ?_) (fun _ => Fo.none)
    refine Fo.ite (fun c2191 => ?_) (fun _ => Fo.none)
    refine Fo.ite (fun _ => ?_) (fun _ => Fo.none)
    refine Fo.ite (fun c2193 => ?_) (fun _ => Fo.none)
    refine Fo.bind (fc_x8_clear (FL.tr (by decide) hq) D   hσ) (fun x9 q2194 => ?_)
    refine Fo.ite (fun _ => ?_) (fun _ => ?_)
    · exact Fo.te (TE.tr TE.rf q2194.2) (fc_x1_written_j59 (FL.tr (by decide) hq) D   q2194.1)
    · refine Fo.bind (fc_dp_Content_write hq D   q2194.1) (fun x16 q2196 => ?_)
      exact Fo.te (TE.tr (TE.tr TE.rf q2194.2) q2196.2) (fc_x1_written_j59 (FL.tr (by decide) hq) D   q2196.1)
  · exact Fo.some ⟨hσ, TE.rf⟩
theorem fc_x25_marks_l71_j108 {q : FQ} {σ0 τ : gMem} {N : Nat} {v0 : Nat} {v1 : Int} {v2 : Nat} {v4 : Nat} {v5 : Nat} {v6 : Nat} {v7 : Int} {v8 : Int} {Kh : Int → Int → gMem → Option (Nat × gMem)} {K : Int → gMem → Option (Nat × gMem)} {s : gMem} (hq : FL ([], [], [], []) q) (D : FD q) (hKh : ∀ (a0 : Int) (a1 : Int) (a2 : gMem), FC q σ0 a2 → TE τ a2 → Fo (fun r => FC q σ0 r.2 ∧ TE τ r.2) (Kh a0 a1 a2)) (hK : ∀ (a0 : Int) (a1 : gMem), FC q σ0 a1 → TE τ a1 → Fo (fun r => FC q σ0 r.2 ∧ TE τ r.2) (K a0 a1)) (hs : FC q σ0 s) (ts : TE τ s) : Fo (fun r => FC q σ0 r.2 ∧ TE τ r.2) (x25_marks_l71_j108 N v0 v1 v2 v4 v5 v6 v7 v8 Kh K s) := by
  unfold x25_marks_l71_j108
  exact (hKh _ _ _ hs ts)
theorem fc_x25_marks_l71 {q : FQ} {σ0 τ : gMem} {N : Nat} {v0 : Nat} {v1 : Int} {v2 : Nat} {v4 : Nat} {v5 : Nat} {v6 : Nat} {K : Int → gMem → Option (Nat × gMem)} (hq : FL ([], [], [], []) q) (D : FD q) (gv6 : mZ σ0 ≤ v6) (hK : ∀ (a0 : Int) (a1 : gMem), FC q σ0 a1 → TE τ a1 → Fo (fun r => FC q σ0 r.2 ∧ TE τ r.2) (K a0 a1)) : ∀ (n : Nat) (z0 : Int) (z1 : Int) (z2 : gMem), FC q σ0 z2 → TE τ z2 → Fo (fun r => FC q σ0 r.2 ∧ TE τ r.2) (x25_marks_l71 N v0 v1 v2 v4 v5 v6 K n z0 z1 z2) := by
  intro n
  induction n with
  | zero => intros; exact Fo.none
  | succ n ih =>
    intro v7 v8 s hs ts
    unfold x25_marks_l71
    refine Fo.ite (fun c2197 => ?_) (fun _ => Fo.none)
    refine Fo.ite (fun _ => ?_) (fun _ => ?_)
    · exact (hK _ _ hs ts)
    · refine Fo.ite (fun _ => ?_) (fun _ => Fo.none)
      refine Fo.ite (fun c2200 => ?_) (fun _ => Fo.none)
      refine Fo.pure (fun x18 => ?_)
      refine Fo.ite (fun _ => ?_) (fun _ => ?_)
      · refine Fo.ite (fun _ => ?_) (fun _ => Fo.none)
        refine Fo.ite (fun c2203 => ?_) (fun _ => Fo.none)
        refine Fo.ite (fun _ => ?_) (fun _ => Fo.none)
        refine FC.lIf D hs gv6 (fun s22 q2205 e2206 => ?_)
        exact (fc_x25_marks_l71_j108 (τ := τ) hq D  (fun a0 a1 a2 b t => ih a0 a1 a2 b t) hK q2205 (TE.tr ts e2206))
      · exact (fc_x25_marks_l71_j108 (τ := τ) hq D  (fun a0 a1 a2 b t => ih a0 a1 a2 b t) hK hs ts)
theorem fc_x25_marks_l117_j209 {q : FQ} {σ0 τ : gMem} {N : Nat} {v0 : Nat} {v1 : Int} {v2 : Nat} {v5 : Nat} {v6 : Nat} {v7 : Int} {v8 : Int} {Kh : Int → Int → gMem → Option (Nat × gMem)} {K : Int → gMem → Option (Nat × gMem)} {s : gMem} (hq : FL ([], [], [], []) q) (D : FD q) (hKh : ∀ (a0 : Int) (a1 : Int) (a2 : gMem), FC q σ0 a2 → TE τ a2 → Fo (fun r => FC q σ0 r.2 ∧ TE τ r.2) (Kh a0 a1 a2)) (hK : ∀ (a0 : Int) (a1 : gMem), FC q σ0 a1 → TE τ a1 → Fo (fun r => FC q σ0 r.2 ∧ TE τ r.2) (K a0 a1)) (hs : FC q σ0 s) (ts : TE τ s) : Fo (fun r => FC q σ0 r.2 ∧ TE τ r.2) (x25_marks_l117_j209 N v0 v1 v2 v5 v6 v7 v8 Kh K s) := by
  unfold x25_marks_l117_j209
  exact (hKh _ _ _ hs ts)
theorem fc_x25_marks_l171 {q : FQ} {σ0 τ : gMem} {N : Nat} {v0 : Nat} {v1 : Int} {v2 : Nat} {v5 : Nat} {v6 : Nat} {v7 : Int} {v8 : Int} {v9 : Int} {K : gMem → Option (Nat × gMem)} (hq : FL ([], [], [], []) q) (D : FD q) (gv6 : mZ σ0 ≤ v6) (hK : ∀ (a0 : gMem), FC q σ0 a0 → TE τ a0 → Fo (fun r => FC q σ0 r.2 ∧ TE τ r.2) (K a0)) : ∀ (n : Nat) (z0 : Int) (z1 : gMem), FC q σ0 z1 → TE τ z1 → Fo (fun r => FC q σ0 r.2 ∧ TE τ r.2) (x25_marks_l171 N v0 v1 v2 v5 v6 v7 v8 v9 K n z0 z1) := by
  intro n
  induction n with
  | zero => intros; exact Fo.none
  | succ n ih =>
    intro v10 s hs ts
    unfold x25_marks_l171
    refine Fo.ite (fun _ => ?_) (fun _ => ?_)
    · exact (hK _ hs ts)
    · refine Fo.ite (fun c2208 => ?_) (fun _ => Fo.none)
      refine Fo.ite (fun _ => ?_) (fun _ => Fo.none)
      refine Fo.ite (fun _ => ?_) (fun _ => Fo.none)
      refine FC.lIf D hs gv6 (fun s38 q2211 e2212 => ?_)
      exact (ih _ _  q2211 (TE.tr ts e2212))
theorem fc_x25_marks_l117 {q : FQ} {σ0 τ : gMem} {N : Nat} {v0 : Nat} {v1 : Int} {v2 : Nat} {v5 : Nat} {v6 : Nat} {K : Int → gMem → Option (Nat × gMem)} (hq : FL ([], [], [], []) q) (D : FD q) (gv6 : mZ σ0 ≤ v6) (hK : ∀ (a0 : Int) (a1 : gMem), FC q σ0 a1 → TE τ a1 → Fo (fun r => FC q σ0 r.2 ∧ TE τ r.2) (K a0 a1)) : ∀ (n : Nat) (z0 : Int) (z1 : Int) (z2 : gMem), FC q σ0 z2 → TE τ z2 → Fo (fun r => FC q σ0 r.2 ∧ TE τ r.2) (x25_marks_l117 N v0 v1 v2 v5 v6 K n z0 z1 z2) := by
  intro n
  induction n with
  | zero => intros; exact Fo.none
  | succ n ih =>
    intro v7 v8 s hs ts
    unfold x25_marks_l117
    refine Fo.ite (fun c2213 => ?_) (fun _ => Fo.none)
    refine Fo.ite (fun _ => ?_) (fun _ => ?_)
    · exact (hK _ _ hs ts)
    · refine Fo.ite (fun _ => ?_) (fun _ => Fo.none)
      refine Fo.pure (fun x28 => ?_)
      refine Fo.ite (fun _ => ?_) (fun _ => ?_)
      · exact (fc_x25_marks_l117_j209 (τ := τ) hq D  (fun a0 a1 a2 b t => ih a0 a1 a2 b t) hK hs ts)
      · refine Fo.ite (fun _ => ?_) (fun _ => Fo.none)
        refine Fo.ite (fun c2218 => ?_) (fun _ => Fo.none)
        refine Fo.pure (fun x32 => ?_)
        refine Fo.ite (fun _ => ?_) (fun _ => ?_)
        · refine Fo.pure (fun x34 => ?_)
          exact (fc_x25_marks_l171 (τ := τ) hq D gv6 (fun s40 q2220 e2221 => by
      refine Fo.ite (fun c2222 => ?_) (fun _ => Fo.none)
      refine Fo.ite (fun _ => ?_) (fun _ => Fo.none)
      refine Fo.ite (fun c2224 => ?_) (fun _ => Fo.none)
      refine Fo.ite (fun _ => ?_) (fun _ => Fo.none)
      refine FC.lIf D q2220 gv6 (fun s44 q2226 e2227 => ?_)
      exact (fc_x25_marks_l117_j209 (τ := τ) hq D  (fun a0 a1 a2 b t => ih a0 a1 a2 b t) hK q2226 (TE.tr e2221 e2227))) _ _ _  hs ts)
        · exact (fc_x25_marks_l117_j209 (τ := τ) hq D  (fun a0 a1 a2 b t => ih a0 a1 a2 b t) hK hs ts)
theorem fc_x25_marks_j39 {q : FQ} {σ0 : gMem} {N : Nat} {v0 : Nat} {v1 : Int} {v2 : Nat} {t0 : Nat} {s : gMem} (hq : FL ([], [], [], [100]) q) (D : FD q) (hs : FC q σ0 s) : Fo (fun r => FC q σ0 r.2 ∧ TE s r.2) (x25_marks_j39 N v0 v1 v2 t0 s) := by
  unfold x25_marks_j39
  refine Fo.ite (fun c2228 => ?_) (fun _ => Fo.none)
  refine Fo.pure (fun x6 => ?_)
  refine Fo.ite (fun c2229 => ?_) (fun _ => Fo.none)
  refine Fo.pure (fun x8 => ?_)
  refine Fo.ite (fun c2230 => ?_) (fun _ => Fo.none)
  refine Fo.ite (fun c2231 => ?_) (fun _ => Fo.none)
  refine Fo.ite (fun _ => ?_) (fun _ => Fo.none)
  refine FC.lN hs (hq.2.2.2 (by decide)) (fun s13 q2233 e2234 => ?_)
  exact (fc_x25_marks_l71 (τ := s) (FL.tr (by decide) hq) D (FC.le hs) (fun y24 s25 q2235 e2236 => by
      exact (fc_x25_marks_l117 (τ := s) (FL.tr (by decide) hq) D (FC.le hs) (fun y46 s47 q2237 e2238 => by
        refine Fo.ite (fun _ => ?_) (fun _ => Fo.none)
        refine FC.lN q2237 (hq.2.2.2 (by decide)) (fun s50 q2240 e2241 => ?_)
        refine Fo.ite (fun c2242 => ?_) (fun _ => Fo.none)
        refine Fo.ite (fun _ => ?_) (fun _ => Fo.none)
        refine FC.lCIf D q2240 (FC.le q2237) (fun s54 q2244 e2245 => ?_)
        exact Fo.some ⟨q2244, (TE.tr (TE.tr e2238 e2241) e2245)⟩) _ _ _ _  q2235 e2236)) _ _ _ _  q2233 (TE.tr TE.rf e2234))
theorem fc_x25_marks_j19 {q : FQ} {σ0 : gMem} {N : Nat} {v0 : Nat} {v1 : Int} {t0 : Nat} {s : gMem} (hq : FL ([], [], [], [100]) q) (D : FD q) (hs : FC q σ0 s) : Fo (fun r => FC q σ0 r.2 ∧ TE s r.2) (x25_marks_j19 N v0 v1 t0 s) := by
  unfold x25_marks_j19
  refine Fo.ite (fun c2246 => ?_) (fun _ => Fo.none)
  refine Fo.ite (fun _ => ?_) (fun _ => ?_)
  · exact Fo.te TE.rf (fc_x25_marks_j39 hq D   hs)
  · exact Fo.te TE.rf (fc_x25_marks_j39 hq D   hs)
theorem fc_x25_marks {q : FQ} {σ0 : gMem} {N : Nat} {v0 : Nat} {v1 : Int} {σ : gMem} (hq : FL ([], [], [], [100]) q) (D : FD q) (hσ : FC q σ0 σ) : Fo (fun r => FC q σ0 r.2 ∧ TE σ r.2) (x25_marks N v0 v1 σ) := by
  unfold x25_marks
  refine Fo.ite (fun c2248 => ?_) (fun _ => Fo.none)
  refine Fo.pure (fun x2 => ?_)
  refine Fo.ite (fun _ => ?_) (fun _ => ?_)
  · exact Fo.te TE.rf (fc_x25_marks_j19 hq D   hσ)
  · exact Fo.te TE.rf (fc_x25_marks_j19 hq D   hσ)
theorem fc_x3_reckon_l25_j172 {q : FQ} {σ0 τ : gMem} {N : Nat} {v0 : Nat} {v1 : Nat} {v2 : Nat} {v3 : Int} {v4 : Int} {Kh : Int → gMem → Option gMem} {K : gMem → Option gMem} {s : gMem} (hq : FL ([], [(2, 0), (2, 1), (2, 2), (2, 3)], [], []) q) (D : FD q) (hKh : ∀ (a0 : Int) (a1 : gMem), FC q σ0 a1 → TE τ a1 → Fo (fun r => FC q σ0 r ∧ TE τ r) (Kh a0 a1)) (hK : ∀ (a0 : gMem), FC q σ0 a0 → TE τ a0 → Fo (fun r => FC q σ0 r ∧ TE τ r) (K a0)) (hs : FC q σ0 s) (ts : TE τ s) : Fo (fun r => FC q σ0 r ∧ TE τ r) (x3_reckon_l25_j172 N v0 v1 v2 v3 v4 Kh K s) := by
  unfold x3_reckon_l25_j172
  refine Fo.ite (fun c2250 => ?_) (fun _ => Fo.none)
  refine Fo.ite (fun c2251 => ?_) (fun _ => Fo.none)
  refine Fo.bind (fc_x2_put hq D   hs) (fun x36 q2252 => ?_)
  exact (hKh _ _ q2252.1 (TE.tr ts q2252.2))
theorem fc_x3_reckon_l25_j146 {q : FQ} {σ0 τ : gMem} {N : Nat} {v0 : Nat} {v1 : Nat} {v2 : Nat} {v3 : Int} {v4 : Int} {v5 : Nat} {Kh : Int → gMem → Option gMem} {K : gMem → Option gMem} {s : gMem} (hq : FL ([5], [(2, 0), (2, 1), (2, 2), (2, 3)], [], []) q) (D : FD q) (hKh : ∀ (a0 : Int) (a1 : gMem), FC q σ0 a1 → TE τ a1 → Fo (fun r => FC q σ0 r ∧ TE τ r) (Kh a0 a1)) (hK : ∀ (a0 : gMem), FC q σ0 a0 → TE τ a0 → Fo (fun r => FC q σ0 r ∧ TE τ r) (K a0)) (hs : FC q σ0 s) (ts : TE τ s) : Fo (fun r => FC q σ0 r ∧ TE τ r) (x3_reckon_l25_j146 N v0 v1 v2 v3 v4 v5 Kh K s) := by
  unfold x3_reckon_l25_j146
  refine Fo.ite (fun _ => ?_) (fun _ => Fo.none)
  refine Fo.ite (fun c2254 => ?_) (fun _ => ?_)
  · refine Fo.ite (fun c2255 => ?_) (fun _ => Fo.none)
    refine Fo.ite (fun c2256 => ?_) (fun _ => Fo.none)
    refine Fo.ite (fun _ => ?_) (fun _ => ?_)
    · exact (fc_x3_reckon_l25_j172 (τ := τ) (FL.tr (by decide) hq) D  hKh hK hs ts)
    · refine Fo.bind (fc_x5_be (FL.tr (by decide) hq) D   hs) (fun x38 q2258 => ?_)
      exact (fc_x3_reckon_l25_j172 (τ := τ) (FL.tr (by decide) hq) D  hKh hK q2258.1 (TE.tr ts q2258.2))
  · exact (fc_x3_reckon_l25_j172 (τ := τ) (FL.tr (by decide) hq) D  hKh hK hs ts)
theorem fc_x3_reckon_l25 {q : FQ} {σ0 τ : gMem} {N : Nat} {v0 : Nat} {v1 : Nat} {v2 : Nat} {K : gMem → Option gMem} (hq : FL ([3, 5], [(2, 0), (2, 1), (2, 2), (2, 3), (5, 3)], [(3, 8)], []) q) (D : FD q) (hK : ∀ (a0 : gMem), FC q σ0 a0 → TE τ a0 → Fo (fun r => FC q σ0 r ∧ TE τ r) (K a0)) : ∀ (n : Nat) (z0 : Int) (z1 : gMem), FC q σ0 z1 → TE τ z1 → Fo (fun r => FC q σ0 r ∧ TE τ r) (x3_reckon_l25 N v0 v1 v2 K n z0 z1) := by
  intro n
  induction n with
  | zero => intros; exact Fo.none
  | succ n ih =>
    intro v3 s hs ts
    unfold x3_reckon_l25
    refine Fo.ite (fun c2259 => ?_) (fun _ => Fo.none)
    refine Fo.ite (fun c2260 => ?_) (fun _ => Fo.none)
    refine Fo.ite (fun _ => ?_) (fun _ => ?_)
    · exact (hK _ hs ts)
    · refine Fo.ite (fun c2262 => ?_) (fun _ => Fo.none)
      refine Fo.ite (fun _ => ?_) (fun _ => Fo.none)
      refine Fo.ite (fun c2264 => ?_) (fun _ => Fo.none)
      refine Fo.ite (fun c2265 => ?_) (fun _ => Fo.none)
      refine Fo.ite (fun _ => ?_) (fun _ => Fo.none)
      refine Fo.ite (fun c2267 => ?_) (fun _ => Fo.none)
      refine Fo.ite (fun _ => ?_) (fun _ => Fo.none)
      refine Fo.ite (fun c2269 => ?_) (fun _ => Fo.none)
      refine Fo.bind (fc_x5_none (FL.tr (by decide) hq) D   hs) (fun x20 q2270 => ?_)
      refine Fo.ite (fun c2271 => ?_) (fun _ => Fo.none)
      refine Fo.ite (fun c2272 => ?_) (fun _ => Fo.none)
      refine Fo.ite (fun _ => ?_) (fun _ => Fo.none)
      refine Fo.ite (fun _ => ?_) (fun _ => ?_)
      · refine Fo.ite (fun _ => ?_) (fun _ => Fo.none)
        refine Fo.ite (fun c2276 => ?_) (fun _ => ?_)
        · refine Fo.ite (fun _ => ?_) (fun _ => Fo.none)
          refine Fo.ite (fun c2278 => ?_) (fun _ => Fo.none)
          refine Fo.bind (fc_dp_Part_work (FL.tr (by decide) hq) D   _ _ _ _ _  q2270.1) (fun x28 q2279 => ?_)
          exact (fc_x3_reckon_l25_j146 (τ := τ) (FL.tr (by decide) hq) D  (fun a0 a1 b t => ih a0 a1 b t) hK q2279.1 (TE.tr (TE.tr ts q2270.2) q2279.2))
        · refine Fo.ite (fun _ => ?_) (fun _ => ?_)
          · exact (fc_x3_reckon_l25_j146 (τ := τ) (FL.tr (by decide) hq) D  (fun a0 a1 b t => ih a0 a1 b t) hK q2270.1 (TE.tr ts q2270.2))
          · refine Fo.ite (fun _ => ?_) (fun _ => Fo.none)
            refine Fo.bind (fc_dp_Part_work (FL.tr (by decide) hq) D   _ _ _ _ _  q2270.1) (fun x41 q2282 => ?_)
            exact (fc_x3_reckon_l25_j146 (τ := τ) (FL.tr (by decide) hq) D  (fun a0 a1 b t => ih a0 a1 b t) hK q2282.1 (TE.tr (TE.tr ts q2270.2) q2282.2))
      · refine Fo.ite (fun c2283 => ?_) (fun _ => Fo.none)
        refine Fo.bind (fc_x5_fail (FL.tr (by decide) hq) D   q2270.1) (fun x44 q2284 => ?_)
        exact (fc_x3_reckon_l25_j146 (τ := τ) (FL.tr (by decide) hq) D  (fun a0 a1 b t => ih a0 a1 b t) hK q2284.1 (TE.tr (TE.tr ts q2270.2) q2284.2))
theorem fc_x3_reckon {q : FQ} {σ0 : gMem} {N : Nat} {v0 : Nat} {v1 : Nat} {v2 : Nat} {σ : gMem} (hq : FL ([3, 4, 5], [(2, 0), (2, 1), (2, 2), (2, 3), (4, 0), (4, 1), (4, 2), (4, 3), (4, 4), (4, 5), (4, 6), (4, 7), (4, 8), (5, 3)], [(3, 6), (3, 7), (3, 8)], []) q) (D : FD q) (hσ : FC q σ0 σ) : Fo (fun r => FC q σ0 r ∧ TE σ r) (x3_reckon N v0 v1 v2 σ) := by
  unfold x3_reckon
  refine Fo.ite (fun c2285 => ?_) (fun _ => Fo.none)
  refine FC.lRr D hσ c2285 (by decide) (hq.2.2.1 (by decide)) (fun s2 q2286 e2287 => ?_)
  refine FC.lRr D q2286 (e2287 _ _ (by decide) c2285) (by decide) (hq.2.2.1 (by decide)) (fun s4 q2288 e2289 => ?_)
  refine FC.lIo q2288 (e2289 _ _ (by decide) (e2287 _ _ (by decide) c2285)) (hq.1 (by decide)) (fun s6 q2290 e2291 => ?_)
  refine Fo.ite (fun c2292 => ?_) (fun _ => Fo.none)
  refine Fo.bind (fc_x4_find (FL.tr (by decide) hq) D   q2290) (fun x9 q2293 => ?_)
  exact (fc_x3_reckon_l25 (τ := σ) (FL.tr (by decide) hq) D  (fun s46 q2294 e2295 => by
      exact Fo.some ⟨q2294, e2295⟩) _ _ _  q2293.1 (TE.tr (TE.tr (TE.tr (TE.tr TE.rf e2287) e2289) e2291) q2293.2))
theorem fc_x6_test {q : FQ} {σ0 : gMem} {N : Nat} {W : Nat → gMem → Option gR} {v0 : Nat} {σ : gMem} (hq : FL ([6], [], [], [20]) q) (D : FD q) (hW : ∀ (a0 : Nat) (a1 : gMem), FC q σ0 a1 → Fo (fun r => FC q σ0 r.2 ∧ TE a1 r.2) (W a0 a1)) (hσ : FC q σ0 σ) : Fo (fun r => FC q σ0 r.2 ∧ TE σ r.2) (x6_test N W v0 σ) := by
  unfold x6_test
  refine Fo.ite (fun c2296 => ?_) (fun _ => Fo.none)
  refine Fo.bind (fc_x6_chain hq D  hW hσ) (fun p q2297 => ?_)
  refine Fo.gThrR ⟨q2297.1, (TE.tr TE.rf q2297.2)⟩ (fun x2 s4 ys4 => ?_)
  subst ys4
  refine Fo.bind (fc_x6_comparing (FL.tr (by decide) hq) D   q2297.1) (fun x5 q2298 => ?_)
  refine Fo.ite (fun _ => ?_) (fun _ => ?_)
  · refine Fo.bind (fc_x6_chain hq D  hW q2298.1) (fun p q2300 => ?_)
    refine Fo.gThrR ⟨q2300.1, (TE.tr (TE.tr (TE.tr TE.rf q2297.2) q2298.2) q2300.2)⟩ (fun x7 s9 ys9 => ?_)
    subst ys9
    refine Fo.bind (fc_x6_two hq D   q2300.1) (fun x10 q2301 => ?_)
    exact Fo.some ⟨q2301.1, (TE.tr (TE.tr (TE.tr (TE.tr TE.rf q2297.2) q2298.2) q2300.2) q2301.2)⟩
  · exact Fo.some ⟨q2298.1, (TE.tr (TE.tr TE.rf q2297.2) q2298.2)⟩
theorem fc_x6_arg {q : FQ} {σ0 : gMem} {N : Nat} {W : Nat → gMem → Option gR} {v0 : Nat} {σ : gMem} (hq : FL ([6], [], [], [14, 17, 20, 25]) q) (D : FD q) (hW : ∀ (a0 : Nat) (a1 : gMem), FC q σ0 a1 → Fo (fun r => FC q σ0 r.2 ∧ TE a1 r.2) (W a0 a1)) (hσ : FC q σ0 σ) : Fo (fun r => FC q σ0 r.2 ∧ TE σ r.2) (x6_arg N W v0 σ) := by
  unfold x6_arg
  refine Fo.ite (fun c2302 => ?_) (fun _ => Fo.none)
  refine Fo.bind (fc_x6_peek (FL.tr (by decide) hq) D   hσ) (fun x2 q2303 => ?_)
  refine Fo.pure (fun x6 => ?_)
  refine Fo.ite (fun _ => ?_) (fun _ => ?_)
  · refine Fo.bind (fc_x6_test (FL.tr (by decide) hq) D  hW q2303.1) (fun p q2305 => ?_)
    refine Fo.gThrR ⟨q2305.1, (TE.tr (TE.tr TE.rf q2303.2) q2305.2)⟩ (fun x8 s10 ys10 => ?_)
    subst ys10
    exact Fo.some ⟨q2305.1, (TE.tr (TE.tr TE.rf q2303.2) q2305.2)⟩
  · refine Fo.pure (fun x12 => ?_)
    refine Fo.ite (fun _ => ?_) (fun _ => ?_)
    · refine Fo.bind (fc_x6_test (FL.tr (by decide) hq) D  hW q2303.1) (fun p q2307 => ?_)
      refine Fo.gThrR ⟨q2307.1, (TE.tr (TE.tr TE.rf q2303.2) q2307.2)⟩ (fun x14 s16 ys16 => ?_)
      subst ys16
      exact Fo.some ⟨q2307.1, (TE.tr (TE.tr TE.rf q2303.2) q2307.2)⟩
    · refine Fo.bind (fc_x6_area (FL.tr (by decide) hq) D   q2303.1) (fun p q2308 => ?_)
      refine Fo.gThrR ⟨q2308.1, (TE.tr (TE.tr TE.rf q2303.2) q2308.2)⟩ (fun x17 s19 ys19 => ?_)
      subst ys19
      exact Fo.some ⟨q2308.1, (TE.tr (TE.tr TE.rf q2303.2) q2308.2)⟩
theorem fc_x1_ready {q : FQ} {σ0 : gMem} {N : Nat} {v0 : Nat} {σ : gMem} (hq : FL ([1, 3, 4, 5], [(2, 0), (2, 1), (2, 2), (2, 3), (4, 0), (4, 1), (4, 2), (4, 3), (4, 4), (4, 5), (4, 6), (4, 7), (4, 8), (5, 3)], [(3, 6), (3, 7), (3, 8)], []) q) (D : FD q) (hσ : FC q σ0 σ) : Fo (fun r => FC q σ0 r.2 ∧ TE σ r.2) (x1_ready N v0 σ) := by
  unfold x1_ready
  refine Fo.ite (fun c2309 => ?_) (fun _ => Fo.none)
  refine Fo.ite (fun _ => ?_) (fun _ => ?_)
  · refine FC.lIo hσ c2309 (hq.1 (by decide)) (fun s3 q2311 e2312 => ?_)
    exact Fo.some ⟨q2311, (TE.tr TE.rf e2312)⟩
  · refine Fo.ite (fun c2313 => ?_) (fun _ => Fo.none)
    refine Fo.bind (fc_x3_reckon (FL.tr (by decide) hq) D   hσ) (fun x6 q2314 => ?_)
    refine FC.lIo q2314.1 (q2314.2 _ _ (by decide) c2309) (hq.1 (by decide)) (fun s8 q2315 e2316 => ?_)
    exact Fo.some ⟨q2315, (TE.tr (TE.tr TE.rf q2314.2) e2316)⟩
theorem fc_x1_sort_l74 {q : FQ} {σ0 τ : gMem} {N : Nat} {v0 : Nat} {v1 : Int} {v2 : Int} {v3 : Int} {v4 : Int} {v6 : Nat} {K : gMem → Option gR} (hq : FL ([], [], [], []) q) (D : FD q) (gv6 : mZ σ0 ≤ v6) (hK : ∀ (a0 : gMem), FC q σ0 a0 → TE τ a0 → Fo (fun r => FC q σ0 r.2 ∧ TE τ r.2) (K a0)) : ∀ (n : Nat) (z0 : Int) (z1 : gMem), FC q σ0 z1 → TE τ z1 → Fo (fun r => FC q σ0 r.2 ∧ TE τ r.2) (x1_sort_l74 N v0 v1 v2 v3 v4 v6 K n z0 z1) := by
  intro n
  induction n with
  | zero => intros; exact Fo.none
  | succ n ih =>
    intro v7 s hs ts
    unfold x1_sort_l74
    refine Fo.ite (fun c2317 => ?_) (fun _ => Fo.none)
    refine Fo.ite (fun _ => ?_) (fun _ => ?_)
    · exact (hK _ hs ts)
    · refine Fo.ite (fun _ => ?_) (fun _ => Fo.none)
      refine FC.lIf D hs gv6 (fun s16 q2320 e2321 => ?_)
      exact (ih _ _  q2320 (TE.tr ts e2321))
theorem fc_x1_sort_l115 {q : FQ} {σ0 τ : gMem} {N : Nat} {v0 : Nat} {v1 : Int} {v2 : Int} {v3 : Int} {v4 : Int} {v6 : Nat} {v7 : Int} {v8 : Int} {K : Int → gMem → Option gR} (hq : FL ([5], [(5, 3)], [], []) q) (D : FD q) (gv6 : mZ σ0 ≤ v6) (hK : ∀ (a0 : Int) (a1 : gMem), FC q σ0 a1 → TE τ a1 → Fo (fun r => FC q σ0 r.2 ∧ TE τ r.2) (K a0 a1)) : ∀ (n : Nat) (z0 : Int) (z1 : gMem), FC q σ0 z1 → TE τ z1 → Fo (fun r => FC q σ0 r.2 ∧ TE τ r.2) (x1_sort_l115 N v0 v1 v2 v3 v4 v6 v7 v8 K n z0 z1) := by
  intro n
  induction n with
  | zero => intros; exact Fo.none
  | succ n ih =>
    intro v9 s hs ts
    unfold x1_sort_l115
    refine Fo.ite (fun _ => ?_) (fun _ => ?_)
    · exact (hK _ _ hs ts)
    · refine Fo.ite (fun c2323 => ?_) (fun _ => Fo.none)
      refine Fo.ite (fun _ => ?_) (fun _ => Fo.none)
      refine Fo.ite (fun c2325 => ?_) (fun _ => Fo.none)
      refine Fo.bind (fc_x1_against hq D   hs) (fun x24 q2326 => ?_)
      refine Fo.ite (fun _ => ?_) (fun _ => ?_)
      · exact (hK _ _ q2326.1 (TE.tr ts q2326.2))
      · refine Fo.ite (fun _ => ?_) (fun _ => Fo.none)
        refine Fo.ite (fun _ => ?_) (fun _ => Fo.none)
        refine FC.lIf D q2326.1 gv6 (fun s28 q2330 e2331 => ?_)
        exact (ih _ _  q2330 (TE.tr (TE.tr ts q2326.2) e2331))
theorem fc_x1_sort_l98_j160 {q : FQ} {σ0 τ : gMem} {N : Nat} {v0 : Nat} {v1 : Int} {v2 : Int} {v3 : Int} {v4 : Int} {v6 : Nat} {v7 : Int} {v8 : Int} {v9 : Int} {Kh : Int → gMem → Option gR} {K : gMem → Option gR} {s : gMem} (hq : FL ([], [], [], []) q) (D : FD q) (gv6 : mZ σ0 ≤ v6) (hKh : ∀ (a0 : Int) (a1 : gMem), FC q σ0 a1 → TE τ a1 → Fo (fun r => FC q σ0 r.2 ∧ TE τ r.2) (Kh a0 a1)) (hK : ∀ (a0 : gMem), FC q σ0 a0 → TE τ a0 → Fo (fun r => FC q σ0 r.2 ∧ TE τ r.2) (K a0)) (hs : FC q σ0 s) (ts : TE τ s) : Fo (fun r => FC q σ0 r.2 ∧ TE τ r.2) (x1_sort_l98_j160 N v0 v1 v2 v3 v4 v6 v7 v8 v9 Kh K s) := by
  unfold x1_sort_l98_j160
  refine Fo.ite (fun c2332 => ?_) (fun _ => Fo.none)
  refine Fo.ite (fun _ => ?_) (fun _ => Fo.none)
  refine FC.lIf D hs gv6 (fun s33 q2334 e2335 => ?_)
  exact (hKh _ _ q2334 (TE.tr ts e2335))
theorem fc_x1_sort_l98 {q : FQ} {σ0 τ : gMem} {N : Nat} {v0 : Nat} {v1 : Int} {v2 : Int} {v3 : Int} {v4 : Int} {v6 : Nat} {K : gMem → Option gR} (hq : FL ([5], [(5, 3)], [], []) q) (D : FD q) (gv6 : mZ σ0 ≤ v6) (hK : ∀ (a0 : gMem), FC q σ0 a0 → TE τ a0 → Fo (fun r => FC q σ0 r.2 ∧ TE τ r.2) (K a0)) : ∀ (n : Nat) (z0 : Int) (z1 : gMem), FC q σ0 z1 → TE τ z1 → Fo (fun r => FC q σ0 r.2 ∧ TE τ r.2) (x1_sort_l98 N v0 v1 v2 v3 v4 v6 K n z0 z1) := by
  intro n
  induction n with
  | zero => intros; exact Fo.none
  | succ n ih =>
    intro v7 s hs ts
    unfold x1_sort_l98
    refine Fo.ite (fun _ => ?_) (fun _ => ?_)
    · exact (hK _ hs ts)
    · refine Fo.ite (fun c2337 => ?_) (fun _ => Fo.none)
      refine Fo.ite (fun _ => ?_) (fun _ => Fo.none)
      exact (fc_x1_sort_l115 (τ := τ) hq D gv6 (fun y30 s31 q2339 e2340 => by
      exact (fc_x1_sort_l98_j160 (τ := τ) (FL.tr (by decide) hq) D gv6 (fun a0 a1 b t => ih a0 a1 b t) hK q2339 e2340)) _ _ _  hs ts)
theorem fc_x1_sort_l186_j229 {q : FQ} {σ0 τ : gMem} {N : Nat} {v0 : Nat} {v6 : Nat} {v7 : Nat} {v9 : Int} {t0 : Int} {t1 : Int} {Kh : Int → Int → gMem → Option gR} {K : Int → gMem → Option gR} {s : gMem} (hq : FL ([], [], [], []) q) (D : FD q) (hKh : ∀ (a0 : Int) (a1 : Int) (a2 : gMem), FC q σ0 a2 → TE τ a2 → Fo (fun r => FC q σ0 r.2 ∧ TE τ r.2) (Kh a0 a1 a2)) (hK : ∀ (a0 : Int) (a1 : gMem), FC q σ0 a1 → TE τ a1 → Fo (fun r => FC q σ0 r.2 ∧ TE τ r.2) (K a0 a1)) (hs : FC q σ0 s) (ts : TE τ s) : Fo (fun r => FC q σ0 r.2 ∧ TE τ r.2) (x1_sort_l186_j229 N v0 v6 v7 v9 t0 t1 Kh K s) := by
  unfold x1_sort_l186_j229
  exact (hKh _ _ _ hs ts)
theorem fc_x1_sort_l186 {q : FQ} {σ0 τ : gMem} {N : Nat} {v0 : Nat} {v6 : Nat} {v7 : Nat} {K : Int → gMem → Option gR} (hq : FL ([], [], [], []) q) (D : FD q) (gv7 : mZ σ0 ≤ v7) (hK : ∀ (a0 : Int) (a1 : gMem), FC q σ0 a1 → TE τ a1 → Fo (fun r => FC q σ0 r.2 ∧ TE τ r.2) (K a0 a1)) : ∀ (n : Nat) (z0 : Int) (z1 : Int) (z2 : gMem), FC q σ0 z2 → TE τ z2 → Fo (fun r => FC q σ0 r.2 ∧ TE τ r.2) (x1_sort_l186 N v0 v6 v7 K n z0 z1 z2) := by
  intro n
  induction n with
  | zero => intros; exact Fo.none
  | succ n ih =>
    intro v8 v9 s hs ts
    unfold x1_sort_l186
    refine Fo.ite (fun c2341 => ?_) (fun _ => Fo.none)
    refine Fo.ite (fun _ => ?_) (fun _ => ?_)
    · exact (hK _ _ hs ts)
    · refine Fo.ite (fun c2343 => ?_) (fun _ => Fo.none)
      refine Fo.ite (fun c2344 => ?_) (fun _ => Fo.none)
      refine Fo.ite (fun _ => ?_) (fun _ => Fo.none)
      refine Fo.ite (fun c2346 => ?_) (fun _ => Fo.none)
      refine Fo.ite (fun _ => ?_) (fun _ => Fo.none)
      refine Fo.ite (fun c2348 => ?_) (fun _ => Fo.none)
      refine Fo.ite (fun _ => ?_) (fun _ => Fo.none)
      refine FC.lIf D hs gv7 (fun s48 q2350 e2351 => ?_)
      refine Fo.ite (fun _ => ?_) (fun _ => Fo.none)
      refine Fo.ite (fun _ => ?_) (fun _ => ?_)
      · exact (fc_x1_sort_l186_j229 (τ := τ) hq D  (fun a0 a1 a2 b t => ih a0 a1 a2 b t) hK q2350 (TE.tr ts e2351))
      · exact (fc_x1_sort_l186_j229 (τ := τ) hq D  (fun a0 a1 a2 b t => ih a0 a1 a2 b t) hK q2350 (TE.tr ts e2351))
theorem fc_x25_weave_l72 {q : FQ} {σ0 τ : gMem} {N : Nat} {v0 : Nat} {v1 : Nat} {v2 : Nat} {v3 : Int} {K : gMem → Option (Int × gMem)} (hq : FL ([23, 106, 110], [], [(23, 4)], [24, 106]) q) (D : FD q) (hK : ∀ (a0 : gMem), FC q σ0 a0 → TE τ a0 → Fo (fun r => FC q σ0 r.2 ∧ TE τ r.2) (K a0)) : ∀ (n : Nat) (z0 : Int) (z1 : gMem), FC q σ0 z1 → TE τ z1 → Fo (fun r => FC q σ0 r.2 ∧ TE τ r.2) (x25_weave_l72 N v0 v1 v2 v3 K n z0 z1) := by
  intro n
  induction n with
  | zero => intros; exact Fo.none
  | succ n ih =>
    intro v4 s hs ts
    unfold x25_weave_l72
    refine Fo.ite (fun c2354 => ?_) (fun _ => Fo.none)
    refine Fo.ite (fun _ => ?_) (fun _ => ?_)
    · exact (hK _ hs ts)
    · refine Fo.ite (fun c2356 => ?_) (fun _ => Fo.none)
      refine Fo.ite (fun c2357 => ?_) (fun _ => Fo.none)
      refine Fo.ite (fun c2358 => ?_) (fun _ => Fo.none)
      refine Fo.ite (fun _ => ?_) (fun _ => Fo.none)
      refine Fo.ite (fun c2360 => ?_) (fun _ => Fo.none)
      refine Fo.ite (fun _ => ?_) (fun _ => Fo.none)
      refine Fo.ite (fun _ => ?_) (fun _ => Fo.none)
      refine Fo.bind (fc_x25_cell (FL.tr (by decide) hq) D   hs) (fun x27 q2363 => ?_)
      refine Fo.ite (fun c2364 => ?_) (fun _ => Fo.none)
      refine Fo.ite (fun _ => ?_) (fun _ => Fo.none)
      refine Fo.ite (fun _ => ?_) (fun _ => Fo.none)
      refine FC.lRo D q2363.1 c2364 (by decide) (hq.1 (by decide)) (fun s31 q2367 e2368 => ?_)
      exact (ih _ _  q2367 (TE.tr (TE.tr ts q2363.2) e2368))
theorem fc_x25_weave_l63 {q : FQ} {σ0 τ : gMem} {N : Nat} {v0 : Nat} {v1 : Nat} {v2 : Nat} {K : gMem → Option (Int × gMem)} (hq : FL ([23, 106, 110], [], [(23, 4)], [24, 106]) q) (D : FD q) (hK : ∀ (a0 : gMem), FC q σ0 a0 → TE τ a0 → Fo (fun r => FC q σ0 r.2 ∧ TE τ r.2) (K a0)) : ∀ (n : Nat) (z0 : Int) (z1 : gMem), FC q σ0 z1 → TE τ z1 → Fo (fun r => FC q σ0 r.2 ∧ TE τ r.2) (x25_weave_l63 N v0 v1 v2 K n z0 z1) := by
  intro n
  induction n with
  | zero => intros; exact Fo.none
  | succ n ih =>
    intro v3 s hs ts
    unfold x25_weave_l63
    refine Fo.ite (fun c2369 => ?_) (fun _ => Fo.none)
    refine Fo.ite (fun _ => ?_) (fun _ => ?_)
    · exact (hK _ hs ts)
    · exact (fc_x25_weave_l72 (τ := τ) hq D  (fun s33 q2371 e2372 => by
      exact (ih _ _  q2371 e2372)) _ _ _  hs ts)
theorem fc_x25_weave {q : FQ} {σ0 : gMem} {N : Nat} {v0 : Nat} {σ : gMem} (hq : FL ([23, 106, 110], [], [(23, 3), (23, 4)], [8, 24, 100, 106, 110, 111]) q) (D : FD q) (hσ : FC q σ0 σ) : Fo (fun r => FC q σ0 r.2 ∧ TE σ r.2) (x25_weave N v0 σ) := by
  unfold x25_weave
  refine Fo.ite (fun c2373 => ?_) (fun _ => Fo.none)
  refine Fo.bind (fc_x25_marks (FL.tr (by decide) hq) D   hσ) (fun x2 q2374 => ?_)
  refine Fo.bind (fc_x25_marks (FL.tr (by decide) hq) D   q2374.1) (fun x4 q2375 => ?_)
  refine Fo.ite (fun c2376 => ?_) (fun _ => Fo.none)
  refine Fo.ite (fun _ => ?_) (fun _ => ?_)
  · exact Fo.some ⟨q2375.1, (TE.tr (TE.tr TE.rf q2374.2) q2375.2)⟩
  · refine Fo.ite (fun c2378 => ?_) (fun _ => Fo.none)
    refine Fo.ite (fun _ => ?_) (fun _ => ?_)
    · exact Fo.some ⟨q2375.1, (TE.tr (TE.tr TE.rf q2374.2) q2375.2)⟩
    · refine Fo.ite (fun _ => ?_) (fun _ => ?_)
      · exact Fo.some ⟨q2375.1, (TE.tr (TE.tr TE.rf q2374.2) q2375.2)⟩
      · refine Fo.ite (fun _ => ?_) (fun _ => ?_)
        · refine FC.lN q2375.1 (hq.2.2.2 (by decide)) (fun s9 q2382 e2383 => ?_)
          refine Fo.bind (fc_x9_init (FL.tr (by decide) hq) D (FC.le q2375.1)  q2382) (fun x11 q2384 => ?_)
          refine FC.lRr D q2384.1 (q2384.2 _ _ (by decide) (e2383 _ _ (by decide) (q2375.2 _ _ (by decide) (q2374.2 _ _ (by decide) c2373)))) (by decide) (hq.2.2.1 (by decide)) (fun s13 q2385 e2386 => ?_)
          refine Fo.bind (fc_x25_tellKept (FL.tr (by decide) hq) D   q2385) (fun x15 q2387 => ?_)
          refine Fo.bind (fc_x25_tellKept (FL.tr (by decide) hq) D   q2387.1) (fun x17 q2388 => ?_)
          exact (fc_x25_weave_l63 (τ := σ) (FL.tr (by decide) hq) D  (fun s34 q2389 e2390 => by
      exact Fo.some ⟨q2389, e2390⟩) _ _ _  q2388.1 (TE.tr (TE.tr (TE.tr (TE.tr (TE.tr (TE.tr (TE.tr TE.rf q2374.2) q2375.2) e2383) q2384.2) e2386) q2387.2) q2388.2))
        · exact Fo.some ⟨q2375.1, (TE.tr (TE.tr TE.rf q2374.2) q2375.2)⟩
theorem fc_x6_call_l31_j77 {q : FQ} {σ0 τ : gMem} {N : Nat} {W : Nat → gMem → Option gR} {v0 : Nat} {v1 : Nat} {v2 : Int} {v3 : Int} {t0 : Int} {Kh : Int → gMem → Option gR} {K : gMem → Option gR} {s : gMem} (hq : FL ([6], [], [], []) q) (D : FD q) (hW : ∀ (a0 : Nat) (a1 : gMem), FC q σ0 a1 → Fo (fun r => FC q σ0 r.2 ∧ TE a1 r.2) (W a0 a1)) (hKh : ∀ (a0 : Int) (a1 : gMem), FC q σ0 a1 → TE τ a1 → Fo (fun r => FC q σ0 r.2 ∧ TE τ r.2) (Kh a0 a1)) (hK : ∀ (a0 : gMem), FC q σ0 a0 → TE τ a0 → Fo (fun r => FC q σ0 r.2 ∧ TE τ r.2) (K a0)) (hs : FC q σ0 s) (ts : TE τ s) : Fo (fun r => FC q σ0 r.2 ∧ TE τ r.2) (x6_call_l31_j77 N W v0 v1 v2 v3 t0 Kh K s) := by
  unfold x6_call_l31_j77
  refine Fo.ite (fun _ => ?_) (fun _ => ?_)
  · exact (hKh _ _ hs ts)
  · refine Fo.ite (fun c2392 => ?_) (fun _ => Fo.none)
    refine FC.lIo hs c2392 (hq.1 (by decide)) (fun s26 q2393 e2394 => ?_)
    exact (hKh _ _ q2393 (TE.tr ts e2394))
theorem fc_x6_call_l31 {q : FQ} {σ0 τ : gMem} {N : Nat} {W : Nat → gMem → Option gR} {v0 : Nat} {v1 : Nat} {v2 : Int} {v3 : Int} {K : gMem → Option gR} (hq : FL ([6], [(6, 9)], [], [14, 17, 20, 25]) q) (D : FD q) (hW : ∀ (a0 : Nat) (a1 : gMem), FC q σ0 a1 → Fo (fun r => FC q σ0 r.2 ∧ TE a1 r.2) (W a0 a1)) (hK : ∀ (a0 : gMem), FC q σ0 a0 → TE τ a0 → Fo (fun r => FC q σ0 r.2 ∧ TE τ r.2) (K a0)) : ∀ (n : Nat) (z0 : Int) (z1 : gMem), FC q σ0 z1 → TE τ z1 → Fo (fun r => FC q σ0 r.2 ∧ TE τ r.2) (x6_call_l31 N W v0 v1 v2 v3 K n z0 z1) := by
  intro n
  induction n with
  | zero => intros; exact Fo.none
  | succ n ih =>
    intro v4 s hs ts
    unfold x6_call_l31
    refine Fo.ite (fun _ => ?_) (fun _ => ?_)
    · exact (hK _ hs ts)
    · refine Fo.ite (fun c2396 => ?_) (fun _ => Fo.none)
      refine Fo.bind (fc_x6_arg (FL.tr (by decide) hq) D  hW hs) (fun p q2397 => ?_)
      refine Fo.gThrR ⟨q2397.1, (TE.tr ts q2397.2)⟩ (fun x10 s12 ys12 => ?_)
      subst ys12
      refine Fo.ite (fun c2398 => ?_) (fun _ => Fo.none)
      refine Fo.ite (fun _ => ?_) (fun _ => Fo.none)
      refine Fo.ite (fun _ => ?_) (fun _ => Fo.none)
      refine FC.lRp D q2397.1 (q2397.2 _ _ (by decide) c2396) (hq.2.1 (by decide)) c2398 (by decide) (fun s16 q2401 e2402 => ?_)
      refine FC.lIo q2401 (e2402 _ _ (by decide) (q2397.2 _ _ (by decide) c2396)) (hq.1 (by decide)) (fun s19 q2403 e2404 => ?_)
      refine Fo.bind (fc_x6_peek (FL.tr (by decide) hq) D   q2403) (fun x21 q2405 => ?_)
      refine Fo.ite (fun _ => ?_) (fun _ => ?_)
      · exact (fc_x6_call_l31_j77 (τ := τ) (FL.tr (by decide) hq) D  hW (fun a0 a1 b t => ih a0 a1 b t) hK q2405.1 (TE.tr (TE.tr (TE.tr (TE.tr ts q2397.2) e2402) e2404) q2405.2))
      · exact (fc_x6_call_l31_j77 (τ := τ) (FL.tr (by decide) hq) D  hW (fun a0 a1 b t => ih a0 a1 b t) hK q2405.1 (TE.tr (TE.tr (TE.tr (TE.tr ts q2397.2) e2402) e2404) q2405.2))
theorem fc_x6_call_l164_j210 {q : FQ} {σ0 τ : gMem} {N : Nat} {W : Nat → gMem → Option gR} {v0 : Nat} {v1 : Nat} {v2 : Int} {v3 : Int} {v5 : Nat} {v7 : Int} {t0 : Int} {Kh : Int → Int → gMem → Option gR} {K : Int → gMem → Option gR} {s : gMem} (hq : FL ([], [], [], []) q) (D : FD q) (hW : ∀ (a0 : Nat) (a1 : gMem), FC q σ0 a1 → Fo (fun r => FC q σ0 r.2 ∧ TE a1 r.2) (W a0 a1)) (hKh : ∀ (a0 : Int) (a1 : Int) (a2 : gMem), FC q σ0 a2 → TE τ a2 → Fo (fun r => FC q σ0 r.2 ∧ TE τ r.2) (Kh a0 a1 a2)) (hK : ∀ (a0 : Int) (a1 : gMem), FC q σ0 a1 → TE τ a1 → Fo (fun r => FC q σ0 r.2 ∧ TE τ r.2) (K a0 a1)) (hs : FC q σ0 s) (ts : TE τ s) : Fo (fun r => FC q σ0 r.2 ∧ TE τ r.2) (x6_call_l164_j210 N W v0 v1 v2 v3 v5 v7 t0 Kh K s) := by
  unfold x6_call_l164_j210
  exact (hKh _ _ _ hs ts)
theorem fc_x6_call_l164_j209 {q : FQ} {σ0 τ : gMem} {N : Nat} {W : Nat → gMem → Option gR} {v0 : Nat} {v1 : Nat} {v2 : Int} {v3 : Int} {v5 : Nat} {v7 : Int} {Kh : Int → Int → gMem → Option gR} {K : Int → gMem → Option gR} {s : gMem} (hq : FL ([], [], [], []) q) (D : FD q) (hW : ∀ (a0 : Nat) (a1 : gMem), FC q σ0 a1 → Fo (fun r => FC q σ0 r.2 ∧ TE a1 r.2) (W a0 a1)) (hKh : ∀ (a0 : Int) (a1 : Int) (a2 : gMem), FC q σ0 a2 → TE τ a2 → Fo (fun r => FC q σ0 r.2 ∧ TE τ r.2) (Kh a0 a1 a2)) (hK : ∀ (a0 : Int) (a1 : gMem), FC q σ0 a1 → TE τ a1 → Fo (fun r => FC q σ0 r.2 ∧ TE τ r.2) (K a0 a1)) (hs : FC q σ0 s) (ts : TE τ s) : Fo (fun r => FC q σ0 r.2 ∧ TE τ r.2) (x6_call_l164_j209 N W v0 v1 v2 v3 v5 v7 Kh K s) := by
  unfold x6_call_l164_j209
  exact (fc_x6_call_l164_j210 (τ := τ) hq D  hW hKh hK hs ts)
theorem fc_x6_call_l164 {q : FQ} {σ0 τ : gMem} {N : Nat} {W : Nat → gMem → Option gR} {v0 : Nat} {v1 : Nat} {v2 : Int} {v3 : Int} {v5 : Nat} {K : Int → gMem → Option gR} (hq : FL ([], [], [], []) q) (D : FD q) (gv5 : mZ σ0 ≤ v5) (hW : ∀ (a0 : Nat) (a1 : gMem), FC q σ0 a1 → Fo (fun r => FC q σ0 r.2 ∧ TE a1 r.2) (W a0 a1)) (hK : ∀ (a0 : Int) (a1 : gMem), FC q σ0 a1 → TE τ a1 → Fo (fun r => FC q σ0 r.2 ∧ TE τ r.2) (K a0 a1)) : ∀ (n : Nat) (z0 : Int) (z1 : Int) (z2 : gMem), FC q σ0 z2 → TE τ z2 → Fo (fun r => FC q σ0 r.2 ∧ TE τ r.2) (x6_call_l164 N W v0 v1 v2 v3 v5 K n z0 z1 z2) := by
  intro n
  induction n with
  | zero => intros; exact Fo.none
  | succ n ih =>
    intro v6 v7 s hs ts
    unfold x6_call_l164
    refine Fo.ite (fun c2407 => ?_) (fun _ => Fo.none)
    refine Fo.ite (fun _ => ?_) (fun _ => ?_)
    · exact (hK _ _ hs ts)
    · refine Fo.ite (fun c2409 => ?_) (fun _ => Fo.none)
      refine Fo.ite (fun c2410 => ?_) (fun _ => Fo.none)
      refine Fo.ite (fun _ => ?_) (fun _ => Fo.none)
      refine Fo.ite (fun _ => ?_) (fun _ => Fo.none)
      refine Fo.ite (fun _ => ?_) (fun _ => Fo.none)
      refine FC.lRf D hs gv5 (fun s50 q2414 e2415 => ?_)
      refine Fo.ite (fun _ => ?_) (fun _ => ?_)
      · exact (fc_x6_call_l164_j209 (τ := τ) hq D  hW (fun a0 a1 a2 b t => ih a0 a1 a2 b t) hK q2414 (TE.tr ts e2415))
      · refine Fo.ite (fun _ => ?_) (fun _ => Fo.none)
        refine Fo.ite (fun c2418 => ?_) (fun _ => Fo.none)
        refine Fo.pure (fun x53 => ?_)
        refine Fo.ite (fun _ => ?_) (fun _ => ?_)
        · exact (fc_x6_call_l164_j209 (τ := τ) hq D  hW (fun a0 a1 a2 b t => ih a0 a1 a2 b t) hK q2414 (TE.tr ts e2415))
        · exact (fc_x6_call_l164_j210 (τ := τ) hq D  hW (fun a0 a1 a2 b t => ih a0 a1 a2 b t) hK q2414 (TE.tr ts e2415))
theorem fc_x6_call_j159 {q : FQ} {σ0 : gMem} {N : Nat} {W : Nat → gMem → Option gR} {v0 : Nat} {v1 : Nat} {v2 : Int} {v3 : Int} {v5 : Nat} {t0 : Int} {s : gMem} (hq : FL ([6], [], [], [18]) q) (D : FD q) (gv5 : mZ σ0 ≤ v5) (hW : ∀ (a0 : Nat) (a1 : gMem), FC q σ0 a1 → Fo (fun r => FC q σ0 r.2 ∧ TE a1 r.2) (W a0 a1)) (hs : FC q σ0 s) : Fo (fun r => FC q σ0 r.2 ∧ TE s r.2) (x6_call_j159 N W v0 v1 v2 v3 v5 t0 s) := by
  unfold x6_call_j159
  exact (fc_x6_call_l164 (τ := s) (FL.tr (by decide) hq) D gv5 hW (fun y55 s56 q2420 e2421 => by
      refine Fo.ite (fun c2422 => ?_) (fun _ => Fo.none)
      refine FC.lIo q2420 c2422 (hq.1 (by decide)) (fun s58 q2423 e2424 => ?_)
      refine Fo.ite (fun _ => ?_) (fun _ => ?_)
      · refine FC.lN q2423 (hq.2.2.2 (by decide)) (fun s61 q2426 e2427 => ?_)
        refine Fo.bind (fc_x20_init (FL.tr (by decide) hq) D (FC.le q2423)  q2426) (fun x63 q2428 => ?_)
        exact Fo.some ⟨q2428.1, (TE.tr (TE.tr (TE.tr e2421 e2424) e2427) q2428.2)⟩
      · refine Fo.bind (fc_x6_late (FL.tr (by decide) hq) D   q2423) (fun x65 q2429 => ?_)
        refine FC.lN q2429.1 (hq.2.2.2 (by decide)) (fun s68 q2430 e2431 => ?_)
        refine Fo.bind (fc_x20_init (FL.tr (by decide) hq) D (FC.le q2429.1)  q2430) (fun x70 q2432 => ?_)
        exact Fo.some ⟨q2432.1, (TE.tr (TE.tr (TE.tr (TE.tr e2421 e2424) q2429.2) e2431) q2432.2)⟩) _ _ _ _  hs TE.rf)
theorem fc_x6_call_j158 {q : FQ} {σ0 : gMem} {N : Nat} {W : Nat → gMem → Option gR} {v0 : Nat} {v1 : Nat} {v2 : Int} {v3 : Int} {v5 : Nat} {s : gMem} (hq : FL ([6], [], [], [18]) q) (D : FD q) (gv5 : mZ σ0 ≤ v5) (hW : ∀ (a0 : Nat) (a1 : gMem), FC q σ0 a1 → Fo (fun r => FC q σ0 r.2 ∧ TE a1 r.2) (W a0 a1)) (hs : FC q σ0 s) : Fo (fun r => FC q σ0 r.2 ∧ TE s r.2) (x6_call_j158 N W v0 v1 v2 v3 v5 s) := by
  unfold x6_call_j158
  exact Fo.te TE.rf (fc_x6_call_j159 hq D gv5 hW hs)
theorem fc_x6_call {q : FQ} {σ0 : gMem} {N : Nat} {W : Nat → gMem → Option gR} {v0 : Nat} {v1 : Nat} {v2 : Int} {σ : gMem} (hq : FL ([6], [(6, 9)], [], [14, 17, 18, 20, 25, 108]) q) (D : FD q) (hW : ∀ (a0 : Nat) (a1 : gMem), FC q σ0 a1 → Fo (fun r => FC q σ0 r.2 ∧ TE a1 r.2) (W a0 a1)) (hσ : FC q σ0 σ) : Fo (fun r => FC q σ0 r.2 ∧ TE σ r.2) (x6_call N W v0 v1 v2 σ) := by
  unfold x6_call
  refine Fo.ite (fun c2433 => ?_) (fun _ => Fo.none)
  refine Fo.bind (fc_x6_peek (FL.tr (by decide) hq) D   hσ) (fun x2 q2434 => ?_)
  refine Fo.ite (fun _ => ?_) (fun _ => ?_)
  · refine Fo.bind (fc_x6_opens (FL.tr (by decide) hq) D   q2434.1) (fun p q2436 => ?_)
    refine Fo.gThrV ⟨q2436.1, (TE.tr (TE.tr TE.rf q2434.2) q2436.2)⟩ (fun  s7 ys7 => ?_)
    subst ys7
    exact (fc_x6_call_l31 (τ := σ) (FL.tr (by decide) hq) D  hW (fun s28 q2437 e2438 => by
      refine Fo.ite (fun c2439 => ?_) (fun _ => Fo.none)
      refine Fo.bind (fc_x6_expect (FL.tr (by decide) hq) D   q2437) (fun p q2440 => ?_)
      refine Fo.gThrV ⟨q2440.1, (TE.tr e2438 q2440.2)⟩ (fun  s32 ys32 => ?_)
      subst ys32
      refine FC.lIo q2440.1 (q2440.2 _ _ (by decide) c2439) (hq.1 (by decide)) (fun s34 q2441 e2442 => ?_)
      refine FC.lIo q2441 (e2442 _ _ (by decide) (q2440.2 _ _ (by decide) c2439)) (hq.1 (by decide)) (fun s37 q2443 e2444 => ?_)
      refine Fo.ite (fun _ => ?_) (fun _ => Fo.none)
      refine FC.lN q2443 (hq.2.2.2 (by decide)) (fun s42 q2446 e2447 => ?_)
      refine Fo.ite (fun c2448 => ?_) (fun _ => Fo.none)
      refine Fo.ite (fun _ => ?_) (fun _ => ?_)
      · exact Fo.te (TE.tr (TE.tr (TE.tr (TE.tr e2438 q2440.2) e2442) e2444) e2447) (fc_x6_call_j158 (FL.tr (by decide) hq) D (FC.le q2443) hW q2446)
      · refine Fo.ite (fun _ => ?_) (fun _ => ?_)
        · exact Fo.te (TE.tr (TE.tr (TE.tr (TE.tr e2438 q2440.2) e2442) e2444) e2447) (fc_x6_call_j158 (FL.tr (by decide) hq) D (FC.le q2443) hW q2446)
        · exact Fo.te (TE.tr (TE.tr (TE.tr (TE.tr e2438 q2440.2) e2442) e2444) e2447) (fc_x6_call_j159 (FL.tr (by decide) hq) D (FC.le q2443) hW q2446)) _ _ _  q2436.1 (TE.tr (TE.tr TE.rf q2434.2) q2436.2))
  · refine Fo.bind (fc_x6_wrong (FL.tr (by decide) hq) D   q2434.1) (fun x74 q2451 => ?_)
    refine Fo.ite (fun c2452 => ?_) (fun _ => Fo.none)
    exact Fo.some ⟨q2451.1, (TE.tr (TE.tr TE.rf q2434.2) q2451.2)⟩
theorem fc_x1_valuesOf {q : FQ} {σ0 : gMem} {N : Nat} {v0 : Nat} {v1 : Int} {σ : gMem} (hq : FL ([1, 3, 4, 5], [(2, 0), (2, 1), (2, 2), (2, 3), (4, 0), (4, 1), (4, 2), (4, 3), (4, 4), (4, 5), (4, 6), (4, 7), (4, 8), (5, 3)], [(3, 6), (3, 7), (3, 8)], []) q) (D : FD q) (hσ : FC q σ0 σ) : Fo (fun r => FC q σ0 r.2 ∧ TE σ r.2) (x1_valuesOf N v0 v1 σ) := by
  unfold x1_valuesOf
  refine Fo.ite (fun _ => ?_) (fun _ => ?_)
  · refine Fo.ite (fun c2454 => ?_) (fun _ => Fo.none)
    refine Fo.ite (fun c2455 => ?_) (fun _ => Fo.none)
    refine Fo.ite (fun _ => ?_) (fun _ => Fo.none)
    refine Fo.ite (fun c2457 => ?_) (fun _ => Fo.none)
    exact Fo.some ⟨hσ, TE.rf⟩
  · refine Fo.ite (fun c2458 => ?_) (fun _ => Fo.none)
    refine Fo.bind (fc_x1_ready hq D   hσ) (fun x5 q2459 => ?_)
    exact Fo.some ⟨q2459.1, (TE.tr TE.rf q2459.2)⟩
theorem fc_x1_value {q : FQ} {σ0 : gMem} {N : Nat} {v0 : Nat} {v1 : Int} {v2 : Int} {v3 : Int} {σ : gMem} (hq : FL ([1, 3, 4, 5], [(2, 0), (2, 1), (2, 2), (2, 3), (4, 0), (4, 1), (4, 2), (4, 3), (4, 4), (4, 5), (4, 6), (4, 7), (4, 8), (5, 3)], [(3, 6), (3, 7), (3, 8)], []) q) (D : FD q) (hσ : FC q σ0 σ) : Fo (fun r => FC q σ0 r.2 ∧ TE σ r.2) (x1_value N v0 v1 v2 v3 σ) := by
  unfold x1_value
  refine Fo.ite (fun c2460 => ?_) (fun _ => Fo.none)
  refine Fo.pure (fun x2 => ?_)
  refine Fo.ite (fun _ => ?_) (fun _ => ?_)
  · refine Fo.bind (fc_x1_valuesOf hq D   hσ) (fun x4 q2462 => ?_)
    refine Fo.ite (fun c2463 => ?_) (fun _ => Fo.none)
    refine Fo.ite (fun c2464 => ?_) (fun _ => Fo.none)
    refine Fo.ite (fun _ => ?_) (fun _ => Fo.none)
    refine Fo.ite (fun _ => ?_) (fun _ => ?_)
    · refine Fo.ite (fun c2467 => ?_) (fun _ => Fo.none)
      refine Fo.ite (fun _ => ?_) (fun _ => Fo.none)
      exact Fo.some ⟨q2462.1, (TE.tr TE.rf q2462.2)⟩
    · refine Fo.ite (fun c2469 => ?_) (fun _ => Fo.none)
      refine Fo.ite (fun _ => ?_) (fun _ => Fo.none)
      exact Fo.some ⟨q2462.1, (TE.tr TE.rf q2462.2)⟩
  · exact Fo.some ⟨hσ, TE.rf⟩
theorem fc_x1_letter {q : FQ} {σ0 : gMem} {N : Nat} {v0 : Nat} {v1 : Int} {v2 : Int} {v3 : Int} {v4 : Int} {σ : gMem} (hq : FL ([1, 3, 4, 5], [(2, 0), (2, 1), (2, 2), (2, 3), (4, 0), (4, 1), (4, 2), (4, 3), (4, 4), (4, 5), (4, 6), (4, 7), (4, 8), (5, 3)], [(3, 6), (3, 7), (3, 8)], []) q) (D : FD q) (hσ : FC q σ0 σ) : Fo (fun r => FC q σ0 r.2 ∧ TE σ r.2) (x1_letter N v0 v1 v2 v3 v4 σ) := by
  unfold x1_letter
  refine Fo.ite (fun c2471 => ?_) (fun _ => Fo.none)
  refine Fo.pure (fun x2 => ?_)
  refine Fo.ite (fun _ => ?_) (fun _ => ?_)
  · refine Fo.bind (fc_x1_valuesOf hq D   hσ) (fun x4 q2473 => ?_)
    refine Fo.ite (fun c2474 => ?_) (fun _ => Fo.none)
    refine Fo.ite (fun c2475 => ?_) (fun _ => Fo.none)
    refine Fo.ite (fun _ => ?_) (fun _ => Fo.none)
    refine Fo.ite (fun _ => ?_) (fun _ => ?_)
    · exact Fo.some ⟨q2473.1, (TE.tr TE.rf q2473.2)⟩
    · refine Fo.ite (fun _ => ?_) (fun _ => ?_)
      · exact Fo.some ⟨q2473.1, (TE.tr TE.rf q2473.2)⟩
      · refine Fo.ite (fun c2479 => ?_) (fun _ => Fo.none)
        refine Fo.ite (fun _ => ?_) (fun _ => Fo.none)
        refine Fo.ite (fun _ => ?_) (fun _ => ?_)
        · exact Fo.some ⟨q2473.1, (TE.tr TE.rf q2473.2)⟩
        · refine Fo.ite (fun c2482 => ?_) (fun _ => Fo.none)
          refine Fo.ite (fun _ => ?_) (fun _ => Fo.none)
          exact Fo.some ⟨q2473.1, (TE.tr TE.rf q2473.2)⟩
  · exact Fo.some ⟨hσ, TE.rf⟩
theorem fc_x6_word_l5 {q : FQ} {σ0 τ : gMem} {N : Nat} {W : Nat → gMem → Option gR} {v0 : Nat} {v1 : Int} {K : gMem → Option gR} (hq : FL ([6], [], [], []) q) (D : FD q) (hW : ∀ (a0 : Nat) (a1 : gMem), FC q σ0 a1 → Fo (fun r => FC q σ0 r.2 ∧ TE a1 r.2) (W a0 a1)) (hK : ∀ (a0 : gMem), FC q σ0 a0 → TE τ a0 → Fo (fun r => FC q σ0 r.2 ∧ TE τ r.2) (K a0)) : ∀ (n : Nat) (z0 : gMem), FC q σ0 z0 → TE τ z0 → Fo (fun r => FC q σ0 r.2 ∧ TE τ r.2) (x6_word_l5 N W v0 v1 K n z0) := by
  intro n
  induction n with
  | zero => intros; exact Fo.none
  | succ n ih =>
    intro s hs ts
    unfold x6_word_l5
    refine Fo.ite (fun c2484 => ?_) (fun _ => Fo.none)
    refine Fo.pure (fun x5 => ?_)
    refine Fo.pure (fun x7 => ?_)
    refine Fo.ite (fun _ => ?_) (fun _ => ?_)
    · exact (hK _ hs ts)
    · refine FC.lIo hs c2484 (hq.1 (by decide)) (fun s10 q2486 e2487 => ?_)
      exact (ih _  q2486 (TE.tr ts e2487))
theorem fc_x6_word_l83 {q : FQ} {σ0 τ : gMem} {N : Nat} {W : Nat → gMem → Option gR} {v0 : Nat} {v1 : Int} {K : gMem → Option gR} (hq : FL ([6], [(6, 9)], [], [14, 17, 18, 20, 25, 108]) q) (D : FD q) (hW : ∀ (a0 : Nat) (a1 : gMem), FC q σ0 a1 → Fo (fun r => FC q σ0 r.2 ∧ TE a1 r.2) (W a0 a1)) (hK : ∀ (a0 : gMem), FC q σ0 a0 → TE τ a0 → Fo (fun r => FC q σ0 r.2 ∧ TE τ r.2) (K a0)) : ∀ (n : Nat) (z0 : Int) (z1 : gMem), FC q σ0 z1 → TE τ z1 → Fo (fun r => FC q σ0 r.2 ∧ TE τ r.2) (x6_word_l83 N W v0 v1 K n z0 z1) := by
  intro n
  induction n with
  | zero => intros; exact Fo.none
  | succ n ih =>
    intro v2 s hs ts
    unfold x6_word_l83
    refine Fo.ite (fun c2488 => ?_) (fun _ => Fo.none)
    refine Fo.ite (fun c2489 => ?_) (fun _ => Fo.none)
    refine Fo.ite (fun _ => ?_) (fun _ => ?_)
    · exact (hK _ hs ts)
    · refine Fo.ite (fun _ => ?_) (fun _ => Fo.none)
      refine Fo.ite (fun c2492 => ?_) (fun _ => Fo.none)
      refine Fo.pure (fun x21 => ?_)
      refine Fo.ite (fun _ => ?_) (fun _ => ?_)
      · exact (ih _ _  hs ts)
      · refine Fo.ite (fun _ => ?_) (fun _ => Fo.none)
        refine Fo.bind (fc_x6_call hq D  hW hs) (fun p q2495 => ?_)
        refine Fo.gThrR ⟨q2495.1, (TE.tr ts q2495.2)⟩ (fun x23 s25 ys25 => ?_)
        subst ys25
        exact Fo.some ⟨q2495.1, (TE.tr ts q2495.2)⟩
theorem fc_x6_word {q : FQ} {σ0 : gMem} {N : Nat} {W : Nat → gMem → Option gR} {v0 : Nat} {σ : gMem} (hq : FL ([6], [(6, 9)], [], [14, 16, 17, 18, 20, 25, 108]) q) (D : FD q) (hW : ∀ (a0 : Nat) (a1 : gMem), FC q σ0 a1 → Fo (fun r => FC q σ0 r.2 ∧ TE a1 r.2) (W a0 a1)) (hσ : FC q σ0 σ) : Fo (fun r => FC q σ0 r.2 ∧ TE σ r.2) (x6_word N W v0 σ) := by
  unfold x6_word
  refine Fo.ite (fun c2496 => ?_) (fun _ => Fo.none)
  exact (fc_x6_word_l5 (τ := σ) (FL.tr (by decide) hq) D  hW (fun s12 q2497 e2498 => by
      refine Fo.ite (fun c2499 => ?_) (fun _ => Fo.none)
      refine Fo.pure (fun x15 => ?_)
      refine Fo.ite (fun _ => ?_) (fun _ => ?_)
      · exact (fc_x6_word_l83 (τ := σ) (FL.tr (by decide) hq) D  hW (fun s26 q2501 e2502 => by
        refine Fo.ite (fun c2503 => ?_) (fun _ => Fo.none)
        refine Fo.bind (fc_x6_wrong (FL.tr (by decide) hq) D   q2501) (fun x28 q2504 => ?_)
        refine Fo.ite (fun c2505 => ?_) (fun _ => Fo.none)
        exact Fo.some ⟨q2504.1, (TE.tr e2502 q2504.2)⟩) _ _ _  q2497 e2498)
      · refine FC.lIo q2497 c2499 (hq.1 (by decide)) (fun s32 q2506 e2507 => ?_)
        refine FC.lN q2506 (hq.2.2.2 (by decide)) (fun s35 q2508 e2509 => ?_)
        refine Fo.ite (fun c2510 => ?_) (fun _ => Fo.none)
        refine Fo.ite (fun _ => ?_) (fun _ => Fo.none)
        refine Fo.ite (fun _ => ?_) (fun _ => ?_)
        · refine Fo.bind (fc_x18_init (FL.tr (by decide) hq) D (FC.le q2506)  q2508) (fun x39 q2513 => ?_)
          exact Fo.some ⟨q2513.1, (TE.tr (TE.tr (TE.tr e2498 e2507) e2509) q2513.2)⟩
        · refine Fo.bind (fc_x18_init (FL.tr (by decide) hq) D (FC.le q2506)  q2508) (fun x41 q2514 => ?_)
          exact Fo.some ⟨q2514.1, (TE.tr (TE.tr (TE.tr e2498 e2507) e2509) q2514.2)⟩) _ _  hσ TE.rf)
theorem fc_x1_kind {q : FQ} {σ0 : gMem} {N : Nat} {v0 : Nat} {v1 : Int} {v2 : Int} {v3 : Int} {σ : gMem} (hq : FL ([1, 3, 4, 5], [(2, 0), (2, 1), (2, 2), (2, 3), (4, 0), (4, 1), (4, 2), (4, 3), (4, 4), (4, 5), (4, 6), (4, 7), (4, 8), (5, 3)], [(3, 6), (3, 7), (3, 8)], []) q) (D : FD q) (hσ : FC q σ0 σ) : Fo (fun r => FC q σ0 r.2 ∧ TE σ r.2) (x1_kind N v0 v1 v2 v3 σ) := by
  unfold x1_kind
  refine Fo.ite (fun c2515 => ?_) (fun _ => Fo.none)
  refine Fo.pure (fun x2 => ?_)
  refine Fo.ite (fun _ => ?_) (fun _ => ?_)
  · refine Fo.bind (fc_x1_valuesOf hq D   hσ) (fun x4 q2517 => ?_)
    refine Fo.ite (fun c2518 => ?_) (fun _ => Fo.none)
    refine Fo.ite (fun c2519 => ?_) (fun _ => Fo.none)
    refine Fo.ite (fun _ => ?_) (fun _ => Fo.none)
    exact Fo.some ⟨q2517.1, (TE.tr TE.rf q2517.2)⟩
  · exact Fo.some ⟨hσ, TE.rf⟩
theorem fc_x6_atom {q : FQ} {σ0 : gMem} {N : Nat} {W : Nat → gMem → Option gR} {v0 : Nat} {σ : gMem} (hq : FL ([6], [(6, 9)], [], [11, 12, 13, 14, 15, 16, 17, 18, 20, 25, 102, 108]) q) (D : FD q) (hW : ∀ (a0 : Nat) (a1 : gMem), FC q σ0 a1 → Fo (fun r => FC q σ0 r.2 ∧ TE a1 r.2) (W a0 a1)) (hσ : FC q σ0 σ) : Fo (fun r => FC q σ0 r.2 ∧ TE σ r.2) (x6_atom N W v0 σ) := by
  unfold x6_atom
  refine Fo.ite (fun c2521 => ?_) (fun _ => Fo.none)
  refine Fo.bind (fc_x6_peek (FL.tr (by decide) hq) D   hσ) (fun x2 q2522 => ?_)
  refine Fo.ite (fun _ => ?_) (fun _ => ?_)
  · refine Fo.pure (fun x5 => ?_)
    refine Fo.ite (fun _ => ?_) (fun _ => ?_)
    · refine Fo.ite (fun _ => ?_) (fun _ => ?_)
      · refine Fo.ite (fun _ => ?_) (fun _ => ?_)
        · refine Fo.pure (fun x8 => ?_)
          refine Fo.ite (fun _ => ?_) (fun _ => ?_)
          · refine Fo.pure (fun x10 => ?_)
            refine Fo.ite (fun _ => ?_) (fun _ => ?_)
            · refine Fo.bind (fc_x6_wrong (FL.tr (by decide) hq) D   q2522.1) (fun x13 q2529 => ?_)
              refine Fo.ite (fun c2530 => ?_) (fun _ => Fo.none)
              exact Fo.some ⟨q2529.1, (TE.tr (TE.tr TE.rf q2522.2) q2529.2)⟩
            · refine Fo.bind (fc_x6_word (FL.tr (by decide) hq) D  hW q2522.1) (fun p q2531 => ?_)
              refine Fo.gThrR ⟨q2531.1, (TE.tr (TE.tr TE.rf q2522.2) q2531.2)⟩ (fun x16 s18 ys18 => ?_)
              subst ys18
              exact Fo.some ⟨q2531.1, (TE.tr (TE.tr TE.rf q2522.2) q2531.2)⟩
          · refine Fo.bind (fc_x6_spot (FL.tr (by decide) hq) D   q2522.1) (fun p q2532 => ?_)
            refine Fo.gThrR ⟨q2532.1, (TE.tr (TE.tr TE.rf q2522.2) q2532.2)⟩ (fun x19 s21 ys21 => ?_)
            subst ys21
            exact Fo.some ⟨q2532.1, (TE.tr (TE.tr TE.rf q2522.2) q2532.2)⟩
        · refine Fo.bind (fc_x6_gone (FL.tr (by decide) hq) D   q2522.1) (fun p q2533 => ?_)
          refine Fo.gThrR ⟨q2533.1, (TE.tr (TE.tr TE.rf q2522.2) q2533.2)⟩ (fun x22 s24 ys24 => ?_)
          subst ys24
          exact Fo.some ⟨q2533.1, (TE.tr (TE.tr TE.rf q2522.2) q2533.2)⟩
      · refine Fo.bind (fc_x6_quoted (FL.tr (by decide) hq) D   q2522.1) (fun p q2534 => ?_)
        refine Fo.gThrR ⟨q2534.1, (TE.tr (TE.tr TE.rf q2522.2) q2534.2)⟩ (fun x25 s27 ys27 => ?_)
        subst ys27
        exact Fo.some ⟨q2534.1, (TE.tr (TE.tr TE.rf q2522.2) q2534.2)⟩
    · refine Fo.bind (fc_x6_number (FL.tr (by decide) hq) D   q2522.1) (fun p q2535 => ?_)
      refine Fo.gThrR ⟨q2535.1, (TE.tr (TE.tr TE.rf q2522.2) q2535.2)⟩ (fun x28 s30 ys30 => ?_)
      subst ys30
      exact Fo.some ⟨q2535.1, (TE.tr (TE.tr TE.rf q2522.2) q2535.2)⟩
  · refine Fo.bind (fc_x6_opens (FL.tr (by decide) hq) D   q2522.1) (fun p q2536 => ?_)
    refine Fo.gThrV ⟨q2536.1, (TE.tr (TE.tr TE.rf q2522.2) q2536.2)⟩ (fun  s33 ys33 => ?_)
    subst ys33
    refine Fo.bind (fc_x6_test (FL.tr (by decide) hq) D  hW q2536.1) (fun p q2537 => ?_)
    refine Fo.gThrR ⟨q2537.1, (TE.tr (TE.tr (TE.tr TE.rf q2522.2) q2536.2) q2537.2)⟩ (fun x34 s36 ys36 => ?_)
    subst ys36
    refine Fo.bind (fc_x6_expect (FL.tr (by decide) hq) D   q2537.1) (fun p q2538 => ?_)
    refine Fo.gThrV ⟨q2538.1, (TE.tr (TE.tr (TE.tr (TE.tr TE.rf q2522.2) q2536.2) q2537.2) q2538.2)⟩ (fun  s39 ys39 => ?_)
    subst ys39
    refine FC.lIo q2538.1 (q2538.2 _ _ (by decide) (q2537.2 _ _ (by decide) (q2536.2 _ _ (by decide) (q2522.2 _ _ (by decide) c2521)))) (hq.1 (by decide)) (fun s41 q2539 e2540 => ?_)
    exact Fo.some ⟨q2539, (TE.tr (TE.tr (TE.tr (TE.tr (TE.tr TE.rf q2522.2) q2536.2) q2537.2) q2538.2) e2540)⟩
theorem fc_x6_sign_o {q : FQ} {σ0 : gMem} {N : Nat} {W : Nat → gMem → Option gR} {v0 : Nat} {σ : gMem} (hq : FL ([6], [(6, 9)], [], [11, 12, 13, 14, 15, 16, 17, 18, 19, 20, 25, 102, 108]) q) (D : FD q) (hW : ∀ (a0 : Nat) (a1 : gMem), FC q σ0 a1 → Fo (fun r => FC q σ0 r.2 ∧ TE a1 r.2) (W a0 a1)) (hσ : FC q σ0 σ) : Fo (fun r => FC q σ0 r.2 ∧ TE σ r.2) (x6_sign_o N W v0 σ) := by
  unfold x6_sign_o
  refine Fo.ite (fun c2541 => ?_) (fun _ => Fo.none)
  refine Fo.bind (fc_x6_peek (FL.tr (by decide) hq) D   hσ) (fun x2 q2542 => ?_)
  refine Fo.ite (fun _ => ?_) (fun _ => ?_)
  · refine Fo.bind (fc_x6_opens (FL.tr (by decide) hq) D   q2542.1) (fun p q2544 => ?_)
    refine Fo.gThrV ⟨q2544.1, (TE.tr (TE.tr TE.rf q2542.2) q2544.2)⟩ (fun  s7 ys7 => ?_)
    subst ys7
    refine Fo.bind (hW _ _ q2544.1) (fun p q2545 => ?_)
    refine Fo.gThrR ⟨q2545.1, (TE.tr (TE.tr (TE.tr TE.rf q2542.2) q2544.2) q2545.2)⟩ (fun x8 s10 ys10 => ?_)
    subst ys10
    refine FC.lIo q2545.1 (q2545.2 _ _ (by decide) (q2544.2 _ _ (by decide) (q2542.2 _ _ (by decide) c2541))) (hq.1 (by decide)) (fun s12 q2546 e2547 => ?_)
    refine FC.lIo q2546 (e2547 _ _ (by decide) (q2545.2 _ _ (by decide) (q2544.2 _ _ (by decide) (q2542.2 _ _ (by decide) c2541)))) (hq.1 (by decide)) (fun s15 q2548 e2549 => ?_)
    refine FC.lN q2548 (hq.2.2.2 (by decide)) (fun s18 q2550 e2551 => ?_)
    refine Fo.bind (fc_x21_init (FL.tr (by decide) hq) D (FC.le q2548)  q2550) (fun x20 q2552 => ?_)
    exact Fo.some ⟨q2552.1, (TE.tr (TE.tr (TE.tr (TE.tr (TE.tr (TE.tr (TE.tr TE.rf q2542.2) q2544.2) q2545.2) e2547) e2549) e2551) q2552.2)⟩
  · refine Fo.bind (fc_x6_atom (FL.tr (by decide) hq) D  hW q2542.1) (fun p q2553 => ?_)
    refine Fo.gThrR ⟨q2553.1, (TE.tr (TE.tr TE.rf q2542.2) q2553.2)⟩ (fun x22 s24 ys24 => ?_)
    subst ys24
    exact Fo.some ⟨q2553.1, (TE.tr (TE.tr TE.rf q2542.2) q2553.2)⟩
theorem fc_x6_sign {q : FQ} {σ0 : gMem} {N : Nat} (hq : FL ([6], [(6, 9)], [], [11, 12, 13, 14, 15, 16, 17, 18, 19, 20, 25, 102, 108]) q) (D : FD q)  : ∀ (n : Nat) (z0 : Nat) (z1 : gMem), FC q σ0 z1 → Fo (fun r => FC q σ0 r.2 ∧ TE z1 r.2) (x6_sign N n z0 z1) := by
  intro n
  induction n with
  | zero => intros; exact Fo.none
  | succ n ih =>
    intro a0 s hs
    unfold x6_sign
    exact Fo.te TE.rf (fc_x6_sign_o hq D  (fun a0 a1 b t => ih a0 a1 b t) hs)
theorem fc_x6_formula {q : FQ} {σ0 : gMem} {N : Nat} {v0 : Nat} {v1 : Int} {v2 : Int} {σ : gMem} (hq : FL ([6], [(6, 9)], [(6, 16)], [11, 12, 13, 14, 15, 16, 17, 18, 19, 20, 21, 25, 102, 108]) q) (D : FD q) (hσ : FC q σ0 σ) : Fo (fun r => FC q σ0 r.2 ∧ TE σ r.2) (x6_formula N v0 v1 v2 σ) := by
  unfold x6_formula
  refine Fo.ite (fun c2554 => ?_) (fun _ => Fo.none)
  refine FC.lIo hσ c2554 (hq.1 (by decide)) (fun s2 q2555 e2556 => ?_)
  refine FC.lIo q2555 (e2556 _ _ (by decide) c2554) (hq.1 (by decide)) (fun s4 q2557 e2558 => ?_)
  refine FC.lIo q2557 (e2558 _ _ (by decide) (e2556 _ _ (by decide) c2554)) (hq.1 (by decide)) (fun s6 q2559 e2560 => ?_)
  refine FC.lIo q2559 (e2560 _ _ (by decide) (e2558 _ _ (by decide) (e2556 _ _ (by decide) c2554))) (hq.1 (by decide)) (fun s8 q2561 e2562 => ?_)
  refine FC.lIo q2561 (e2562 _ _ (by decide) (e2560 _ _ (by decide) (e2558 _ _ (by decide) (e2556 _ _ (by decide) c2554)))) (hq.1 (by decide)) (fun s10 q2563 e2564 => ?_)
  refine FC.lIo q2563 (e2564 _ _ (by decide) (e2562 _ _ (by decide) (e2560 _ _ (by decide) (e2558 _ _ (by decide) (e2556 _ _ (by decide) c2554))))) (hq.1 (by decide)) (fun s12 q2565 e2566 => ?_)
  refine FC.lIo q2565 (e2566 _ _ (by decide) (e2564 _ _ (by decide) (e2562 _ _ (by decide) (e2560 _ _ (by decide) (e2558 _ _ (by decide) (e2556 _ _ (by decide) c2554)))))) (hq.1 (by decide)) (fun s14 q2567 e2568 => ?_)
  refine Fo.bind (fc_x6_test (FL.tr (by decide) hq) D  (fun a0 a1 b => fc_x6_sign (FL.tr (by decide) hq) D _ a0 a1 b) q2567) (fun p q2569 => ?_)
  refine Fo.gThrR ⟨q2569.1, (TE.tr (TE.tr (TE.tr (TE.tr (TE.tr (TE.tr (TE.tr (TE.tr TE.rf e2556) e2558) e2560) e2562) e2564) e2566) e2568) q2569.2)⟩ (fun x16 s18 ys18 => ?_)
  subst ys18
  refine Fo.bind (fc_x6_peek (FL.tr (by decide) hq) D   q2569.1) (fun x19 q2570 => ?_)
  refine Fo.ite (fun _ => ?_) (fun _ => ?_)
  · refine Fo.ite (fun _ => ?_) (fun _ => ?_)
    · refine Fo.ite (fun _ => ?_) (fun _ => ?_)
      · refine FC.lN q2570.1 (hq.2.2.2 (by decide)) (fun s25 q2574 e2575 => ?_)
        refine Fo.bind (fc_x23_init (FL.tr (by decide) hq) D (FC.le q2570.1)  q2574) (fun x28 q2576 => ?_)
        refine FC.lRr D q2576.1 (q2576.2 _ _ (by decide) (e2575 _ _ (by decide) (q2570.2 _ _ (by decide) (q2569.2 _ _ (by decide) (e2568 _ _ (by decide) (e2566 _ _ (by decide) (e2564 _ _ (by decide) (e2562 _ _ (by decide) (e2560 _ _ (by decide) (e2558 _ _ (by decide) (e2556 _ _ (by decide) c2554))))))))))) (by decide) (hq.2.2.1 (by decide)) (fun s30 q2577 e2578 => ?_)
        exact Fo.some ⟨q2577, (TE.tr (TE.tr (TE.tr (TE.tr (TE.tr (TE.tr (TE.tr (TE.tr (TE.tr (TE.tr (TE.tr (TE.tr TE.rf e2556) e2558) e2560) e2562) e2564) e2566) e2568) q2569.2) q2570.2) e2575) q2576.2) e2578)⟩
      · refine Fo.bind (fc_x6_wrong (FL.tr (by decide) hq) D   q2570.1) (fun x33 q2579 => ?_)
        refine Fo.ite (fun c2580 => ?_) (fun _ => Fo.none)
        exact Fo.some ⟨q2579.1, (TE.tr (TE.tr (TE.tr (TE.tr (TE.tr (TE.tr (TE.tr (TE.tr (TE.tr (TE.tr TE.rf e2556) e2558) e2560) e2562) e2564) e2566) e2568) q2569.2) q2570.2) q2579.2)⟩
    · refine Fo.bind (fc_x6_wrong (FL.tr (by decide) hq) D   q2570.1) (fun x38 q2581 => ?_)
      refine Fo.ite (fun c2582 => ?_) (fun _ => Fo.none)
      exact Fo.some ⟨q2581.1, (TE.tr (TE.tr (TE.tr (TE.tr (TE.tr (TE.tr (TE.tr (TE.tr (TE.tr (TE.tr TE.rf e2556) e2558) e2560) e2562) e2564) e2566) e2568) q2569.2) q2570.2) q2581.2)⟩
  · refine Fo.bind (fc_x6_wrong (FL.tr (by decide) hq) D   q2570.1) (fun x42 q2583 => ?_)
    refine Fo.ite (fun c2584 => ?_) (fun _ => Fo.none)
    exact Fo.some ⟨q2583.1, (TE.tr (TE.tr (TE.tr (TE.tr (TE.tr (TE.tr (TE.tr (TE.tr (TE.tr (TE.tr TE.rf e2556) e2558) e2560) e2562) e2564) e2566) e2568) q2569.2) q2570.2) q2583.2)⟩
theorem fc_x6_read_l47 {q : FQ} {σ0 τ : gMem} {N : Nat} {v0 : Nat} {v1 : Nat} {v6 : Int} {K : Int → gMem → Option gR} (hq : FL ([], [], [], []) q) (D : FD q) (hK : ∀ (a0 : Int) (a1 : gMem), FC q σ0 a1 → TE τ a1 → Fo (fun r => FC q σ0 r.2 ∧ TE τ r.2) (K a0 a1)) : ∀ (n : Nat) (z0 : Int) (z1 : gMem), FC q σ0 z1 → TE τ z1 → Fo (fun r => FC q σ0 r.2 ∧ TE τ r.2) (x6_read_l47 N v0 v1 v6 K n z0 z1) := by
  intro n
  induction n with
  | zero => intros; exact Fo.none
  | succ n ih =>
    intro v5 s hs ts
    unfold x6_read_l47
    refine Fo.ite (fun _ => ?_) (fun _ => ?_)
    · exact (hK _ _ hs ts)
    · refine Fo.ite (fun c2586 => ?_) (fun _ => Fo.none)
      refine Fo.ite (fun _ => ?_) (fun _ => Fo.none)
      refine Fo.ite (fun _ => ?_) (fun _ => ?_)
      · exact (hK _ _ hs ts)
      · exact (ih _ _  hs ts)
theorem fc_x6_read_l69 {q : FQ} {σ0 τ : gMem} {N : Nat} {v0 : Nat} {v1 : Nat} {v5 : Int} {K : Int → gMem → Option gR} (hq : FL ([], [], [], []) q) (D : FD q) (hK : ∀ (a0 : Int) (a1 : gMem), FC q σ0 a1 → TE τ a1 → Fo (fun r => FC q σ0 r.2 ∧ TE τ r.2) (K a0 a1)) : ∀ (n : Nat) (z0 : Int) (z1 : gMem), FC q σ0 z1 → TE τ z1 → Fo (fun r => FC q σ0 r.2 ∧ TE τ r.2) (x6_read_l69 N v0 v1 v5 K n z0 z1) := by
  intro n
  induction n with
  | zero => intros; exact Fo.none
  | succ n ih =>
    intro v6 s hs ts
    unfold x6_read_l69
    refine Fo.ite (fun _ => ?_) (fun _ => ?_)
    · exact (hK _ _ hs ts)
    · refine Fo.ite (fun c2590 => ?_) (fun _ => Fo.none)
      refine Fo.ite (fun _ => ?_) (fun _ => Fo.none)
      refine Fo.ite (fun _ => ?_) (fun _ => ?_)
      · exact (hK _ _ hs ts)
      · exact (ih _ _  hs ts)
theorem fc_x6_read_j93 {q : FQ} {σ0 : gMem} {N : Nat} {v0 : Nat} {v1 : Nat} {v5 : Int} {v6 : Int} {s : gMem} (hq : FL ([6], [(6, 9)], [(6, 16)], [11, 12, 13, 14, 15, 16, 17, 18, 19, 20, 21, 25, 102, 108]) q) (D : FD q) (hs : FC q σ0 s) : Fo (fun r => FC q σ0 r.2 ∧ TE s r.2) (x6_read_j93 N v0 v1 v5 v6 s) := by
  unfold x6_read_j93
  refine Fo.ite (fun _ => ?_) (fun _ => ?_)
  · refine Fo.ite (fun c2594 => ?_) (fun _ => Fo.none)
    refine Fo.ite (fun _ => ?_) (fun _ => Fo.none)
    refine Fo.ite (fun _ => ?_) (fun _ => ?_)
    · refine Fo.ite (fun c2597 => ?_) (fun _ => Fo.none)
      refine Fo.bind (fc_x6_plain (FL.tr (by decide) hq) D   hs) (fun p q2598 => ?_)
      refine Fo.gThrV ⟨q2598.1, (TE.tr TE.rf q2598.2)⟩ (fun  s31 ys31 => ?_)
      subst ys31
      exact Fo.some ⟨q2598.1, (TE.tr TE.rf q2598.2)⟩
    · refine Fo.ite (fun c2599 => ?_) (fun _ => Fo.none)
      refine Fo.bind (fc_x6_formula hq D   hs) (fun p q2600 => ?_)
      refine Fo.gThrV ⟨q2600.1, (TE.tr TE.rf q2600.2)⟩ (fun  s35 ys35 => ?_)
      subst ys35
      exact Fo.some ⟨q2600.1, (TE.tr TE.rf q2600.2)⟩
  · exact Fo.some ⟨hs, TE.rf⟩
theorem fc_x6_read {q : FQ} {σ0 : gMem} {N : Nat} {v0 : Nat} {v1 : Nat} {v2 : Int} {v3 : Nat} {v4 : Int} {σ : gMem} (hq : FL ([6], [(6, 9)], [(6, 2), (6, 3), (6, 16)], [11, 12, 13, 14, 15, 16, 17, 18, 19, 20, 21, 25, 102, 108]) q) (D : FD q) (hσ : FC q σ0 σ) : Fo (fun r => FC q σ0 r.2 ∧ TE σ r.2) (x6_read N v0 v1 v2 v3 v4 σ) := by
  unfold x6_read
  refine Fo.ite (fun c2601 => ?_) (fun _ => Fo.none)
  refine FC.lRr D hσ c2601 (by decide) (hq.2.2.1 (by decide)) (fun s2 q2602 e2603 => ?_)
  refine FC.lIo q2602 (e2603 _ _ (by decide) c2601) (hq.1 (by decide)) (fun s4 q2604 e2605 => ?_)
  refine FC.lIo q2604 (e2605 _ _ (by decide) (e2603 _ _ (by decide) c2601)) (hq.1 (by decide)) (fun s6 q2606 e2607 => ?_)
  refine FC.lRr D q2606 (e2607 _ _ (by decide) (e2605 _ _ (by decide) (e2603 _ _ (by decide) c2601))) (by decide) (hq.2.2.1 (by decide)) (fun s8 q2608 e2609 => ?_)
  refine FC.lIo q2608 (e2609 _ _ (by decide) (e2607 _ _ (by decide) (e2605 _ _ (by decide) (e2603 _ _ (by decide) c2601)))) (hq.1 (by decide)) (fun s10 q2610 e2611 => ?_)
  refine FC.lIo q2610 (e2611 _ _ (by decide) (e2609 _ _ (by decide) (e2607 _ _ (by decide) (e2605 _ _ (by decide) (e2603 _ _ (by decide) c2601))))) (hq.1 (by decide)) (fun s12 q2612 e2613 => ?_)
  refine FC.lIo q2612 (e2613 _ _ (by decide) (e2611 _ _ (by decide) (e2609 _ _ (by decide) (e2607 _ _ (by decide) (e2605 _ _ (by decide) (e2603 _ _ (by decide) c2601)))))) (hq.1 (by decide)) (fun s14 q2614 e2615 => ?_)
  refine FC.lRr D q2614 (e2615 _ _ (by decide) (e2613 _ _ (by decide) (e2611 _ _ (by decide) (e2609 _ _ (by decide) (e2607 _ _ (by decide) (e2605 _ _ (by decide) (e2603 _ _ (by decide) c2601))))))) (by decide) (hq.2.2.1 (by decide)) (fun s16 q2616 e2617 => ?_)
  exact (fc_x6_read_l47 (τ := σ) (FL.tr (by decide) hq) D  (fun y20 s21 q2618 e2619 => by
      exact (fc_x6_read_l69 (τ := σ) (FL.tr (by decide) hq) D  (fun y24 s25 q2620 e2621 => by
        exact Fo.te e2621 (fc_x6_read_j93 (FL.tr (by decide) hq) D   q2620)) _ _ _  q2618 e2619)) _ _ _  q2616 (TE.tr (TE.tr (TE.tr (TE.tr (TE.tr (TE.tr (TE.tr (TE.tr TE.rf e2603) e2605) e2607) e2609) e2611) e2613) e2615) e2617))
