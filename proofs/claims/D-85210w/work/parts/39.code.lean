def x1_blame_l91_j169 (N : Nat) (v0 : Nat) (v3 : Nat) (v4 : Int) (v5 : Int) (v6 : Int) (v9 : Int) (t0 : Int) (Kh : Int → Int → gMem → Option gR) (K : Int → gMem → Option gR) (s : gMem) : Option gR := if t0 = 0 then Kh v6 t0 s else Kh v9 t0 s
set_option maxRecDepth 100000 in
theorem okj_x1_blame_l91_j169 {ω : gW} {l : Launch} {d : Nat} {N : Nat} {σ0 : gMem} {s : gMem} {v0 : Nat} {v3 : Nat} {v4 : Int} {v5 : Int} {v6 : Int} {v9 : Int} {t0 : Int} {Kh : Int → Int → gMem → Option gR} {K : Int → gMem → Option gR} (hl : l.stackTraces = false) (hdp : 69 ≤ d) (hv4 : g32 v4) (hv5 : g32 v5) (hv6 : g32 v6) (hv9 : g32 v9) (ht0 : g32 t0) (hKh : ∀ (v6 : Int) (v7 : Int) (s : gMem) , g32 v6 → g32 v7 → GG (fun p : gR => p) gE ω l d mu_x1_blame σ0 91 [(0, vR v0), (3, vR v3), (4, vI v4), (5, vI v5), (6, vI v6), (7, vI v7)] [] s (Kh v6 v7 s)) (hK : ∀ (v6 : Int) (s : gMem) , g32 v6 → GG (fun p : gR => p) gE ω l d mu_x1_blame σ0 183 [(6, vI v6)] [] s (K v6 s)) : GG (fun p : gR => p) gE ω l d mu_x1_blame σ0 169 [(0, vR v0), (3, vR v3), (4, vI v4), (5, vI v5), (6, vI v6), (9, vI v9)] [vI t0] s (x1_blame_l91_j169 N v0 v3 v4 v5 v6 v9 t0 Kh K s) := by
  unfold x1_blame_l91_j169
  refine x_istore (μ := mu_x1_blame) (pc := 169) (lv' := [(7, vI t0), (0, vR v0), (3, vR v3), (4, vI v4), (5, vI v5), (6, vI v6), (9, vI v9)]) dX1_blame_169 (by decide) rfl ?_
  refine x_iload (μ := mu_x1_blame) (pc := 171) 0 dX1_blame_171 rfl ?_
  refine x_if_eq (μ := mu_x1_blame) (pc := 173) (tgt := 180) dX1_blame_173 rfl ht0 ?_ ?_
  · refine x_goto (μ := mu_x1_blame) (pc := 180) (tgt := 91) dX1_blame_180 rfl ?_
    refine x_loc (lv' := [(0, vR v0), (3, vR v3), (4, vI v4), (5, vI v5), (6, vI v6), (7, vI t0)]) [1, 2, 3, 4, 5, 0] rfl ?_
    exact hKh v6 t0 s hv6 ht0
  · refine x_iload (μ := mu_x1_blame) (pc := 176) 6 dX1_blame_176 rfl ?_
    refine x_istore (μ := mu_x1_blame) (pc := 178) (lv' := [(6, vI v9), (7, vI t0), (0, vR v0), (3, vR v3), (4, vI v4), (5, vI v5), (9, vI v9)]) dX1_blame_178 (by decide) rfl ?_
    refine x_goto (μ := mu_x1_blame) (pc := 180) (tgt := 91) dX1_blame_180 rfl ?_
    refine x_loc (lv' := [(0, vR v0), (3, vR v3), (4, vI v4), (5, vI v5), (6, vI v9), (7, vI t0)]) [2, 3, 4, 5, 0, 1] rfl ?_
    exact hKh v9 t0 s hv9 ht0
def x1_blame_l91_j156 (N : Nat) (v0 : Nat) (v3 : Nat) (v4 : Int) (v5 : Int) (v6 : Int) (t0 : Int) (Kh : Int → Int → gMem → Option gR) (K : Int → gMem → Option gR) (s : gMem) : Option gR := if t0 = (-1) then x1_blame_l91_j169 N v0 v3 v4 v5 v6 t0 0 (Kh) K s else x1_blame_l91_j169 N v0 v3 v4 v5 v6 t0 1 (Kh) K s
set_option maxRecDepth 100000 in
theorem okj_x1_blame_l91_j156 {ω : gW} {l : Launch} {d : Nat} {N : Nat} {σ0 : gMem} {s : gMem} {v0 : Nat} {v3 : Nat} {v4 : Int} {v5 : Int} {v6 : Int} {t0 : Int} {Kh : Int → Int → gMem → Option gR} {K : Int → gMem → Option gR} (hl : l.stackTraces = false) (hdp : 69 ≤ d) (hv4 : g32 v4) (hv5 : g32 v5) (hv6 : g32 v6) (ht0 : g32 t0) (hKh : ∀ (v6 : Int) (v7 : Int) (s : gMem) , g32 v6 → g32 v7 → GG (fun p : gR => p) gE ω l d mu_x1_blame σ0 91 [(0, vR v0), (3, vR v3), (4, vI v4), (5, vI v5), (6, vI v6), (7, vI v7)] [] s (Kh v6 v7 s)) (hK : ∀ (v6 : Int) (s : gMem) , g32 v6 → GG (fun p : gR => p) gE ω l d mu_x1_blame σ0 183 [(6, vI v6)] [] s (K v6 s)) : GG (fun p : gR => p) gE ω l d mu_x1_blame σ0 156 [(0, vR v0), (3, vR v3), (4, vI v4), (5, vI v5), (6, vI v6)] [vI t0] s (x1_blame_l91_j156 N v0 v3 v4 v5 v6 t0 Kh K s) := by
  unfold x1_blame_l91_j156
  refine x_istore (μ := mu_x1_blame) (pc := 156) (lv' := [(9, vI t0), (0, vR v0), (3, vR v3), (4, vI v4), (5, vI v5), (6, vI v6)]) dX1_blame_156 (by decide) rfl ?_
  refine x_iload (μ := mu_x1_blame) (pc := 158) 0 dX1_blame_158 rfl ?_
  refine x_iconst (μ := mu_x1_blame) (pc := 160) dX1_blame_160 ?_
  refine x_icmp_eq (μ := mu_x1_blame) (pc := 161) (tgt := 168) dX1_blame_161 rfl ht0 (by decide) ?_ ?_
  · refine x_iconst (μ := mu_x1_blame) (pc := 168) dX1_blame_168 ?_
    refine x_loc (lv' := [(0, vR v0), (3, vR v3), (4, vI v4), (5, vI v5), (6, vI v6), (9, vI t0)]) [1, 2, 3, 4, 5, 0] rfl ?_
    exact okj_x1_blame_l91_j169 hl hdp hv4 hv5 hv6 ht0 (by decide) hKh hK
  · refine x_iconst (μ := mu_x1_blame) (pc := 164) dX1_blame_164 ?_
    refine x_goto (μ := mu_x1_blame) (pc := 165) (tgt := 169) dX1_blame_165 rfl ?_
    refine x_loc (lv' := [(0, vR v0), (3, vR v3), (4, vI v4), (5, vI v5), (6, vI v6), (9, vI t0)]) [1, 2, 3, 4, 5, 0] rfl ?_
    exact okj_x1_blame_l91_j169 hl hdp hv4 hv5 hv6 ht0 (by decide) hKh hK
def x1_blame_l91 (N : Nat) (v0 : Nat) (v3 : Nat) (v4 : Int) (v5 : Int) (K : Int → gMem → Option gR) : Nat → Int → Int → gMem → Option gR
  | 0, _, _, _ => none
  | n + 1, v6, v7, s => if v7 = 0 then K v6 s else if mT s v0 = 1 then if mT s (mR s v0 4) = 104 then if 0 ≤ v6 ∧ v6 < (mN s (mR s v0 4) : Int) then if mT s (mR s (mR s v0 4) v6.toNat) = 9 then (x1_has N v0 (mI s (mR s (mR s v0 4) v6.toNat) 2) v4 v5 v3 s).bind (fun x19 => if x19 = 0 then (x1_has N v0 (mI s (mR s (mR s v0 4) v6.toNat) 3) v4 v5 v3 s).bind (fun x22 => if x22 = 0 then x1_blame_l91_j156 N v0 v3 v4 v5 v6 (-1) (x1_blame_l91 N v0 v3 v4 v5 K n) K s else x1_blame_l91_j156 N v0 v3 v4 v5 v6 (mI s (mR s (mR s v0 4) v6.toNat) 3) (x1_blame_l91 N v0 v3 v4 v5 K n) K s) else x1_blame_l91_j156 N v0 v3 v4 v5 v6 (mI s (mR s (mR s v0 4) v6.toNat) 2) (x1_blame_l91 N v0 v3 v4 v5 K n) K s) else none else none else none else none
set_option maxRecDepth 100000 in
theorem okl_x1_blame_l91 {ω : gW} {l : Launch} {d : Nat} {N : Nat} {σ0 : gMem} {v0 : Nat} {v3 : Nat} {v4 : Int} {v5 : Int} {K : Int → gMem → Option gR} (hl : l.stackTraces = false) (hdp : 69 ≤ d) (hv4 : g32 v4) (hv5 : g32 v5) (hK : ∀ (v6 : Int) (s : gMem) , g32 v6 → GG (fun p : gR => p) gE ω l d mu_x1_blame σ0 183 [(6, vI v6)] [] s (K v6 s)) : ∀ (n : Nat) (v6 : Int) (v7 : Int) (s : gMem) , g32 v6 → g32 v7 → GG (fun p : gR => p) gE ω l d mu_x1_blame σ0 91 [(0, vR v0), (3, vR v3), (4, vI v4), (5, vI v5), (6, vI v6), (7, vI v7)] [] s (x1_blame_l91 N v0 v3 v4 v5 K n v6 v7 s) := by
  intro n
  induction n with
  | zero => intros; exact x_none
  | succ n ih =>
    intro v6 v7 s hv6 hv7
    unfold x1_blame_l91
    refine x_iload (μ := mu_x1_blame) (pc := 91) 5 dX1_blame_91 rfl ?_
    refine x_if_eq (μ := mu_x1_blame) (pc := 93) (tgt := 183) dX1_blame_93 rfl hv7 ?_ ?_
    · refine x_loc (lv' := [(6, vI v6)]) [4] rfl ?_
      exact hK v6 s hv6
    · refine x_aload_n (μ := mu_x1_blame) (pc := 96) 0 dX1_blame_96 rfl ?_
      refine x_if (fun hT15 => ?_)
      refine x_fgr (μ := mu_x1_blame) (pc := 97) fX1_4 (by first | exact Or.inl ⟨_, rfl⟩ | exact Or.inr ⟨_, rfl⟩) q649 dX1_blame_97 hT15 ?_
      refine x_iload (μ := mu_x1_blame) (pc := 100) 4 dX1_blame_100 rfl ?_
      refine x_if (fun hT16 => ?_)
      refine x_aald (μ := mu_x1_blame) (pc := 102) 4 (fun _ => rfl) rfl rfl dX1_blame_102 hT16 rfl ?_
      refine x_astore (μ := mu_x1_blame) (pc := 103) (lv' := [(8, vR (mR s (mR s v0 4) v6.toNat)), (0, vR v0), (3, vR v3), (4, vI v4), (5, vI v5), (6, vI v6), (7, vI v7)]) dX1_blame_103 (by decide) rfl ?_
      refine x_aload_n (μ := mu_x1_blame) (pc := 105) 1 dX1_blame_105 rfl ?_
      refine x_aload (μ := mu_x1_blame) (pc := 106) 0 dX1_blame_106 rfl ?_
      refine x_if (fun hT17 => ?_)
      refine x_fgiN (μ := mu_x1_blame) (pc := 108) fX10_2 q607 dX1_blame_108 hT17 (fun hr18 => ?_)
      refine x_iload (μ := mu_x1_blame) (pc := 111) 3 dX1_blame_111 rfl ?_
      refine x_iload (μ := mu_x1_blame) (pc := 113) 4 dX1_blame_113 rfl ?_
      refine x_aload_n (μ := mu_x1_blame) (pc := 115) 2 dX1_blame_115 rfl ?_
      refine x_callV_pi (μ := mu_x1_blame) (pc := 116) (ok_x1_has (ω := ω) (l := l) (d := d - 1) hl (by omega) hr18 hv4 hv5) gRel_E gRel_E (fun _ q => q) q2617 q2619 qs76 q221 q2620 dX1_blame_116 rfl hT15 hy_x1_has (by omega) (Nat.le_of_ble_eq_true rfl) rfl (Nat.le_of_ble_eq_true rfl) (fun x19 hr20 => ?_)
      refine x_if_eq (μ := mu_x1_blame) (pc := 119) (tgt := 130) dX1_blame_119 rfl hr20 ?_ ?_
      · refine x_aload_n (μ := mu_x1_blame) (pc := 130) 1 dX1_blame_130 rfl ?_
        refine x_aload (μ := mu_x1_blame) (pc := 131) 0 dX1_blame_131 rfl ?_
        refine x_fgiN (μ := mu_x1_blame) (pc := 133) fX10_3 q609 dX1_blame_133 hT17 (fun hr21 => ?_)
        refine x_iload (μ := mu_x1_blame) (pc := 136) 3 dX1_blame_136 rfl ?_
        refine x_iload (μ := mu_x1_blame) (pc := 138) 4 dX1_blame_138 rfl ?_
        refine x_aload_n (μ := mu_x1_blame) (pc := 140) 2 dX1_blame_140 rfl ?_
        refine x_callV_pi (μ := mu_x1_blame) (pc := 141) (ok_x1_has (ω := ω) (l := l) (d := d - 1) hl (by omega) hr21 hv4 hv5) gRel_E gRel_E (fun _ q => q) q2617 q2619 qs76 q221 q2620 dX1_blame_141 rfl hT15 hy_x1_has (by omega) (Nat.le_of_ble_eq_true rfl) rfl (Nat.le_of_ble_eq_true rfl) (fun x22 hr23 => ?_)
        refine x_if_eq (μ := mu_x1_blame) (pc := 144) (tgt := 155) dX1_blame_144 rfl hr23 ?_ ?_
        · refine x_iconst (μ := mu_x1_blame) (pc := 155) dX1_blame_155 ?_
          refine x_loc (lv' := [(0, vR v0), (3, vR v3), (4, vI v4), (5, vI v5), (6, vI v6)]) [1, 2, 3, 4, 5] rfl ?_
          exact okj_x1_blame_l91_j156 hl hdp hv4 hv5 hv6 (by decide) ih hK
        · refine x_aload (μ := mu_x1_blame) (pc := 147) 0 dX1_blame_147 rfl ?_
          refine x_fgiN (μ := mu_x1_blame) (pc := 149) fX10_3 q609 dX1_blame_149 hT17 (fun hr24 => ?_)
          refine x_goto (μ := mu_x1_blame) (pc := 152) (tgt := 156) dX1_blame_152 rfl ?_
          refine x_loc (lv' := [(0, vR v0), (3, vR v3), (4, vI v4), (5, vI v5), (6, vI v6)]) [1, 2, 3, 4, 5] rfl ?_
          exact okj_x1_blame_l91_j156 hl hdp hv4 hv5 hv6 hr24 ih hK
      · refine x_aload (μ := mu_x1_blame) (pc := 122) 0 dX1_blame_122 rfl ?_
        refine x_fgiN (μ := mu_x1_blame) (pc := 124) fX10_2 q607 dX1_blame_124 hT17 (fun hr25 => ?_)
        refine x_goto (μ := mu_x1_blame) (pc := 127) (tgt := 156) dX1_blame_127 rfl ?_
        refine x_loc (lv' := [(0, vR v0), (3, vR v3), (4, vI v4), (5, vI v5), (6, vI v6)]) [1, 2, 3, 4, 5] rfl ?_
        exact okj_x1_blame_l91_j156 hl hdp hv4 hv5 hv6 hr25 ih hK
def x1_blame (N : Nat) (v0 : Nat) (v1 : Int) (v2 : Int) (σ : gMem) : Option gR := if mT σ v0 = 1 then if mT σ (mR σ v0 8) = 8 then (x9_has (mR σ v0 8) (w32 (v1 - 1)) (w32 (v2 - 1)) σ).bind (fun x3 => if x3 ≠ 0 then if mT σ (mR σ (mR σ v0 8) 2) = 111 then if 0 ≤ (v1 - 1) ∧ (v1 - 1) < (mN σ (mR σ (mR σ v0 8) 2) : Int) then if mT σ (mR σ (mR σ (mR σ v0 8) 2) (v1 - 1).toNat) = 110 then if 0 ≤ (v2 - 1) ∧ (v2 - 1) < (mN σ (mR σ (mR σ (mR σ v0 8) 2) (v1 - 1).toNat) : Int) then if mT σ (mR σ (mR σ v0 8) 0) = 100 then if 0 ≤ (v1 - 1) ∧ (v1 - 1) < (mN σ (mR σ (mR σ v0 8) 0) : Int) then if mT σ (mR σ (mR σ v0 8) 1) = 100 then if 0 ≤ (v2 - 1) ∧ (v2 - 1) < (mN σ (mR σ (mR σ v0 8) 1) : Int) then (x1_head v0 σ).bind (fun x11 => (x1_has N v0 x11 (mI σ (mR σ (mR σ v0 8) 0) (v1 - 1).toNat) (mI σ (mR σ (mR σ v0 8) 1) (v2 - 1).toNat) (mR σ (mR σ (mR σ (mR σ v0 8) 2) (v1 - 1).toNat) (v2 - 1).toNat) σ).bind (fun x13 => if x13 ≠ 0 then x1_blame_l91 N v0 (mR σ (mR σ (mR σ (mR σ v0 8) 2) (v1 - 1).toNat) (v2 - 1).toNat) (mI σ (mR σ (mR σ v0 8) 0) (v1 - 1).toNat) (mI σ (mR σ (mR σ v0 8) 1) (v2 - 1).toNat) (fun y26 s27 => some (.inl (some (vI y26)), s27)) N x11 1 σ else some (.inl (some (vI (-1))), σ))) else none else none else none else none else none else none else none else none else some (.inr "java/lang/IndexOutOfBoundsException", wX σ 6)) else none else none
set_option maxRecDepth 100000 in
theorem ok_x1_blame {ω : gW} {l : Launch} {d : Nat} {N : Nat} {σ : gMem} {v0 : Nat} {v1 : Int} {v2 : Int} (hl : l.stackTraces = false) (hdp : 69 ≤ d) (hv1 : g32 v1) (hv2 : g32 v2) : gK (fun p : gR => p) gE ω l d mu_x1_blame [vR v0, vI v1, vI v2] σ (x1_blame N v0 v1 v2 σ) := by
  refine gK.of hp_X1 (Nat.le_of_ble_eq_true rfl) ?_
  unfold x1_blame
  refine x_aload_n (μ := mu_x1_blame) (pc := 0) 0 dX1_blame_0 rfl ?_
  refine x_if (fun hT1 => ?_)
  refine x_fgr (μ := mu_x1_blame) (pc := 1) fX1_8 (by first | exact Or.inl ⟨_, rfl⟩ | exact Or.inr ⟨_, rfl⟩) q653 dX1_blame_1 hT1 ?_
  refine x_iload_n (μ := mu_x1_blame) (pc := 4) 1 dX1_blame_4 rfl ?_
  refine x_iconst (μ := mu_x1_blame) (pc := 5) dX1_blame_5 ?_
  refine x_isub (μ := mu_x1_blame) (pc := 6) dX1_blame_6 ?_
  refine x_iload_n (μ := mu_x1_blame) (pc := 7) 2 dX1_blame_7 rfl ?_
  refine x_iconst (μ := mu_x1_blame) (pc := 8) dX1_blame_8 ?_
  refine x_isub (μ := mu_x1_blame) (pc := 9) dX1_blame_9 ?_
  refine x_w1 ?_
  refine x_w2 ?_
  refine x_if (fun hT2 => ?_)
  refine x_callV_pi (μ := mu_x1_blame) (pc := 10) (ok_x9_has (ω := ω) (l := l) (d := d - 1) hl (by omega) (w32_rng _) (w32_rng _)) gRel_E gRel_E (fun _ q => q) q820 q821 q822 q230 q823 dX1_blame_10 rfl hT2 hy_x9_has (by omega) (Nat.le_of_ble_eq_true rfl) rfl (Nat.le_of_ble_eq_true rfl) (fun x3 hr4 => ?_)
  refine x_if_ne (μ := mu_x1_blame) (pc := 13) (tgt := 24) dX1_blame_13 rfl hr4 ?_ ?_
  · refine x_aload_n (μ := mu_x1_blame) (pc := 24) 0 dX1_blame_24 rfl ?_
    refine x_fgr (μ := mu_x1_blame) (pc := 25) fX1_8 (by first | exact Or.inl ⟨_, rfl⟩ | exact Or.inr ⟨_, rfl⟩) q653 dX1_blame_25 hT1 ?_
    refine x_fgrN (μ := mu_x1_blame) (pc := 28) fX9_2 (by first | exact Or.inl ⟨_, rfl⟩ | exact Or.inr ⟨_, rfl⟩) q582 dX1_blame_28 hT2 ?_
    refine x_iload_n (μ := mu_x1_blame) (pc := 31) 1 dX1_blame_31 rfl ?_
    refine x_iconst (μ := mu_x1_blame) (pc := 32) dX1_blame_32 ?_
    refine x_isub (μ := mu_x1_blame) (pc := 33) dX1_blame_33 ?_
    refine x_if (fun hT5 => ?_)
    refine x_aald (μ := mu_x1_blame) (pc := 34) 11 (fun _ => rfl) rfl rfl dX1_blame_34 hT5 rfl ?_
    refine x_iload_n (μ := mu_x1_blame) (pc := 35) 2 dX1_blame_35 rfl ?_
    refine x_iconst (μ := mu_x1_blame) (pc := 36) dX1_blame_36 ?_
    refine x_isub (μ := mu_x1_blame) (pc := 37) dX1_blame_37 ?_
    refine x_if (fun hT6 => ?_)
    refine x_aald (μ := mu_x1_blame) (pc := 38) 10 (fun _ => rfl) rfl rfl dX1_blame_38 hT6 rfl ?_
    refine x_astore_n (μ := mu_x1_blame) (pc := 39) (lv' := [(3, vR (mR σ (mR σ (mR σ (mR σ v0 8) 2) (v1 - 1).toNat) (v2 - 1).toNat)), (0, vR v0), (1, vI v1), (2, vI v2)]) dX1_blame_39 rfl (by decide) rfl ?_
    refine x_aload_n (μ := mu_x1_blame) (pc := 40) 1 dX1_blame_40 rfl ?_
    refine x_fgr (μ := mu_x1_blame) (pc := 41) fX1_8 (by first | exact Or.inl ⟨_, rfl⟩ | exact Or.inr ⟨_, rfl⟩) q653 dX1_blame_41 hT1 ?_
    refine x_fgrN (μ := mu_x1_blame) (pc := 44) fX9_0 (by first | exact Or.inl ⟨_, rfl⟩ | exact Or.inr ⟨_, rfl⟩) q571 dX1_blame_44 hT2 ?_
    refine x_iload_n (μ := mu_x1_blame) (pc := 47) 2 dX1_blame_47 rfl ?_
    refine x_iconst (μ := mu_x1_blame) (pc := 48) dX1_blame_48 ?_
    refine x_isub (μ := mu_x1_blame) (pc := 49) dX1_blame_49 ?_
    refine x_if (fun hT7 => ?_)
    refine x_iald (μ := mu_x1_blame) (pc := 50) dX1_blame_50 hT7 rfl (fun hr8 => ?_)
    refine x_istore (μ := mu_x1_blame) (pc := 51) (lv' := [(4, vI (mI σ (mR σ (mR σ v0 8) 0) (v1 - 1).toNat)), (3, vR (mR σ (mR σ (mR σ (mR σ v0 8) 2) (v1 - 1).toNat) (v2 - 1).toNat)), (0, vR v0), (1, vI v1), (2, vI v2)]) dX1_blame_51 (by decide) rfl ?_
    refine x_aload_n (μ := mu_x1_blame) (pc := 53) 2 dX1_blame_53 rfl ?_
    refine x_fgr (μ := mu_x1_blame) (pc := 54) fX1_8 (by first | exact Or.inl ⟨_, rfl⟩ | exact Or.inr ⟨_, rfl⟩) q653 dX1_blame_54 hT1 ?_
    refine x_fgrN (μ := mu_x1_blame) (pc := 57) fX9_1 (by first | exact Or.inl ⟨_, rfl⟩ | exact Or.inr ⟨_, rfl⟩) q576 dX1_blame_57 hT2 ?_
    refine x_iload_n (μ := mu_x1_blame) (pc := 60) 4 dX1_blame_60 rfl ?_
    refine x_iconst (μ := mu_x1_blame) (pc := 61) dX1_blame_61 ?_
    refine x_isub (μ := mu_x1_blame) (pc := 62) dX1_blame_62 ?_
    refine x_if (fun hT9 => ?_)
    refine x_iald (μ := mu_x1_blame) (pc := 63) dX1_blame_63 hT9 rfl (fun hr10 => ?_)
    refine x_istore (μ := mu_x1_blame) (pc := 64) (lv' := [(5, vI (mI σ (mR σ (mR σ v0 8) 1) (v2 - 1).toNat)), (4, vI (mI σ (mR σ (mR σ v0 8) 0) (v1 - 1).toNat)), (3, vR (mR σ (mR σ (mR σ (mR σ v0 8) 2) (v1 - 1).toNat) (v2 - 1).toNat)), (0, vR v0), (1, vI v1), (2, vI v2)]) dX1_blame_64 (by decide) rfl ?_
    refine x_aload_n (μ := mu_x1_blame) (pc := 66) 3 dX1_blame_66 rfl ?_
    refine x_callV_pi (μ := mu_x1_blame) (pc := 67) (ok_x1_head (ω := ω) (l := l) (d := d - 1) hl (by omega) ) gRel_E gRel_E (fun _ q => q) q766 q768 qs2 q221 q769 dX1_blame_67 rfl hT1 hy_x1_head (by omega) (Nat.le_of_ble_eq_true rfl) rfl (Nat.le_of_ble_eq_true rfl) (fun x11 hr12 => ?_)
    refine x_istore (μ := mu_x1_blame) (pc := 70) (lv' := [(6, vI x11), (5, vI (mI σ (mR σ (mR σ v0 8) 1) (v2 - 1).toNat)), (4, vI (mI σ (mR σ (mR σ v0 8) 0) (v1 - 1).toNat)), (3, vR (mR σ (mR σ (mR σ (mR σ v0 8) 2) (v1 - 1).toNat) (v2 - 1).toNat)), (0, vR v0), (1, vI v1), (2, vI v2)]) dX1_blame_70 (by decide) rfl ?_
    refine x_aload_n (μ := mu_x1_blame) (pc := 72) 4 dX1_blame_72 rfl ?_
    refine x_iload (μ := mu_x1_blame) (pc := 73) 0 dX1_blame_73 rfl ?_
    refine x_iload (μ := mu_x1_blame) (pc := 75) 2 dX1_blame_75 rfl ?_
    refine x_iload (μ := mu_x1_blame) (pc := 77) 1 dX1_blame_77 rfl ?_
    refine x_aload_n (μ := mu_x1_blame) (pc := 79) 3 dX1_blame_79 rfl ?_
    refine x_callV_pi (μ := mu_x1_blame) (pc := 80) (ok_x1_has (ω := ω) (l := l) (d := d - 1) hl (by omega) hr12 hr8 hr10) gRel_E gRel_E (fun _ q => q) q2617 q2619 qs76 q221 q2620 dX1_blame_80 rfl hT1 hy_x1_has (by omega) (Nat.le_of_ble_eq_true rfl) rfl (Nat.le_of_ble_eq_true rfl) (fun x13 hr14 => ?_)
    refine x_if_ne (μ := mu_x1_blame) (pc := 83) (tgt := 88) dX1_blame_83 rfl hr14 ?_ ?_
    · refine x_iconst (μ := mu_x1_blame) (pc := 88) dX1_blame_88 ?_
      refine x_istore (μ := mu_x1_blame) (pc := 89) (lv' := [(7, vI 1), (6, vI x11), (5, vI (mI σ (mR σ (mR σ v0 8) 1) (v2 - 1).toNat)), (4, vI (mI σ (mR σ (mR σ v0 8) 0) (v1 - 1).toNat)), (3, vR (mR σ (mR σ (mR σ (mR σ v0 8) 2) (v1 - 1).toNat) (v2 - 1).toNat)), (0, vR v0), (1, vI v1), (2, vI v2)]) dX1_blame_89 (by decide) rfl ?_
      refine x_loc (lv' := [(0, vR v0), (3, vR (mR σ (mR σ (mR σ (mR σ v0 8) 2) (v1 - 1).toNat) (v2 - 1).toNat)), (4, vI (mI σ (mR σ (mR σ v0 8) 0) (v1 - 1).toNat)), (5, vI (mI σ (mR σ (mR σ v0 8) 1) (v2 - 1).toNat)), (6, vI x11), (7, vI 1)]) [5, 4, 3, 2, 1, 0] rfl ?_
      refine okl_x1_blame_l91 hl hdp hr8 hr10 (fun y26 s27 hy26 => ?_) N x11 1 σ hr12 (by decide)
      refine x_iload (μ := mu_x1_blame) (pc := 183) 0 dX1_blame_183 rfl ?_
      exact x_iret (μ := mu_x1_blame) (pc := 185) (a1 := ((.inl (some (vI y26)), s27) : gR)) dX1_blame_185 rfl rfl (gRel_E.1 _) (show g32 y26 from hy26)
    · refine x_iconst (μ := mu_x1_blame) (pc := 86) dX1_blame_86 ?_
      exact x_iret (μ := mu_x1_blame) (pc := 87) (a1 := ((.inl (some (vI (-1))), σ) : gR)) dX1_blame_87 rfl rfl (gRel_E.1 _) (show g32 (-1) from (by decide))
  · exact x_throw0 (μ := mu_x1_blame) (pc := 16) hl gex_IndexOutOfBoundsException (by decide) rfl q1762 q236 dX1_blame_16 dX1_blame_19 dX1_blame_20 dX1_blame_23 (by decide) (by omega) (Nat.le_of_ble_eq_true rfl)
def tw_readChain_l4 (N : Nat) (W : gMem → Option gMem) (h : Nat) (K : gMem → Option gMem) : Nat → gMem → Option gMem
  | 0, _ => none
  | n + 1, s => (tw_isSignOf h 16 16 s).bind (fun x4 => if x4 = 0 then K s else (tw_next N h s).bind (fun x6 => (tw_readSum N W h x6).bind (fun x9 => (tw_part N h 16 2 x9).bind (fun x12 => tw_readChain_l4 N W h K n (x12.2)))))
set_option maxRecDepth 100000 in
theorem okl_tw_readChain_l4 {ω : gW} {l : Launch} {d : Nat} {N : Nat} {W : gMem → Option gMem} {dW : Nat} {h : Nat} {σ0 : gMem} {K : gMem → Option gMem} (hW : ∀ (s : gMem), TM s h → gK (fun p : gMem => (.inl none, p)) gTw ω l dW mu_tw_readSign [vR h] s (W s)) (hdp : 9 ≤ d) (hdw : dW + 3 ≤ d) (hK : ∀ (s : gMem) , TM s h → GG (fun p : gMem => (.inl none, p)) gTw ω l d mu_tw_readChain σ0 34 [] [] s (K s)) : ∀ (n : Nat) (s : gMem) , TM s h → GG (fun p : gMem => (.inl none, p)) gTw ω l d mu_tw_readChain σ0 4 [(0, vR h)] [] s (tw_readChain_l4 N W h K n s) := by
  intro n
  induction n with
  | zero => intros; exact x_none
  | succ n ih =>
    intro s hM
    unfold tw_readChain_l4
    refine x_aload_n (μ := mu_tw_readChain) (pc := 4) 0 dX11_readChain_4 rfl ?_
    refine x_bipush (μ := mu_tw_readChain) (pc := 5) dX11_readChain_5 (by decide) ?_
    refine x_bipush (μ := mu_tw_readChain) (pc := 7) dX11_readChain_7 (by decide) ?_
    refine x_callV_pi (μ := mu_tw_readChain) (pc := 9) (ok_tw_isSignOf (ω := ω) (l := l) (d := d - 1) (by omega) hM (by decide) (by decide)) gRel_Tw gRel_Tw (fun _ q => q) q3067 q3069 qs97 q232 q3070 dX11_readChain_9 rfl hM.1 hy_tw_isSignOf (by omega) (Nat.le_of_ble_eq_true rfl) rfl (Nat.le_of_ble_eq_true rfl) (fun x4 hr5 => ?_)
    refine x_if_eq (μ := mu_tw_readChain) (pc := 12) (tgt := 34) dX11_readChain_12 rfl hr5 ?_ ?_
    · refine x_loc (lv' := []) [] rfl ?_
      exact hK s hM
    · refine x_aload_n (μ := mu_tw_readChain) (pc := 15) 0 dX11_readChain_15 rfl ?_
      refine x_callV_mv (μ := mu_tw_readChain) (pc := 16) (ok_tw_next (ω := ω) (l := l) (d := d - 1) (by omega) hM ) gRel_Tw gRel_Tw (fun _ q => q) q2995 q2997 qs82 q232 q2998 dX11_readChain_16 rfl hM.1 hy_tw_next (by omega) (Nat.le_of_ble_eq_true rfl) rfl (Nat.le_of_ble_eq_true rfl) (fun x6 k7 => ?_)
      have hM8 : TM x6 h := hM.tw k7
      refine x_aload_n (μ := mu_tw_readChain) (pc := 19) 0 dX11_readChain_19 rfl ?_
      refine x_callV_mv (μ := mu_tw_readChain) (pc := 20) (ok_tw_readSum (ω := ω) (l := l) (d := d - 1) hW (by omega) (by omega) hM8 ) gRel_Tw gRel_Tw (fun _ q => q) q3055 q3057 qs94 q232 q3058 dX11_readChain_20 rfl hM8.1 hy_tw_readSum (by omega) (Nat.le_of_ble_eq_true rfl) rfl (Nat.le_of_ble_eq_true rfl) (fun x9 k10 => ?_)
      have hM11 : TM x9 h := hM8.tw k10
      refine x_aload_n (μ := mu_tw_readChain) (pc := 23) 0 dX11_readChain_23 rfl ?_
      refine x_bipush (μ := mu_tw_readChain) (pc := 24) dX11_readChain_24 (by decide) ?_
      refine x_iconst (μ := mu_tw_readChain) (pc := 26) dX11_readChain_26 ?_
      refine x_callV_mi (μ := mu_tw_readChain) (pc := 27) (ok_tw_part (ω := ω) (l := l) (d := d - 1) (by omega) hM11 (by decide) (by decide)) gRel_Tw gRel_Tw (fun _ q => q) q3083 q3085 qs101 q232 q3086 dX11_readChain_27 rfl hM11.1 hy_tw_part (by omega) (Nat.le_of_ble_eq_true rfl) rfl (Nat.le_of_ble_eq_true rfl) (fun x12 k14 hr13 => ?_)
      have hM15 : TM (x12.2) h := hM11.tw k14
      refine x_pop (μ := mu_tw_readChain) (pc := 30) dX11_readChain_30 rfl ?_
      refine x_goto (μ := mu_tw_readChain) (pc := 31) (tgt := 4) dX11_readChain_31 rfl ?_
      exact ih (x12.2) hM15
def tw_readChain (N : Nat) (W : gMem → Option gMem) (h : Nat) (σ : gMem) : Option gMem := (tw_readSum N W h σ).bind (fun x1 => tw_readChain_l4 N W h (fun s16 => some s16) N x1)
set_option maxRecDepth 100000 in
theorem ok_tw_readChain {ω : gW} {l : Launch} {d : Nat} {N : Nat} {W : gMem → Option gMem} {dW : Nat} {h : Nat} {σ : gMem} (hW : ∀ (s : gMem), TM s h → gK (fun p : gMem => (.inl none, p)) gTw ω l dW mu_tw_readSign [vR h] s (W s)) (hdp : 9 ≤ d) (hdw : dW + 3 ≤ d) (hM : TM σ h) : gK (fun p : gMem => (.inl none, p)) gTw ω l d mu_tw_readChain [vR h] σ (tw_readChain N W h σ) := by
  refine gK.of hp_X11 (Nat.le_of_ble_eq_true rfl) ?_
  unfold tw_readChain
  refine x_aload_n (μ := mu_tw_readChain) (pc := 0) 0 dX11_readChain_0 rfl ?_
  refine x_callV_mv (μ := mu_tw_readChain) (pc := 1) (ok_tw_readSum (ω := ω) (l := l) (d := d - 1) hW (by omega) (by omega) hM ) gRel_Tw gRel_Tw (fun _ q => q) q3055 q3057 qs94 q232 q3058 dX11_readChain_1 rfl hM.1 hy_tw_readSum (by omega) (Nat.le_of_ble_eq_true rfl) rfl (Nat.le_of_ble_eq_true rfl) (fun x1 k2 => ?_)
  have hM3 : TM x1 h := hM.tw k2
  refine okl_tw_readChain_l4 hW hdp hdw (fun s16 hM17 => ?_) N x1 hM3
  exact x_vret (μ := mu_tw_readChain) (pc := 34) (a1 := s16) dX11_readChain_34 rfl rfl (gRel_Tw.1 _) trivial
def tw_workMany_l19_j88 (N : Nat) (W : Int → Int → Int → gMem → Option gMem) (h : Nat) (v1 : Int) (v2 : Int) (v3 : Int) (v4 : Int) (v5 : Int) (v6 : Int) (Kh : Int → gMem → Option gMem) (K : gMem → Option gMem) (s : gMem) : Option gMem := Kh (w32 (v6 + 1)) s
set_option maxRecDepth 100000 in
theorem okj_tw_workMany_l19_j88 {ω : gW} {l : Launch} {d : Nat} {N : Nat} {W : Int → Int → Int → gMem → Option gMem} {dW : Nat} {h : Nat} {σ0 : gMem} {s : gMem} {v1 : Int} {v2 : Int} {v3 : Int} {v4 : Int} {v5 : Int} {v6 : Int} {Kh : Int → gMem → Option gMem} {K : gMem → Option gMem} (hW : ∀ (a1 : Int) (a2 : Int) (a3 : Int) (s : gMem), TM s h → g32 a1 → g32 a2 → g32 a3 → gK (fun p : gMem => (.inl none, p)) gTw ω l dW mu_tw_work [vR h, vI a1, vI a2, vI a3] s (W a1 a2 a3 s)) (hdp : 5 ≤ d) (hdw : dW + 1 ≤ d) (hM : TM s h) (hv1 : g32 v1) (hv2 : g32 v2) (hv3 : g32 v3) (hv4 : g32 v4) (hv5 : g32 v5) (hv6 : g32 v6) (hKh : ∀ (v6 : Int) (s : gMem) , g32 v6 → TM s h → GG (fun p : gMem => (.inl none, p)) gTw ω l d mu_tw_workMany σ0 19 [(0, vR h), (1, vI v1), (2, vI v2), (3, vI v3), (4, vI v4), (5, vI v5), (6, vI v6)] [] s (Kh v6 s)) (hK : ∀ (s : gMem) , TM s h → GG (fun p : gMem => (.inl none, p)) gTw ω l d mu_tw_workMany σ0 94 [(0, vR h), (1, vI v1), (2, vI v2), (3, vI v3), (4, vI v4), (5, vI v5)] [] s (K s)) : GG (fun p : gMem => (.inl none, p)) gTw ω l d mu_tw_workMany σ0 88 [(0, vR h), (1, vI v1), (2, vI v2), (3, vI v3), (4, vI v4), (5, vI v5), (6, vI v6)] [] s (tw_workMany_l19_j88 N W h v1 v2 v3 v4 v5 v6 Kh K s) := by
  unfold tw_workMany_l19_j88
  refine x_iincw (μ := mu_tw_workMany) (pc := 88) (lv' := [(6, vI (w32 (v6 + 1))), (0, vR h), (1, vI v1), (2, vI v2), (3, vI v3), (4, vI v4), (5, vI v5)]) 6 dX11_workMany_88 rfl (by decide) rfl ?_
  refine x_goto (μ := mu_tw_workMany) (pc := 91) (tgt := 19) dX11_workMany_91 rfl ?_
  refine x_loc (lv' := [(0, vR h), (1, vI v1), (2, vI v2), (3, vI v3), (4, vI v4), (5, vI v5), (6, vI (w32 (v6 + 1)))]) [1, 2, 3, 4, 5, 6, 0] rfl ?_
  exact hKh (w32 (v6 + 1)) s (w32_rng _) hM
def tw_workMany_l19 (N : Nat) (W : Int → Int → Int → gMem → Option gMem) (h : Nat) (v1 : Int) (v2 : Int) (v3 : Int) (v4 : Int) (v5 : Int) (K : gMem → Option gMem) : Nat → Int → gMem → Option gMem
  | 0, _, _ => none
  | n + 1, v6, s => if v5 ≤ v6 then K s else (tw_under N h v1 v6 s).bind (fun x3 => if 0 ≤ x3 ∧ x3 < ((60420 : Nat) : Int) then if mI s (h + 14) x3.toNat = 6 then tw_workMany_l19_j88 N W h v1 v2 v3 v4 v5 v6  (tw_workMany_l19 N W h v1 v2 v3 v4 v5 K n) K s else (W x3 v2 (w32 (v3 + v6)) s).bind (fun x6 => if 0 ≤ (v3 + v6) ∧ (v3 + v6) < ((200 : Nat) : Int) then if mI x6 (h + 33) (v3 + v6).toNat ≠ 4 then tw_workMany_l19_j88 N W h v1 v2 v3 v4 v5 v6  (tw_workMany_l19 N W h v1 v2 v3 v4 v5 K n) K x6 else if v4 = 36 then tw_workMany_l19_j88 N W h v1 v2 v3 v4 v5 v6  (tw_workMany_l19 N W h v1 v2 v3 v4 v5 K n) K x6 else (tw_bring N h (w32 (v3 + v6)) v3 x6).bind (fun x10 => some x10) else none) else none)
set_option maxRecDepth 100000 in
theorem okl_tw_workMany_l19 {ω : gW} {l : Launch} {d : Nat} {N : Nat} {W : Int → Int → Int → gMem → Option gMem} {dW : Nat} {h : Nat} {σ0 : gMem} {v1 : Int} {v2 : Int} {v3 : Int} {v4 : Int} {v5 : Int} {K : gMem → Option gMem} (hW : ∀ (a1 : Int) (a2 : Int) (a3 : Int) (s : gMem), TM s h → g32 a1 → g32 a2 → g32 a3 → gK (fun p : gMem => (.inl none, p)) gTw ω l dW mu_tw_work [vR h, vI a1, vI a2, vI a3] s (W a1 a2 a3 s)) (hdp : 5 ≤ d) (hdw : dW + 1 ≤ d) (hv1 : g32 v1) (hv2 : g32 v2) (hv3 : g32 v3) (hv4 : g32 v4) (hv5 : g32 v5) (hK : ∀ (s : gMem) , TM s h → GG (fun p : gMem => (.inl none, p)) gTw ω l d mu_tw_workMany σ0 94 [(0, vR h), (1, vI v1), (2, vI v2), (3, vI v3), (4, vI v4), (5, vI v5)] [] s (K s)) : ∀ (n : Nat) (v6 : Int) (s : gMem) , g32 v6 → TM s h → GG (fun p : gMem => (.inl none, p)) gTw ω l d mu_tw_workMany σ0 19 [(0, vR h), (1, vI v1), (2, vI v2), (3, vI v3), (4, vI v4), (5, vI v5), (6, vI v6)] [] s (tw_workMany_l19 N W h v1 v2 v3 v4 v5 K n v6 s) := by
  intro n
  induction n with
  | zero => intros; exact x_none
  | succ n ih =>
    intro v6 s hv6 hM
    unfold tw_workMany_l19
    refine x_iload (μ := mu_tw_workMany) (pc := 19) 6 dX11_workMany_19 rfl ?_
    refine x_iload (μ := mu_tw_workMany) (pc := 21) 5 dX11_workMany_21 rfl ?_
    refine x_icmp_ge (μ := mu_tw_workMany) (pc := 23) (tgt := 94) dX11_workMany_23 rfl hv6 hv5 ?_ ?_
    · refine x_loc (lv' := [(0, vR h), (1, vI v1), (2, vI v2), (3, vI v3), (4, vI v4), (5, vI v5)]) [0, 1, 2, 3, 4, 5] rfl ?_
      exact hK s hM
    · refine x_aload_n (μ := mu_tw_workMany) (pc := 26) 0 dX11_workMany_26 rfl ?_
      refine x_iload_n (μ := mu_tw_workMany) (pc := 27) 1 dX11_workMany_27 rfl ?_
      refine x_iload (μ := mu_tw_workMany) (pc := 28) 6 dX11_workMany_28 rfl ?_
      refine x_callV_pi (μ := mu_tw_workMany) (pc := 30) (ok_tw_under (ω := ω) (l := l) (d := d - 1) (by omega) hM hv1 hv6) gRel_Tw gRel_Tw (fun _ q => q) q3338 q3340 qs149 q232 q3341 dX11_workMany_30 rfl hM.1 hy_tw_under (by omega) (Nat.le_of_ble_eq_true rfl) rfl (Nat.le_of_ble_eq_true rfl) (fun x3 hr4 => ?_)
      refine x_istore (μ := mu_tw_workMany) (pc := 33) (lv' := [(7, vI x3), (0, vR h), (1, vI v1), (2, vI v2), (3, vI v3), (4, vI v4), (5, vI v5), (6, vI v6)]) dX11_workMany_33 (by decide) rfl ?_
      refine x_aload_n (μ := mu_tw_workMany) (pc := 35) 1 dX11_workMany_35 rfl ?_
      refine x_fgrE (μ := mu_tw_workMany) (pc := 36) fX11_26 (Or.inr ⟨_, rfl⟩) q2662 (hM.a26).1 dX11_workMany_36 hM.1 ?_
      refine x_iload (μ := mu_tw_workMany) (pc := 39) 0 dX11_workMany_39 rfl ?_
      refine x_iald (μ := mu_tw_workMany) (pc := 41) dX11_workMany_41 (hM.a26).2.1 (hM.a26).2.2 (fun hr5 => ?_)
      refine x_bipush (μ := mu_tw_workMany) (pc := 42) dX11_workMany_42 (by decide) ?_
      refine x_icmp_eq (μ := mu_tw_workMany) (pc := 44) (tgt := 88) dX11_workMany_44 rfl hr5 (by decide) ?_ ?_
      · refine x_loc (lv' := [(0, vR h), (1, vI v1), (2, vI v2), (3, vI v3), (4, vI v4), (5, vI v5), (6, vI v6)]) [1, 2, 3, 4, 5, 6, 7] rfl ?_
        exact okj_tw_workMany_l19_j88 hW hdp hdw hM hv1 hv2 hv3 hv4 hv5 hv6 ih hK
      · refine x_aload_n (μ := mu_tw_workMany) (pc := 47) 1 dX11_workMany_47 rfl ?_
        refine x_iload (μ := mu_tw_workMany) (pc := 48) 0 dX11_workMany_48 rfl ?_
        refine x_iload_n (μ := mu_tw_workMany) (pc := 50) 3 dX11_workMany_50 rfl ?_
        refine x_iload_n (μ := mu_tw_workMany) (pc := 51) 4 dX11_workMany_51 rfl ?_
        refine x_iload (μ := mu_tw_workMany) (pc := 52) 7 dX11_workMany_52 rfl ?_
        refine x_iadd (μ := mu_tw_workMany) (pc := 54) dX11_workMany_54 ?_
        refine x_w1 ?_
        refine x_callV_mv (μ := mu_tw_workMany) (pc := 55) (hW x3 v2 (w32 (v3 + v6)) s hM hr4 hv2 (w32_rng _)) gRel_Tw gRel_Tw (fun _ q => q) q3311 q3313 qs143 q232 q3314 dX11_workMany_55 rfl hM.1 hy_tw_work (by omega) (Nat.le_of_ble_eq_true rfl) rfl (Nat.le_of_ble_eq_true rfl) (fun x6 k7 => ?_)
        have hM8 : TM x6 h := hM.tw k7
        refine x_aload_n (μ := mu_tw_workMany) (pc := 58) 1 dX11_workMany_58 rfl ?_
        refine x_fgrE (μ := mu_tw_workMany) (pc := 59) fX11_66 (Or.inr ⟨_, rfl⟩) q2702 (hM8.a66).1 dX11_workMany_59 hM8.1 ?_
        refine x_iload_n (μ := mu_tw_workMany) (pc := 62) 4 dX11_workMany_62 rfl ?_
        refine x_iload (μ := mu_tw_workMany) (pc := 63) 7 dX11_workMany_63 rfl ?_
        refine x_iadd (μ := mu_tw_workMany) (pc := 65) dX11_workMany_65 ?_
        refine x_iald (μ := mu_tw_workMany) (pc := 66) dX11_workMany_66 (hM8.a66).2.1 (hM8.a66).2.2 (fun hr9 => ?_)
        refine x_iconst (μ := mu_tw_workMany) (pc := 67) dX11_workMany_67 ?_
        refine x_icmp_ne (μ := mu_tw_workMany) (pc := 68) (tgt := 88) dX11_workMany_68 rfl hr9 (by decide) ?_ ?_
        · refine x_loc (lv' := [(0, vR h), (1, vI v1), (2, vI v2), (3, vI v3), (4, vI v4), (5, vI v5), (6, vI v6)]) [1, 2, 3, 4, 5, 6, 7] rfl ?_
          exact okj_tw_workMany_l19_j88 hW hdp hdw hM8 hv1 hv2 hv3 hv4 hv5 hv6 ih hK
        · refine x_iload (μ := mu_tw_workMany) (pc := 71) 5 dX11_workMany_71 rfl ?_
          refine x_bipush (μ := mu_tw_workMany) (pc := 73) dX11_workMany_73 (by decide) ?_
          refine x_icmp_eq (μ := mu_tw_workMany) (pc := 75) (tgt := 88) dX11_workMany_75 rfl hv4 (by decide) ?_ ?_
          · refine x_loc (lv' := [(0, vR h), (1, vI v1), (2, vI v2), (3, vI v3), (4, vI v4), (5, vI v5), (6, vI v6)]) [1, 2, 3, 4, 5, 6, 7] rfl ?_
            exact okj_tw_workMany_l19_j88 hW hdp hdw hM8 hv1 hv2 hv3 hv4 hv5 hv6 ih hK
          · refine x_aload_n (μ := mu_tw_workMany) (pc := 78) 1 dX11_workMany_78 rfl ?_
            refine x_iload_n (μ := mu_tw_workMany) (pc := 79) 4 dX11_workMany_79 rfl ?_
            refine x_iload (μ := mu_tw_workMany) (pc := 80) 7 dX11_workMany_80 rfl ?_
            refine x_iadd (μ := mu_tw_workMany) (pc := 82) dX11_workMany_82 ?_
            refine x_iload_n (μ := mu_tw_workMany) (pc := 83) 4 dX11_workMany_83 rfl ?_
            refine x_w2 ?_
            refine x_callV_mv (μ := mu_tw_workMany) (pc := 84) (ok_tw_bring (ω := ω) (l := l) (d := d - 1) (by omega) hM8 (w32_rng _) hv3) gRel_Tw gRel_Tw (fun _ q => q) q3342 q3344 qs150 q232 q3345 dX11_workMany_84 rfl hM8.1 hy_tw_bring (by omega) (Nat.le_of_ble_eq_true rfl) rfl (Nat.le_of_ble_eq_true rfl) (fun x10 k11 => ?_)
            have hM12 : TM x10 h := hM8.tw k11
            exact x_vret (μ := mu_tw_workMany) (pc := 87) (a1 := x10) dX11_workMany_87 rfl rfl (gRel_Tw.1 _) trivial
def tw_workMany_l127_j212 (N : Nat) (W : Int → Int → Int → gMem → Option gMem) (h : Nat) (v1 : Int) (v2 : Int) (v3 : Int) (v4 : Int) (v5 : Int) (v6 : Int) (v8 : Int) (Kh : Int → gMem → Option gMem) (K : gMem → Option gMem) (s : gMem) : Option gMem := if v8 ≠ 0 then Kh (w32 (v6 + 1)) s else (tw_bring N h (w32 (v3 + v6)) v3 s).bind (fun x43 => some x43)
set_option maxRecDepth 100000 in
theorem okj_tw_workMany_l127_j212 {ω : gW} {l : Launch} {d : Nat} {N : Nat} {W : Int → Int → Int → gMem → Option gMem} {dW : Nat} {h : Nat} {σ0 : gMem} {s : gMem} {v1 : Int} {v2 : Int} {v3 : Int} {v4 : Int} {v5 : Int} {v6 : Int} {v8 : Int} {Kh : Int → gMem → Option gMem} {K : gMem → Option gMem} (hW : ∀ (a1 : Int) (a2 : Int) (a3 : Int) (s : gMem), TM s h → g32 a1 → g32 a2 → g32 a3 → gK (fun p : gMem => (.inl none, p)) gTw ω l dW mu_tw_work [vR h, vI a1, vI a2, vI a3] s (W a1 a2 a3 s)) (hdp : 5 ≤ d) (hdw : dW + 1 ≤ d) (hM : TM s h) (hv1 : g32 v1) (hv2 : g32 v2) (hv3 : g32 v3) (hv4 : g32 v4) (hv5 : g32 v5) (hv6 : g32 v6) (hv8 : g32 v8) (hKh : ∀ (v6 : Int) (s : gMem) , g32 v6 → TM s h → GG (fun p : gMem => (.inl none, p)) gTw ω l d mu_tw_workMany σ0 127 [(0, vR h), (1, vI v1), (2, vI v2), (3, vI v3), (4, vI v4), (5, vI v5), (6, vI v6)] [] s (Kh v6 s)) (hK : ∀ (s : gMem) , TM s h → GG (fun p : gMem => (.inl none, p)) gTw ω l d mu_tw_workMany σ0 233 [(0, vR h), (3, vI v3), (4, vI v4)] [] s (K s)) : GG (fun p : gMem => (.inl none, p)) gTw ω l d mu_tw_workMany σ0 212 [(0, vR h), (1, vI v1), (2, vI v2), (3, vI v3), (4, vI v4), (5, vI v5), (6, vI v6), (8, vI v8)] [] s (tw_workMany_l127_j212 N W h v1 v2 v3 v4 v5 v6 v8 Kh K s) := by
  unfold tw_workMany_l127_j212
  refine x_iload (μ := mu_tw_workMany) (pc := 212) 7 dX11_workMany_212 rfl ?_
  refine x_if_ne (μ := mu_tw_workMany) (pc := 214) (tgt := 227) dX11_workMany_214 rfl hv8 ?_ ?_
  · refine x_iincw (μ := mu_tw_workMany) (pc := 227) (lv' := [(6, vI (w32 (v6 + 1))), (0, vR h), (1, vI v1), (2, vI v2), (3, vI v3), (4, vI v4), (5, vI v5), (8, vI v8)]) 6 dX11_workMany_227 rfl (by decide) rfl ?_
    refine x_goto (μ := mu_tw_workMany) (pc := 230) (tgt := 127) dX11_workMany_230 rfl ?_
    refine x_loc (lv' := [(0, vR h), (1, vI v1), (2, vI v2), (3, vI v3), (4, vI v4), (5, vI v5), (6, vI (w32 (v6 + 1)))]) [1, 2, 3, 4, 5, 6, 0] rfl ?_
    exact hKh (w32 (v6 + 1)) s (w32_rng _) hM
  · refine x_aload_n (μ := mu_tw_workMany) (pc := 217) 0 dX11_workMany_217 rfl ?_
    refine x_iload_n (μ := mu_tw_workMany) (pc := 218) 3 dX11_workMany_218 rfl ?_
    refine x_iload (μ := mu_tw_workMany) (pc := 219) 6 dX11_workMany_219 rfl ?_
    refine x_iadd (μ := mu_tw_workMany) (pc := 221) dX11_workMany_221 ?_
    refine x_iload_n (μ := mu_tw_workMany) (pc := 222) 3 dX11_workMany_222 rfl ?_
    refine x_w2 ?_
    refine x_callV_mv (μ := mu_tw_workMany) (pc := 223) (ok_tw_bring (ω := ω) (l := l) (d := d - 1) (by omega) hM (w32_rng _) hv3) gRel_Tw gRel_Tw (fun _ q => q) q3342 q3344 qs150 q232 q3345 dX11_workMany_223 rfl hM.1 hy_tw_bring (by omega) (Nat.le_of_ble_eq_true rfl) rfl (Nat.le_of_ble_eq_true rfl) (fun x43 k44 => ?_)
    have hM45 : TM x43 h := hM.tw k44
    exact x_vret (μ := mu_tw_workMany) (pc := 226) (a1 := x43) dX11_workMany_226 rfl rfl (gRel_Tw.1 _) trivial
def tw_workMany_l127 (N : Nat) (W : Int → Int → Int → gMem → Option gMem) (h : Nat) (v1 : Int) (v2 : Int) (v3 : Int) (v4 : Int) (v5 : Int) (K : gMem → Option gMem) : Nat → Int → gMem → Option gMem
  | 0, _, _ => none
  | n + 1, v6, s => if v5 ≤ v6 then K s else (tw_under N h v1 v6 s).bind (fun x33 => if 0 ≤ x33 ∧ x33 < ((60420 : Nat) : Int) then if mI s (h + 14) x33.toNat = 6 then (tw_area N h x33 v2 s).bind (fun x36 => if x36.1 = 0 then (tw_error h (w32 (v3 + v6)) 1 (x36.2)).bind (fun x40 => tw_workMany_l127_j212 N W h v1 v2 v3 v4 v5 v6 0  (tw_workMany_l127 N W h v1 v2 v3 v4 v5 K n) K x40) else (tw_countArea N h v4 (w32 (v3 + v6)) (x36.2)).bind (fun x46 => tw_workMany_l127_j212 N W h v1 v2 v3 v4 v5 v6 (x46.1)  (tw_workMany_l127 N W h v1 v2 v3 v4 v5 K n) K (x46.2))) else (tw_countOne N h v4 x33 (w32 (v3 + v6)) s).bind (fun x50 => tw_workMany_l127_j212 N W h v1 v2 v3 v4 v5 v6 (x50.1)  (tw_workMany_l127 N W h v1 v2 v3 v4 v5 K n) K (x50.2)) else none)
set_option maxRecDepth 100000 in
theorem okl_tw_workMany_l127 {ω : gW} {l : Launch} {d : Nat} {N : Nat} {W : Int → Int → Int → gMem → Option gMem} {dW : Nat} {h : Nat} {σ0 : gMem} {v1 : Int} {v2 : Int} {v3 : Int} {v4 : Int} {v5 : Int} {K : gMem → Option gMem} (hW : ∀ (a1 : Int) (a2 : Int) (a3 : Int) (s : gMem), TM s h → g32 a1 → g32 a2 → g32 a3 → gK (fun p : gMem => (.inl none, p)) gTw ω l dW mu_tw_work [vR h, vI a1, vI a2, vI a3] s (W a1 a2 a3 s)) (hdp : 5 ≤ d) (hdw : dW + 1 ≤ d) (hv1 : g32 v1) (hv2 : g32 v2) (hv3 : g32 v3) (hv4 : g32 v4) (hv5 : g32 v5) (hK : ∀ (s : gMem) , TM s h → GG (fun p : gMem => (.inl none, p)) gTw ω l d mu_tw_workMany σ0 233 [(0, vR h), (3, vI v3), (4, vI v4)] [] s (K s)) : ∀ (n : Nat) (v6 : Int) (s : gMem) , g32 v6 → TM s h → GG (fun p : gMem => (.inl none, p)) gTw ω l d mu_tw_workMany σ0 127 [(0, vR h), (1, vI v1), (2, vI v2), (3, vI v3), (4, vI v4), (5, vI v5), (6, vI v6)] [] s (tw_workMany_l127 N W h v1 v2 v3 v4 v5 K n v6 s) := by
  intro n
  induction n with
  | zero => intros; exact x_none
  | succ n ih =>
    intro v6 s hv6 hM
    unfold tw_workMany_l127
    refine x_iload (μ := mu_tw_workMany) (pc := 127) 6 dX11_workMany_127 rfl ?_
    refine x_iload (μ := mu_tw_workMany) (pc := 129) 5 dX11_workMany_129 rfl ?_
    refine x_icmp_ge (μ := mu_tw_workMany) (pc := 131) (tgt := 233) dX11_workMany_131 rfl hv6 hv5 ?_ ?_
    · refine x_loc (lv' := [(0, vR h), (3, vI v3), (4, vI v4)]) [0, 3, 4] rfl ?_
      exact hK s hM
    · refine x_aload_n (μ := mu_tw_workMany) (pc := 134) 0 dX11_workMany_134 rfl ?_
      refine x_iload_n (μ := mu_tw_workMany) (pc := 135) 1 dX11_workMany_135 rfl ?_
      refine x_iload (μ := mu_tw_workMany) (pc := 136) 6 dX11_workMany_136 rfl ?_
      refine x_callV_pi (μ := mu_tw_workMany) (pc := 138) (ok_tw_under (ω := ω) (l := l) (d := d - 1) (by omega) hM hv1 hv6) gRel_Tw gRel_Tw (fun _ q => q) q3338 q3340 qs149 q232 q3341 dX11_workMany_138 rfl hM.1 hy_tw_under (by omega) (Nat.le_of_ble_eq_true rfl) rfl (Nat.le_of_ble_eq_true rfl) (fun x33 hr34 => ?_)
      refine x_istore (μ := mu_tw_workMany) (pc := 141) (lv' := [(7, vI x33), (0, vR h), (1, vI v1), (2, vI v2), (3, vI v3), (4, vI v4), (5, vI v5), (6, vI v6)]) dX11_workMany_141 (by decide) rfl ?_
      refine x_iconst (μ := mu_tw_workMany) (pc := 143) dX11_workMany_143 ?_
      refine x_istore (μ := mu_tw_workMany) (pc := 144) (lv' := [(8, vI 1), (7, vI x33), (0, vR h), (1, vI v1), (2, vI v2), (3, vI v3), (4, vI v4), (5, vI v5), (6, vI v6)]) dX11_workMany_144 (by decide) rfl ?_
      refine x_aload_n (μ := mu_tw_workMany) (pc := 146) 2 dX11_workMany_146 rfl ?_
      refine x_fgrE (μ := mu_tw_workMany) (pc := 147) fX11_26 (Or.inr ⟨_, rfl⟩) q2662 (hM.a26).1 dX11_workMany_147 hM.1 ?_
      refine x_iload (μ := mu_tw_workMany) (pc := 150) 1 dX11_workMany_150 rfl ?_
      refine x_iald (μ := mu_tw_workMany) (pc := 152) dX11_workMany_152 (hM.a26).2.1 (hM.a26).2.2 (fun hr35 => ?_)
      refine x_bipush (μ := mu_tw_workMany) (pc := 153) dX11_workMany_153 (by decide) ?_
      refine x_icmp_eq (μ := mu_tw_workMany) (pc := 155) (tgt := 175) dX11_workMany_155 rfl hr35 (by decide) ?_ ?_
      · refine x_aload_n (μ := mu_tw_workMany) (pc := 175) 2 dX11_workMany_175 rfl ?_
        refine x_iload (μ := mu_tw_workMany) (pc := 176) 1 dX11_workMany_176 rfl ?_
        refine x_iload_n (μ := mu_tw_workMany) (pc := 178) 4 dX11_workMany_178 rfl ?_
        refine x_callV_mi (μ := mu_tw_workMany) (pc := 179) (ok_tw_area (ω := ω) (l := l) (d := d - 1) (by omega) hM hr34 hv2) gRel_Tw gRel_Tw (fun _ q => q) q3253 q3255 qs131 q232 q3256 dX11_workMany_179 rfl hM.1 hy_tw_area (by omega) (Nat.le_of_ble_eq_true rfl) rfl (Nat.le_of_ble_eq_true rfl) (fun x36 k38 hr37 => ?_)
        have hM39 : TM (x36.2) h := hM.tw k38
        refine x_if_eq (μ := mu_tw_workMany) (pc := 182) (tgt := 200) dX11_workMany_182 rfl hr37 ?_ ?_
        · refine x_aload_n (μ := mu_tw_workMany) (pc := 200) 2 dX11_workMany_200 rfl ?_
          refine x_iload_n (μ := mu_tw_workMany) (pc := 201) 5 dX11_workMany_201 rfl ?_
          refine x_iload (μ := mu_tw_workMany) (pc := 202) 8 dX11_workMany_202 rfl ?_
          refine x_iadd (μ := mu_tw_workMany) (pc := 204) dX11_workMany_204 ?_
          refine x_iconst (μ := mu_tw_workMany) (pc := 205) dX11_workMany_205 ?_
          refine x_w2 ?_
          refine x_callV_mv (μ := mu_tw_workMany) (pc := 206) (ok_tw_error (ω := ω) (l := l) (d := d - 1) (by omega) hM39 (w32_rng _) (by decide)) gRel_Tw gRel_Tw (fun _ q => q) q3294 q3296 qs139 q232 q3297 dX11_workMany_206 rfl hM39.1 hy_tw_error (by omega) (Nat.le_of_ble_eq_true rfl) rfl (Nat.le_of_ble_eq_true rfl) (fun x40 k41 => ?_)
          have hM42 : TM x40 h := hM39.tw k41
          refine x_iconst (μ := mu_tw_workMany) (pc := 209) dX11_workMany_209 ?_
          refine x_istore (μ := mu_tw_workMany) (pc := 210) (lv' := [(8, vI 0), (7, vI x33), (0, vR h), (1, vI v1), (2, vI v2), (3, vI v3), (4, vI v4), (5, vI v5), (6, vI v6)]) dX11_workMany_210 (by decide) rfl ?_
          refine x_loc (lv' := [(0, vR h), (1, vI v1), (2, vI v2), (3, vI v3), (4, vI v4), (5, vI v5), (6, vI v6), (8, vI 0)]) [2, 3, 4, 5, 6, 7, 8, 0] rfl ?_
          exact okj_tw_workMany_l127_j212 hW hdp hdw hM42 hv1 hv2 hv3 hv4 hv5 hv6 (by decide) ih hK
        · refine x_aload_n (μ := mu_tw_workMany) (pc := 185) 2 dX11_workMany_185 rfl ?_
          refine x_iload (μ := mu_tw_workMany) (pc := 186) 6 dX11_workMany_186 rfl ?_
          refine x_iload_n (μ := mu_tw_workMany) (pc := 188) 5 dX11_workMany_188 rfl ?_
          refine x_iload (μ := mu_tw_workMany) (pc := 189) 8 dX11_workMany_189 rfl ?_
          refine x_iadd (μ := mu_tw_workMany) (pc := 191) dX11_workMany_191 ?_
          refine x_w1 ?_
          refine x_callV_mi (μ := mu_tw_workMany) (pc := 192) (ok_tw_countArea (ω := ω) (l := l) (d := d - 1) (by omega) hM39 hv4 (w32_rng _)) gRel_Tw gRel_Tw (fun _ q => q) q3417 q3419 qs167 q232 q3420 dX11_workMany_192 rfl hM39.1 hy_tw_countArea (by omega) (Nat.le_of_ble_eq_true rfl) rfl (Nat.le_of_ble_eq_true rfl) (fun x46 k48 hr47 => ?_)
          have hM49 : TM (x46.2) h := hM39.tw k48
          refine x_istore (μ := mu_tw_workMany) (pc := 195) (lv' := [(8, vI (x46.1)), (7, vI x33), (0, vR h), (1, vI v1), (2, vI v2), (3, vI v3), (4, vI v4), (5, vI v5), (6, vI v6)]) dX11_workMany_195 (by decide) rfl ?_
          refine x_goto (μ := mu_tw_workMany) (pc := 197) (tgt := 212) dX11_workMany_197 rfl ?_
          refine x_loc (lv' := [(0, vR h), (1, vI v1), (2, vI v2), (3, vI v3), (4, vI v4), (5, vI v5), (6, vI v6), (8, vI (x46.1))]) [2, 3, 4, 5, 6, 7, 8, 0] rfl ?_
          exact okj_tw_workMany_l127_j212 hW hdp hdw hM49 hv1 hv2 hv3 hv4 hv5 hv6 hr47 ih hK
      · refine x_aload_n (μ := mu_tw_workMany) (pc := 158) 2 dX11_workMany_158 rfl ?_
        refine x_iload (μ := mu_tw_workMany) (pc := 159) 6 dX11_workMany_159 rfl ?_
        refine x_iload (μ := mu_tw_workMany) (pc := 161) 1 dX11_workMany_161 rfl ?_
        refine x_iload_n (μ := mu_tw_workMany) (pc := 163) 5 dX11_workMany_163 rfl ?_
        refine x_iload (μ := mu_tw_workMany) (pc := 164) 8 dX11_workMany_164 rfl ?_
        refine x_iadd (μ := mu_tw_workMany) (pc := 166) dX11_workMany_166 ?_
        refine x_w1 ?_
        refine x_callV_mi (μ := mu_tw_workMany) (pc := 167) (ok_tw_countOne (ω := ω) (l := l) (d := d - 1) (by omega) hM hv4 hr34 (w32_rng _)) gRel_Tw gRel_Tw (fun _ q => q) q3402 q3404 qs164 q232 q3405 dX11_workMany_167 rfl hM.1 hy_tw_countOne (by omega) (Nat.le_of_ble_eq_true rfl) rfl (Nat.le_of_ble_eq_true rfl) (fun x50 k52 hr51 => ?_)
        have hM53 : TM (x50.2) h := hM.tw k52
        refine x_istore (μ := mu_tw_workMany) (pc := 170) (lv' := [(8, vI (x50.1)), (7, vI x33), (0, vR h), (1, vI v1), (2, vI v2), (3, vI v3), (4, vI v4), (5, vI v5), (6, vI v6)]) dX11_workMany_170 (by decide) rfl ?_
        refine x_goto (μ := mu_tw_workMany) (pc := 172) (tgt := 212) dX11_workMany_172 rfl ?_
        refine x_loc (lv' := [(0, vR h), (1, vI v1), (2, vI v2), (3, vI v3), (4, vI v4), (5, vI v5), (6, vI v6), (8, vI (x50.1))]) [2, 3, 4, 5, 6, 7, 8, 0] rfl ?_
        exact okj_tw_workMany_l127_j212 hW hdp hdw hM53 hv1 hv2 hv3 hv4 hv5 hv6 hr51 ih hK
def tw_workMany (N : Nat) (W : Int → Int → Int → gMem → Option gMem) (h : Nat) (v1 : Int) (v2 : Int) (v3 : Int) (σ : gMem) : Option gMem := if 0 ≤ v1 ∧ v1 < ((60420 : Nat) : Int) then if 0 ≤ v1 ∧ v1 < ((60420 : Nat) : Int) then tw_workMany_l19 N W h v1 v2 v3 (mI σ (h + 14) v1.toNat) (mI σ (h + 15) v1.toNat) (fun s13 => gLet (wI s13 h 81 v2) (fun s15 => gLet (wI s15 h 76 0) (fun s18 => gLet (wL s18 h 77 (((0 : Fin 2) : Nat) : Int)) (fun s21 => gLet (wL s21 h 78 (((0 : Fin 2) : Nat) : Int)) (fun s24 => gLet (wI s24 h 79 1) (fun s27 => gLet (wI s27 h 80 0) (fun s30 => tw_workMany_l127 N W h v1 v2 v3 (mI σ (h + 14) v1.toNat) (mI σ (h + 15) v1.toNat) (fun s54 => (tw_come h (mI σ (h + 14) v1.toNat) v3 s54).bind (fun x56 => some x56)) N 0 s30))))))) N 0 σ else none else none
set_option maxRecDepth 100000 in
theorem ok_tw_workMany {ω : gW} {l : Launch} {d : Nat} {N : Nat} {W : Int → Int → Int → gMem → Option gMem} {dW : Nat} {h : Nat} {σ : gMem} {v1 : Int} {v2 : Int} {v3 : Int} (hW : ∀ (a1 : Int) (a2 : Int) (a3 : Int) (s : gMem), TM s h → g32 a1 → g32 a2 → g32 a3 → gK (fun p : gMem => (.inl none, p)) gTw ω l dW mu_tw_work [vR h, vI a1, vI a2, vI a3] s (W a1 a2 a3 s)) (hdp : 5 ≤ d) (hdw : dW + 1 ≤ d) (hM : TM σ h) (hv1 : g32 v1) (hv2 : g32 v2) (hv3 : g32 v3) : gK (fun p : gMem => (.inl none, p)) gTw ω l d mu_tw_workMany [vR h, vI v1, vI v2, vI v3] σ (tw_workMany N W h v1 v2 v3 σ) := by
  refine gK.of hp_X11 (Nat.le_of_ble_eq_true rfl) ?_
  unfold tw_workMany
  refine x_aload_n (μ := mu_tw_workMany) (pc := 0) 0 dX11_workMany_0 rfl ?_
  refine x_fgrE (μ := mu_tw_workMany) (pc := 1) fX11_26 (Or.inr ⟨_, rfl⟩) q2662 (hM.a26).1 dX11_workMany_1 hM.1 ?_
  refine x_iload_n (μ := mu_tw_workMany) (pc := 4) 1 dX11_workMany_4 rfl ?_
  refine x_iald (μ := mu_tw_workMany) (pc := 5) dX11_workMany_5 (hM.a26).2.1 (hM.a26).2.2 (fun hr1 => ?_)
  refine x_istore (μ := mu_tw_workMany) (pc := 6) (lv' := [(4, vI (mI σ (h + 14) v1.toNat)), (0, vR h), (1, vI v1), (2, vI v2), (3, vI v3)]) dX11_workMany_6 (by decide) rfl ?_
  refine x_aload_n (μ := mu_tw_workMany) (pc := 8) 1 dX11_workMany_8 rfl ?_
  refine x_fgrE (μ := mu_tw_workMany) (pc := 9) fX11_27 (Or.inr ⟨_, rfl⟩) q2663 (hM.a27).1 dX11_workMany_9 hM.1 ?_
  refine x_iload_n (μ := mu_tw_workMany) (pc := 12) 2 dX11_workMany_12 rfl ?_
  refine x_iald (μ := mu_tw_workMany) (pc := 13) dX11_workMany_13 (hM.a27).2.1 (hM.a27).2.2 (fun hr2 => ?_)
  refine x_istore (μ := mu_tw_workMany) (pc := 14) (lv' := [(5, vI (mI σ (h + 15) v1.toNat)), (4, vI (mI σ (h + 14) v1.toNat)), (0, vR h), (1, vI v1), (2, vI v2), (3, vI v3)]) dX11_workMany_14 (by decide) rfl ?_
  refine x_iconst (μ := mu_tw_workMany) (pc := 16) dX11_workMany_16 ?_
  refine x_istore (μ := mu_tw_workMany) (pc := 17) (lv' := [(6, vI 0), (5, vI (mI σ (h + 15) v1.toNat)), (4, vI (mI σ (h + 14) v1.toNat)), (0, vR h), (1, vI v1), (2, vI v2), (3, vI v3)]) dX11_workMany_17 (by decide) rfl ?_
  refine x_loc (lv' := [(0, vR h), (1, vI v1), (2, vI v2), (3, vI v3), (4, vI (mI σ (h + 14) v1.toNat)), (5, vI (mI σ (h + 15) v1.toNat)), (6, vI 0)]) [3, 4, 5, 6, 2, 1, 0] rfl ?_
  refine okl_tw_workMany_l19 hW hdp hdw hv1 hv2 hv3 hr1 hr2 (fun s13 hM14 => ?_) N 0 σ (by decide) hM
  refine x_aload_n (μ := mu_tw_workMany) (pc := 94) 0 dX11_workMany_94 rfl ?_
  refine x_iload_n (μ := mu_tw_workMany) (pc := 95) 2 dX11_workMany_95 rfl ?_
  refine x_fpi (μ := mu_tw_workMany) (pc := 96) fX11_81 q2717 dX11_workMany_96 hM14.1 (fun _ q => gTw_wI q) ?_
  refine x_let (fun s15 e16 => ?_)
  have hM17 := TM.eI e16 hM14
  refine x_aload_n (μ := mu_tw_workMany) (pc := 99) 0 dX11_workMany_99 rfl ?_
  refine x_iconst (μ := mu_tw_workMany) (pc := 100) dX11_workMany_100 ?_
  refine x_fpi (μ := mu_tw_workMany) (pc := 101) fX11_76 q2712 dX11_workMany_101 hM17.1 (fun _ q => gTw_wI q) ?_
  refine x_let (fun s18 e19 => ?_)
  have hM20 := TM.eI e19 hM17
  refine x_aload_n (μ := mu_tw_workMany) (pc := 104) 0 dX11_workMany_104 rfl ?_
  refine x_lconst (μ := mu_tw_workMany) (pc := 105) dX11_workMany_105 ?_
  refine x_fpl (μ := mu_tw_workMany) (pc := 106) fX11_77 q2713 dX11_workMany_106 hM20.1 (fun _ q => gTw_wL q) ?_
  refine x_let (fun s21 e22 => ?_)
  have hM23 := TM.eL e22 hM20
  refine x_aload_n (μ := mu_tw_workMany) (pc := 109) 0 dX11_workMany_109 rfl ?_
  refine x_lconst (μ := mu_tw_workMany) (pc := 110) dX11_workMany_110 ?_
  refine x_fpl (μ := mu_tw_workMany) (pc := 111) fX11_78 q2714 dX11_workMany_111 hM23.1 (fun _ q => gTw_wL q) ?_
  refine x_let (fun s24 e25 => ?_)
  have hM26 := TM.eL e25 hM23
  refine x_aload_n (μ := mu_tw_workMany) (pc := 114) 0 dX11_workMany_114 rfl ?_
  refine x_iconst (μ := mu_tw_workMany) (pc := 115) dX11_workMany_115 ?_
  refine x_fpz (μ := mu_tw_workMany) (pc := 116) fX11_79 q2715 (by decide) dX11_workMany_116 hM26.1 (fun _ q => gTw_wI q) ?_
  refine x_let (fun s27 e28 => ?_)
  have hM29 := TM.eI e28 hM26
  refine x_aload_n (μ := mu_tw_workMany) (pc := 119) 0 dX11_workMany_119 rfl ?_
  refine x_iconst (μ := mu_tw_workMany) (pc := 120) dX11_workMany_120 ?_
  refine x_fpz (μ := mu_tw_workMany) (pc := 121) fX11_80 q2716 (by decide) dX11_workMany_121 hM29.1 (fun _ q => gTw_wI q) ?_
  refine x_let (fun s30 e31 => ?_)
  have hM32 := TM.eI e31 hM29
  refine x_iconst (μ := mu_tw_workMany) (pc := 124) dX11_workMany_124 ?_
  refine x_istore (μ := mu_tw_workMany) (pc := 125) (lv' := [(6, vI 0), (0, vR h), (1, vI v1), (2, vI v2), (3, vI v3), (4, vI (mI σ (h + 14) v1.toNat)), (5, vI (mI σ (h + 15) v1.toNat))]) dX11_workMany_125 (by decide) rfl ?_
  refine x_loc (lv' := [(0, vR h), (1, vI v1), (2, vI v2), (3, vI v3), (4, vI (mI σ (h + 14) v1.toNat)), (5, vI (mI σ (h + 15) v1.toNat)), (6, vI 0)]) [1, 2, 3, 4, 5, 6, 0] rfl ?_
  refine okl_tw_workMany_l127 hW hdp hdw hv1 hv2 hv3 hr1 hr2 (fun s54 hM55 => ?_) N 0 s30 (by decide) hM32
  refine x_aload_n (μ := mu_tw_workMany) (pc := 233) 0 dX11_workMany_233 rfl ?_
  refine x_iload (μ := mu_tw_workMany) (pc := 234) 2 dX11_workMany_234 rfl ?_
  refine x_iload_n (μ := mu_tw_workMany) (pc := 236) 1 dX11_workMany_236 rfl ?_
  refine x_callV_mv (μ := mu_tw_workMany) (pc := 237) (ok_tw_come (ω := ω) (l := l) (d := d - 1) (by omega) hM55 hr1 hv3) gRel_Tw gRel_Tw (fun _ q => q) q3421 q3423 qs168 q232 q3424 dX11_workMany_237 rfl hM55.1 hy_tw_come (by omega) (Nat.le_of_ble_eq_true rfl) rfl (Nat.le_of_ble_eq_true rfl) (fun x56 k57 => ?_)
  have hM58 : TM x56 h := hM55.tw k57
  exact x_vret (μ := mu_tw_workMany) (pc := 240) (a1 := x56) dX11_workMany_240 rfl rfl (gRel_Tw.1 _) trivial
def tw_written (N : Nat) (h : Nat) (v1 : Int) (v2 : Int) (v3 : Int) (v4 : Int) (σ : gMem) : Option (Int × gMem) := gLet (wI σ h 0 0) (fun s1 => (tw_asked h v1 v2 v3 s1).bind (fun x4 => if 0 ≤ x4 then (tw_sheetAt v1 s1).bind (fun x6 => (tw_sheetAt v1 s1).bind (fun x8 => (tw_cellAt h x8 v2 v3 s1).bind (fun x10 => (tw_write N h x6 x10 s1).bind (fun x12 => (tw_in v4 0 (w32 ((mI x12 h 87) - 1)) x12).bind (fun x16 => if x16 = 0 then some ((-1), x12) else if 0 ≤ v4 ∧ v4 < ((2000 : Nat) : Int) then some (mI x12 (h + 42) v4.toNat, x12) else none))))) else some ((-1), s1)))
set_option maxRecDepth 100000 in
theorem ok_tw_written {ω : gW} {l : Launch} {d : Nat} {N : Nat} {h : Nat} {σ : gMem} {v1 : Int} {v2 : Int} {v3 : Int} {v4 : Int} (hdp : 137 ≤ d) (hM : TM σ h) (hv1 : g32 v1) (hv2 : g32 v2) (hv3 : g32 v3) (hv4 : g32 v4) : gK (fun p : Int × gMem => (.inl (some (vI p.1)), p.2)) gTw ω l d mu_tw_written [vR h, vI v1, vI v2, vI v3, vI v4] σ (tw_written N h v1 v2 v3 v4 σ) := by
  refine gK.of hp_X11 (Nat.le_of_ble_eq_true rfl) ?_
  unfold tw_written
  refine x_aload_n (μ := mu_tw_written) (pc := 0) 0 dX11_written_0 rfl ?_
  refine x_iconst (μ := mu_tw_written) (pc := 1) dX11_written_1 ?_
  refine x_fpi (μ := mu_tw_written) (pc := 2) fX11_0 q2636 dX11_written_2 hM.1 (fun _ q => gTw_wI q) ?_
  refine x_let (fun s1 e2 => ?_)
  have hM3 := TM.eI e2 hM
  refine x_aload_n (μ := mu_tw_written) (pc := 5) 0 dX11_written_5 rfl ?_
  refine x_iload_n (μ := mu_tw_written) (pc := 6) 1 dX11_written_6 rfl ?_
  refine x_iload_n (μ := mu_tw_written) (pc := 7) 2 dX11_written_7 rfl ?_
  refine x_iload_n (μ := mu_tw_written) (pc := 8) 3 dX11_written_8 rfl ?_
  refine x_callV_pi (μ := mu_tw_written) (pc := 9) (ok_tw_asked (ω := ω) (l := l) (d := d - 1) (by omega) hM3 hv1 hv2 hv3) gRel_Tw gRel_Tw (fun _ q => q) q3207 q3209 qs121 q232 q3210 dX11_written_9 rfl hM3.1 hy_tw_asked (by omega) (Nat.le_of_ble_eq_true rfl) rfl (Nat.le_of_ble_eq_true rfl) (fun x4 hr5 => ?_)
  refine x_if_ge (μ := mu_tw_written) (pc := 12) (tgt := 17) dX11_written_12 rfl hr5 ?_ ?_
  · refine x_aload_n (μ := mu_tw_written) (pc := 17) 0 dX11_written_17 rfl ?_
    refine x_iload_n (μ := mu_tw_written) (pc := 18) 1 dX11_written_18 rfl ?_
    refine x_callS_pi (μ := mu_tw_written) (pc := 19) (ok_tw_sheetAt (ω := ω) (l := l) (d := d - 1) (by omega) hv1) gRel_Tw gRel_Tw (fun _ q => q) q3215 q3216 q232 q3217 dX11_written_19 hy_tw_sheetAt (by omega) (Nat.le_of_ble_eq_true rfl) rfl (Nat.le_of_ble_eq_true rfl) (fun x6 hr7 => ?_)
    refine x_aload_n (μ := mu_tw_written) (pc := 22) 0 dX11_written_22 rfl ?_
    refine x_iload_n (μ := mu_tw_written) (pc := 23) 1 dX11_written_23 rfl ?_
    refine x_callS_pi (μ := mu_tw_written) (pc := 24) (ok_tw_sheetAt (ω := ω) (l := l) (d := d - 1) (by omega) hv1) gRel_Tw gRel_Tw (fun _ q => q) q3215 q3216 q232 q3217 dX11_written_24 hy_tw_sheetAt (by omega) (Nat.le_of_ble_eq_true rfl) rfl (Nat.le_of_ble_eq_true rfl) (fun x8 hr9 => ?_)
    refine x_iload_n (μ := mu_tw_written) (pc := 27) 2 dX11_written_27 rfl ?_
    refine x_iload_n (μ := mu_tw_written) (pc := 28) 3 dX11_written_28 rfl ?_
    refine x_callV_pi (μ := mu_tw_written) (pc := 29) (ok_tw_cellAt (ω := ω) (l := l) (d := d - 1) (by omega) hM3 hr9 hv2 hv3) gRel_Tw gRel_Tw (fun _ q => q) q3453 q3455 qs173 q232 q3456 dX11_written_29 rfl hM3.1 hy_tw_cellAt (by omega) (Nat.le_of_ble_eq_true rfl) rfl (Nat.le_of_ble_eq_true rfl) (fun x10 hr11 => ?_)
    refine x_callV_mv (μ := mu_tw_written) (pc := 32) (ok_tw_write (ω := ω) (l := l) (d := d - 1) (by omega) hM3 hr7 hr11) gRel_Tw gRel_Tw (fun _ q => q) q3457 q3459 qs174 q232 q3460 dX11_written_32 rfl hM3.1 hy_tw_write (by omega) (Nat.le_of_ble_eq_true rfl) rfl (Nat.le_of_ble_eq_true rfl) (fun x12 k13 => ?_)
    have hM14 : TM x12 h := hM3.tw k13
    refine x_iload (μ := mu_tw_written) (pc := 35) 4 dX11_written_35 rfl ?_
    refine x_iconst (μ := mu_tw_written) (pc := 37) dX11_written_37 ?_
    refine x_aload_n (μ := mu_tw_written) (pc := 38) 0 dX11_written_38 rfl ?_
    refine x_fgi (μ := mu_tw_written) (pc := 39) fX11_87 q2723 dX11_written_39 hM14.1 (fun hr15 => ?_)
    refine x_iconst (μ := mu_tw_written) (pc := 42) dX11_written_42 ?_
    refine x_isub (μ := mu_tw_written) (pc := 43) dX11_written_43 ?_
    refine x_w1 ?_
    refine x_callS_pi (μ := mu_tw_written) (pc := 44) (ok_tw_in (ω := ω) (l := l) (d := d - 1) (by omega) hv4 (by decide) (w32_rng _)) gRel_Tw gRel_Tw (fun _ q => q) q2980 q2981 q232 q2982 dX11_written_44 hy_tw_in (by omega) (Nat.le_of_ble_eq_true rfl) rfl (Nat.le_of_ble_eq_true rfl) (fun x16 hr17 => ?_)
    refine x_if_eq (μ := mu_tw_written) (pc := 47) (tgt := 60) dX11_written_47 rfl hr17 ?_ ?_
    · refine x_iconst (μ := mu_tw_written) (pc := 60) dX11_written_60 ?_
      exact x_iret (μ := mu_tw_written) (pc := 61) dX11_written_61 rfl rfl (gRel_Tw.1 _) (show g32 (-1) from (by decide))
    · refine x_aload_n (μ := mu_tw_written) (pc := 50) 0 dX11_written_50 rfl ?_
      refine x_fgrE (μ := mu_tw_written) (pc := 51) fX11_86 (Or.inr ⟨_, rfl⟩) q2722 (hM14.a86).1 dX11_written_51 hM14.1 ?_
      refine x_iload (μ := mu_tw_written) (pc := 54) 4 dX11_written_54 rfl ?_
      refine x_bald (μ := mu_tw_written) (pc := 56) dX11_written_56 (hM14.a86).2.1 (hM14.a86).2.2 (fun hr18 => ?_)
      refine x_goto (μ := mu_tw_written) (pc := 57) (tgt := 61) dX11_written_57 rfl ?_
      exact x_iret (μ := mu_tw_written) (pc := 61) dX11_written_61 rfl rfl (gRel_Tw.1 _) (show g32 (mI x12 (h + 42) v4.toNat) from hr18)
  · refine x_iconst (μ := mu_tw_written) (pc := 15) dX11_written_15 ?_
    exact x_iret (μ := mu_tw_written) (pc := 16) dX11_written_16 rfl rfl (gRel_Tw.1 _) (show g32 (-1) from (by decide))
def tw_copy_l111_j166 (N : Nat) (h : Nat) (v1 : Int) (v2 : Int) (v5 : Int) (v6 : Int) (v7 : Int) (v8 : Int) (v10 : Int) (t0 : Int) (t1 : Int) (Kh : Int → Int → gMem → Option (Int × gMem)) (K : Int → gMem → Option (Int × gMem)) (s : gMem) : Option (Int × gMem) := Kh (w32 (t1 + t0)) (w32 (v10 + 1)) s
set_option maxRecDepth 100000 in
theorem okj_tw_copy_l111_j166 {ω : gW} {l : Launch} {d : Nat} {N : Nat} {h : Nat} {σ0 : gMem} {s : gMem} {v1 : Int} {v2 : Int} {v5 : Int} {v6 : Int} {v7 : Int} {v8 : Int} {v10 : Int} {t0 : Int} {t1 : Int} {Kh : Int → Int → gMem → Option (Int × gMem)} {K : Int → gMem → Option (Int × gMem)} (hdp : 5 ≤ d) (hM : TM s h) (hv1 : g32 v1) (hv2 : g32 v2) (hv5 : g32 v5) (hv6 : g32 v6) (hv7 : g32 v7) (hv8 : g32 v8) (hv10 : g32 v10) (ht0 : g32 t0) (ht1 : g32 t1) (hKh : ∀ (v9 : Int) (v10 : Int) (s : gMem) , g32 v9 → g32 v10 → TM s h → GG (fun p : Int × gMem => (.inl (some (vI p.1)), p.2)) gTw ω l d mu_tw_copy σ0 111 [(0, vR h), (1, vI v1), (2, vI v2), (5, vI v5), (6, vI v6), (7, vI v7), (8, vI v8), (9, vI v9), (10, vI v10)] [] s (Kh v9 v10 s)) (hK : ∀ (v9 : Int) (s : gMem) , g32 v9 → TM s h → GG (fun p : Int × gMem => (.inl (some (vI p.1)), p.2)) gTw ω l d mu_tw_copy σ0 175 [(0, vR h), (1, vI v1), (2, vI v2), (5, vI v5), (6, vI v6), (7, vI v7), (8, vI v8), (9, vI v9)] [] s (K v9 s)) : GG (fun p : Int × gMem => (.inl (some (vI p.1)), p.2)) gTw ω l d mu_tw_copy σ0 166 [(0, vR h), (1, vI v1), (2, vI v2), (5, vI v5), (6, vI v6), (7, vI v7), (8, vI v8), (10, vI v10)] [vI t0, vI t1] s (tw_copy_l111_j166 N h v1 v2 v5 v6 v7 v8 v10 t0 t1 Kh K s) := by
  unfold tw_copy_l111_j166
  refine x_iadd (μ := mu_tw_copy) (pc := 166) dX11_copy_166 ?_
  refine x_w1 ?_
  refine x_istore (μ := mu_tw_copy) (pc := 167) (lv' := [(9, vI (w32 (t1 + t0))), (0, vR h), (1, vI v1), (2, vI v2), (5, vI v5), (6, vI v6), (7, vI v7), (8, vI v8), (10, vI v10)]) dX11_copy_167 (by decide) rfl ?_
  refine x_iincw (μ := mu_tw_copy) (pc := 169) (lv' := [(10, vI (w32 (v10 + 1))), (9, vI (w32 (t1 + t0))), (0, vR h), (1, vI v1), (2, vI v2), (5, vI v5), (6, vI v6), (7, vI v7), (8, vI v8)]) 8 dX11_copy_169 rfl (by decide) rfl ?_
  refine x_goto (μ := mu_tw_copy) (pc := 172) (tgt := 111) dX11_copy_172 rfl ?_
  refine x_loc (lv' := [(0, vR h), (1, vI v1), (2, vI v2), (5, vI v5), (6, vI v6), (7, vI v7), (8, vI v8), (9, vI (w32 (t1 + t0))), (10, vI (w32 (v10 + 1)))]) [2, 3, 4, 5, 6, 7, 8, 1, 0] rfl ?_
  exact hKh (w32 (t1 + t0)) (w32 (v10 + 1)) s (w32_rng _) (w32_rng _) hM
def tw_copy_l111 (N : Nat) (h : Nat) (v1 : Int) (v2 : Int) (v5 : Int) (v6 : Int) (v7 : Int) (v8 : Int) (K : Int → gMem → Option (Int × gMem)) : Nat → Int → Int → gMem → Option (Int × gMem)
  | 0, _, _, _ => none
  | n + 1, v9, v10, s => if w32 (v7 * v8) ≤ v10 then K v9 s else if v8 ≠ 0 then if v8 ≠ 0 then (tw_cellAt h 40 (w32 (v1 + (Int.tdiv v10 v8))) (w32 (v2 + (Int.tmod v10 v8))) s).bind (fun x28 => (tw_isFormula x28 s).bind (fun x30 => if x30 = 0 then tw_copy_l111_j166 N h v1 v2 v5 v6 v7 v8 v10 0 v9 (tw_copy_l111 N h v1 v2 v5 v6 v7 v8 K n) K s else if 0 ≤ (x28 - 1) ∧ (x28 - 1) < ((60420 : Nat) : Int) then tw_copy_l111_j166 N h v1 v2 v5 v6 v7 v8 v10 (mI s (h + 26) (x28 - 1).toNat) v9 (tw_copy_l111 N h v1 v2 v5 v6 v7 v8 K n) K s else none)) else none else none
set_option maxRecDepth 100000 in
theorem okl_tw_copy_l111 {ω : gW} {l : Launch} {d : Nat} {N : Nat} {h : Nat} {σ0 : gMem} {v1 : Int} {v2 : Int} {v5 : Int} {v6 : Int} {v7 : Int} {v8 : Int} {K : Int → gMem → Option (Int × gMem)} (hdp : 5 ≤ d) (hv1 : g32 v1) (hv2 : g32 v2) (hv5 : g32 v5) (hv6 : g32 v6) (hv7 : g32 v7) (hv8 : g32 v8) (hK : ∀ (v9 : Int) (s : gMem) , g32 v9 → TM s h → GG (fun p : Int × gMem => (.inl (some (vI p.1)), p.2)) gTw ω l d mu_tw_copy σ0 175 [(0, vR h), (1, vI v1), (2, vI v2), (5, vI v5), (6, vI v6), (7, vI v7), (8, vI v8), (9, vI v9)] [] s (K v9 s)) : ∀ (n : Nat) (v9 : Int) (v10 : Int) (s : gMem) , g32 v9 → g32 v10 → TM s h → GG (fun p : Int × gMem => (.inl (some (vI p.1)), p.2)) gTw ω l d mu_tw_copy σ0 111 [(0, vR h), (1, vI v1), (2, vI v2), (5, vI v5), (6, vI v6), (7, vI v7), (8, vI v8), (9, vI v9), (10, vI v10)] [] s (tw_copy_l111 N h v1 v2 v5 v6 v7 v8 K n v9 v10 s) := by
  intro n
  induction n with
  | zero => intros; exact x_none
  | succ n ih =>
    intro v9 v10 s hv9 hv10 hM
    unfold tw_copy_l111
    refine x_iload (μ := mu_tw_copy) (pc := 111) 8 dX11_copy_111 rfl ?_
    refine x_iload (μ := mu_tw_copy) (pc := 113) 5 dX11_copy_113 rfl ?_
    refine x_iload (μ := mu_tw_copy) (pc := 115) 6 dX11_copy_115 rfl ?_
    refine x_imul (μ := mu_tw_copy) (pc := 117) dX11_copy_117 ?_
    refine x_w1 ?_
    refine x_icmp_ge (μ := mu_tw_copy) (pc := 118) (tgt := 175) dX11_copy_118 rfl hv10 (w32_rng _) ?_ ?_
    · refine x_loc (lv' := [(0, vR h), (1, vI v1), (2, vI v2), (5, vI v5), (6, vI v6), (7, vI v7), (8, vI v8), (9, vI v9)]) [0, 1, 2, 3, 4, 5, 6, 7] rfl ?_
      exact hK v9 s hv9 hM
    · refine x_aload_n (μ := mu_tw_copy) (pc := 121) 0 dX11_copy_121 rfl ?_
      refine x_bipush (μ := mu_tw_copy) (pc := 122) dX11_copy_122 (by decide) ?_
      refine x_iload_n (μ := mu_tw_copy) (pc := 124) 1 dX11_copy_124 rfl ?_
      refine x_iload (μ := mu_tw_copy) (pc := 125) 8 dX11_copy_125 rfl ?_
      refine x_iload (μ := mu_tw_copy) (pc := 127) 6 dX11_copy_127 rfl ?_
      refine x_idiv (μ := mu_tw_copy) (pc := 129) dX11_copy_129 hv10 hv8 ?_
      refine x_iadd (μ := mu_tw_copy) (pc := 130) dX11_copy_130 ?_
      refine x_iload_n (μ := mu_tw_copy) (pc := 131) 2 dX11_copy_131 rfl ?_
      refine x_iload (μ := mu_tw_copy) (pc := 132) 8 dX11_copy_132 rfl ?_
      refine x_iload (μ := mu_tw_copy) (pc := 134) 6 dX11_copy_134 rfl ?_
      refine x_irem (μ := mu_tw_copy) (pc := 136) dX11_copy_136 hv10 hv8 ?_
      refine x_iadd (μ := mu_tw_copy) (pc := 137) dX11_copy_137 ?_
      refine x_w1 ?_
      refine x_w2 ?_
      refine x_callV_pi (μ := mu_tw_copy) (pc := 138) (ok_tw_cellAt (ω := ω) (l := l) (d := d - 1) (by omega) hM (by decide) (w32_rng _) (w32_rng _)) gRel_Tw gRel_Tw (fun _ q => q) q3453 q3455 qs173 q232 q3456 dX11_copy_138 rfl hM.1 hy_tw_cellAt (by omega) (Nat.le_of_ble_eq_true rfl) rfl (Nat.le_of_ble_eq_true rfl) (fun x28 hr29 => ?_)
      refine x_istore (μ := mu_tw_copy) (pc := 141) (lv' := [(11, vI x28), (0, vR h), (1, vI v1), (2, vI v2), (5, vI v5), (6, vI v6), (7, vI v7), (8, vI v8), (9, vI v9), (10, vI v10)]) dX11_copy_141 (by decide) rfl ?_
      refine x_iload (μ := mu_tw_copy) (pc := 143) 8 dX11_copy_143 rfl ?_
      refine x_iload (μ := mu_tw_copy) (pc := 145) 0 dX11_copy_145 rfl ?_
      refine x_callS_pi (μ := mu_tw_copy) (pc := 147) (ok_tw_isFormula (ω := ω) (l := l) (d := d - 1) (by omega) hr29) gRel_Tw gRel_Tw (fun _ q => q) q3226 q3227 q232 q3228 dX11_copy_147 hy_tw_isFormula (by omega) (Nat.le_of_ble_eq_true rfl) rfl (Nat.le_of_ble_eq_true rfl) (fun x30 hr31 => ?_)
      refine x_if_eq (μ := mu_tw_copy) (pc := 150) (tgt := 165) dX11_copy_150 rfl hr31 ?_ ?_
      · refine x_iconst (μ := mu_tw_copy) (pc := 165) dX11_copy_165 ?_
        refine x_loc (lv' := [(0, vR h), (1, vI v1), (2, vI v2), (5, vI v5), (6, vI v6), (7, vI v7), (8, vI v8), (10, vI v10)]) [1, 2, 3, 4, 5, 6, 7, 9] rfl ?_
        exact okj_tw_copy_l111_j166 hdp hM hv1 hv2 hv5 hv6 hv7 hv8 hv10 (by decide) hv9 ih hK
      · refine x_aload_n (μ := mu_tw_copy) (pc := 153) 1 dX11_copy_153 rfl ?_
        refine x_fgrE (μ := mu_tw_copy) (pc := 154) fX11_38 (Or.inr ⟨_, rfl⟩) q2674 (hM.a38).1 dX11_copy_154 hM.1 ?_
        refine x_iload (μ := mu_tw_copy) (pc := 157) 0 dX11_copy_157 rfl ?_
        refine x_iconst (μ := mu_tw_copy) (pc := 159) dX11_copy_159 ?_
        refine x_isub (μ := mu_tw_copy) (pc := 160) dX11_copy_160 ?_
        refine x_iald (μ := mu_tw_copy) (pc := 161) dX11_copy_161 (hM.a38).2.1 (hM.a38).2.2 (fun hr32 => ?_)
        refine x_goto (μ := mu_tw_copy) (pc := 162) (tgt := 166) dX11_copy_162 rfl ?_
        refine x_loc (lv' := [(0, vR h), (1, vI v1), (2, vI v2), (5, vI v5), (6, vI v6), (7, vI v7), (8, vI v8), (10, vI v10)]) [1, 2, 3, 4, 5, 6, 7, 9] rfl ?_
        exact okj_tw_copy_l111_j166 hdp hM hv1 hv2 hv5 hv6 hv7 hv8 hv10 hr32 hv9 ih hK
def tw_copy_l203_j259 (N : Nat) (h : Nat) (v1 : Int) (v2 : Int) (v5 : Int) (v6 : Int) (v7 : Int) (v8 : Int) (v10 : Int) (v11 : Int) (v12 : Int) (Kh : Int → gMem → Option (Int × gMem)) (K : gMem → Option (Int × gMem)) (s : gMem) : Option (Int × gMem) := if v8 ≠ 0 then if v8 ≠ 0 then (tw_setCell h (w32 (v5 + (Int.tdiv v11 v8))) (w32 (v6 + (Int.tmod v11 v8))) v12 s).bind (fun x45 => Kh (w32 (v11 + 1)) x45) else none else none
set_option maxRecDepth 100000 in
theorem okj_tw_copy_l203_j259 {ω : gW} {l : Launch} {d : Nat} {N : Nat} {h : Nat} {σ0 : gMem} {s : gMem} {v1 : Int} {v2 : Int} {v5 : Int} {v6 : Int} {v7 : Int} {v8 : Int} {v10 : Int} {v11 : Int} {v12 : Int} {Kh : Int → gMem → Option (Int × gMem)} {K : gMem → Option (Int × gMem)} (hdp : 5 ≤ d) (hM : TM s h) (hv1 : g32 v1) (hv2 : g32 v2) (hv5 : g32 v5) (hv6 : g32 v6) (hv7 : g32 v7) (hv8 : g32 v8) (hv10 : g32 v10) (hv11 : g32 v11) (hv12 : g32 v12) (hKh : ∀ (v11 : Int) (s : gMem) , g32 v11 → TM s h → GG (fun p : Int × gMem => (.inl (some (vI p.1)), p.2)) gTw ω l d mu_tw_copy σ0 203 [(0, vR h), (1, vI v1), (2, vI v2), (5, vI v5), (6, vI v6), (7, vI v7), (8, vI v8), (10, vI v10), (11, vI v11)] [] s (Kh v11 s)) (hK : ∀ (s : gMem) , TM s h → GG (fun p : Int × gMem => (.inl (some (vI p.1)), p.2)) gTw ω l d mu_tw_copy σ0 287 [(7, vI v7), (8, vI v8)] [] s (K s)) : GG (fun p : Int × gMem => (.inl (some (vI p.1)), p.2)) gTw ω l d mu_tw_copy σ0 259 [(0, vR h), (1, vI v1), (2, vI v2), (5, vI v5), (6, vI v6), (7, vI v7), (8, vI v8), (10, vI v10), (11, vI v11), (12, vI v12)] [] s (tw_copy_l203_j259 N h v1 v2 v5 v6 v7 v8 v10 v11 v12 Kh K s) := by
  unfold tw_copy_l203_j259
  refine x_aload_n (μ := mu_tw_copy) (pc := 259) 0 dX11_copy_259 rfl ?_
  refine x_iload (μ := mu_tw_copy) (pc := 260) 3 dX11_copy_260 rfl ?_
  refine x_iload (μ := mu_tw_copy) (pc := 262) 8 dX11_copy_262 rfl ?_
  refine x_iload (μ := mu_tw_copy) (pc := 264) 6 dX11_copy_264 rfl ?_
  refine x_idiv (μ := mu_tw_copy) (pc := 266) dX11_copy_266 hv11 hv8 ?_
  refine x_iadd (μ := mu_tw_copy) (pc := 267) dX11_copy_267 ?_
  refine x_iload (μ := mu_tw_copy) (pc := 268) 4 dX11_copy_268 rfl ?_
  refine x_iload (μ := mu_tw_copy) (pc := 270) 8 dX11_copy_270 rfl ?_
  refine x_iload (μ := mu_tw_copy) (pc := 272) 6 dX11_copy_272 rfl ?_
  refine x_irem (μ := mu_tw_copy) (pc := 274) dX11_copy_274 hv11 hv8 ?_
  refine x_iadd (μ := mu_tw_copy) (pc := 275) dX11_copy_275 ?_
  refine x_iload (μ := mu_tw_copy) (pc := 276) 9 dX11_copy_276 rfl ?_
  refine x_w2 ?_
  refine x_stk (st2 := [vI v12, vI (w32 (v6 + (Int.tmod v11 v8))), vI (w32 (v5 + (Int.tdiv v11 v8))), vR h]) (by simp only [List.map_cons, gval_w32, gval_w64]) ?_
  refine x_callV_mv (μ := mu_tw_copy) (pc := 278) (ok_tw_setCell (ω := ω) (l := l) (d := d - 1) (by omega) hM (w32_rng _) (w32_rng _) hv12) gRel_Tw gRel_Tw (fun _ q => q) q3195 q3197 qs120 q232 q3198 dX11_copy_278 rfl hM.1 hy_tw_setCell (by omega) (Nat.le_of_ble_eq_true rfl) rfl (Nat.le_of_ble_eq_true rfl) (fun x45 k46 => ?_)
  have hM47 : TM x45 h := hM.tw k46
  refine x_iincw (μ := mu_tw_copy) (pc := 281) (lv' := [(11, vI (w32 (v11 + 1))), (0, vR h), (1, vI v1), (2, vI v2), (5, vI v5), (6, vI v6), (7, vI v7), (8, vI v8), (10, vI v10), (12, vI v12)]) 8 dX11_copy_281 rfl (by decide) rfl ?_
  refine x_goto (μ := mu_tw_copy) (pc := 284) (tgt := 203) dX11_copy_284 rfl ?_
  refine x_loc (lv' := [(0, vR h), (1, vI v1), (2, vI v2), (5, vI v5), (6, vI v6), (7, vI v7), (8, vI v8), (10, vI v10), (11, vI (w32 (v11 + 1)))]) [1, 2, 3, 4, 5, 6, 7, 8, 0] rfl ?_
  exact hKh (w32 (v11 + 1)) x45 (w32_rng _) hM47
def tw_copy_l203 (N : Nat) (h : Nat) (v1 : Int) (v2 : Int) (v5 : Int) (v6 : Int) (v7 : Int) (v8 : Int) (v10 : Int) (K : gMem → Option (Int × gMem)) : Nat → Int → gMem → Option (Int × gMem)
  | 0, _, _ => none
  | n + 1, v11, s => if w32 (v7 * v8) ≤ v11 then K s else if v8 ≠ 0 then if v8 ≠ 0 then (tw_cellAt h v10 (w32 (v1 + (Int.tdiv v11 v8))) (w32 (v2 + (Int.tmod v11 v8))) s).bind (fun x41 => (tw_isFormula x41 s).bind (fun x43 => if x43 = 0 then tw_copy_l203_j259 N h v1 v2 v5 v6 v7 v8 v10 v11 x41  (tw_copy_l203 N h v1 v2 v5 v6 v7 v8 v10 K n) K s else (tw_copyFormula N h x41 (w32 (v5 - v1)) (w32 (v6 - v2)) s).bind (fun x48 => tw_copy_l203_j259 N h v1 v2 v5 v6 v7 v8 v10 v11 (x48.1)  (tw_copy_l203 N h v1 v2 v5 v6 v7 v8 v10 K n) K (x48.2)))) else none else none
set_option maxRecDepth 100000 in
theorem okl_tw_copy_l203 {ω : gW} {l : Launch} {d : Nat} {N : Nat} {h : Nat} {σ0 : gMem} {v1 : Int} {v2 : Int} {v5 : Int} {v6 : Int} {v7 : Int} {v8 : Int} {v10 : Int} {K : gMem → Option (Int × gMem)} (hdp : 5 ≤ d) (hv1 : g32 v1) (hv2 : g32 v2) (hv5 : g32 v5) (hv6 : g32 v6) (hv7 : g32 v7) (hv8 : g32 v8) (hv10 : g32 v10) (hK : ∀ (s : gMem) , TM s h → GG (fun p : Int × gMem => (.inl (some (vI p.1)), p.2)) gTw ω l d mu_tw_copy σ0 287 [(7, vI v7), (8, vI v8)] [] s (K s)) : ∀ (n : Nat) (v11 : Int) (s : gMem) , g32 v11 → TM s h → GG (fun p : Int × gMem => (.inl (some (vI p.1)), p.2)) gTw ω l d mu_tw_copy σ0 203 [(0, vR h), (1, vI v1), (2, vI v2), (5, vI v5), (6, vI v6), (7, vI v7), (8, vI v8), (10, vI v10), (11, vI v11)] [] s (tw_copy_l203 N h v1 v2 v5 v6 v7 v8 v10 K n v11 s) := by
  intro n
  induction n with
  | zero => intros; exact x_none
  | succ n ih =>
    intro v11 s hv11 hM
    unfold tw_copy_l203
    refine x_iload (μ := mu_tw_copy) (pc := 203) 8 dX11_copy_203 rfl ?_
    refine x_iload (μ := mu_tw_copy) (pc := 205) 5 dX11_copy_205 rfl ?_
    refine x_iload (μ := mu_tw_copy) (pc := 207) 6 dX11_copy_207 rfl ?_
    refine x_imul (μ := mu_tw_copy) (pc := 209) dX11_copy_209 ?_
    refine x_w1 ?_
    refine x_icmp_ge (μ := mu_tw_copy) (pc := 210) (tgt := 287) dX11_copy_210 rfl hv11 (w32_rng _) ?_ ?_
    · refine x_loc (lv' := [(7, vI v7), (8, vI v8)]) [5, 6] rfl ?_
      exact hK s hM
    · refine x_aload_n (μ := mu_tw_copy) (pc := 213) 0 dX11_copy_213 rfl ?_
      refine x_iload (μ := mu_tw_copy) (pc := 214) 7 dX11_copy_214 rfl ?_
      refine x_iload_n (μ := mu_tw_copy) (pc := 216) 1 dX11_copy_216 rfl ?_
      refine x_iload (μ := mu_tw_copy) (pc := 217) 8 dX11_copy_217 rfl ?_
      refine x_iload (μ := mu_tw_copy) (pc := 219) 6 dX11_copy_219 rfl ?_
      refine x_idiv (μ := mu_tw_copy) (pc := 221) dX11_copy_221 hv11 hv8 ?_
      refine x_iadd (μ := mu_tw_copy) (pc := 222) dX11_copy_222 ?_
      refine x_iload_n (μ := mu_tw_copy) (pc := 223) 2 dX11_copy_223 rfl ?_
      refine x_iload (μ := mu_tw_copy) (pc := 224) 8 dX11_copy_224 rfl ?_
      refine x_iload (μ := mu_tw_copy) (pc := 226) 6 dX11_copy_226 rfl ?_
      refine x_irem (μ := mu_tw_copy) (pc := 228) dX11_copy_228 hv11 hv8 ?_
      refine x_iadd (μ := mu_tw_copy) (pc := 229) dX11_copy_229 ?_
      refine x_w1 ?_
      refine x_w2 ?_
      refine x_callV_pi (μ := mu_tw_copy) (pc := 230) (ok_tw_cellAt (ω := ω) (l := l) (d := d - 1) (by omega) hM hv10 (w32_rng _) (w32_rng _)) gRel_Tw gRel_Tw (fun _ q => q) q3453 q3455 qs173 q232 q3456 dX11_copy_230 rfl hM.1 hy_tw_cellAt (by omega) (Nat.le_of_ble_eq_true rfl) rfl (Nat.le_of_ble_eq_true rfl) (fun x41 hr42 => ?_)
      refine x_istore (μ := mu_tw_copy) (pc := 233) (lv' := [(12, vI x41), (0, vR h), (1, vI v1), (2, vI v2), (5, vI v5), (6, vI v6), (7, vI v7), (8, vI v8), (10, vI v10), (11, vI v11)]) dX11_copy_233 (by decide) rfl ?_
      refine x_iload (μ := mu_tw_copy) (pc := 235) 0 dX11_copy_235 rfl ?_
      refine x_callS_pi (μ := mu_tw_copy) (pc := 237) (ok_tw_isFormula (ω := ω) (l := l) (d := d - 1) (by omega) hr42) gRel_Tw gRel_Tw (fun _ q => q) q3226 q3227 q232 q3228 dX11_copy_237 hy_tw_isFormula (by omega) (Nat.le_of_ble_eq_true rfl) rfl (Nat.le_of_ble_eq_true rfl) (fun x43 hr44 => ?_)
      refine x_if_eq (μ := mu_tw_copy) (pc := 240) (tgt := 259) dX11_copy_240 rfl hr44 ?_ ?_
      · refine x_loc (lv' := [(0, vR h), (1, vI v1), (2, vI v2), (5, vI v5), (6, vI v6), (7, vI v7), (8, vI v8), (10, vI v10), (11, vI v11), (12, vI x41)]) [1, 2, 3, 4, 5, 6, 7, 8, 9, 0] rfl ?_
        exact okj_tw_copy_l203_j259 hdp hM hv1 hv2 hv5 hv6 hv7 hv8 hv10 hv11 hr42 ih hK
      · refine x_aload_n (μ := mu_tw_copy) (pc := 243) 1 dX11_copy_243 rfl ?_
        refine x_iload (μ := mu_tw_copy) (pc := 244) 0 dX11_copy_244 rfl ?_
        refine x_iload (μ := mu_tw_copy) (pc := 246) 4 dX11_copy_246 rfl ?_
        refine x_iload_n (μ := mu_tw_copy) (pc := 248) 2 dX11_copy_248 rfl ?_
        refine x_isub (μ := mu_tw_copy) (pc := 249) dX11_copy_249 ?_
        refine x_iload (μ := mu_tw_copy) (pc := 250) 5 dX11_copy_250 rfl ?_
        refine x_iload_n (μ := mu_tw_copy) (pc := 252) 3 dX11_copy_252 rfl ?_
        refine x_isub (μ := mu_tw_copy) (pc := 253) dX11_copy_253 ?_
        refine x_w1 ?_
        refine x_w2 ?_
        refine x_callV_mi (μ := mu_tw_copy) (pc := 254) (ok_tw_copyFormula (ω := ω) (l := l) (d := d - 1) (by omega) hM hr42 (w32_rng _) (w32_rng _)) gRel_Tw gRel_Tw (fun _ q => q) q3565 q3567 qs190 q232 q3568 dX11_copy_254 rfl hM.1 hy_tw_copyFormula (by omega) (Nat.le_of_ble_eq_true rfl) rfl (Nat.le_of_ble_eq_true rfl) (fun x48 k50 hr49 => ?_)
        have hM51 : TM (x48.2) h := hM.tw k50
        refine x_istore (μ := mu_tw_copy) (pc := 257) (lv' := [(12, vI (x48.1)), (0, vR h), (1, vI v1), (2, vI v2), (5, vI v5), (6, vI v6), (7, vI v7), (8, vI v8), (10, vI v10), (11, vI v11)]) dX11_copy_257 (by decide) rfl ?_
        refine x_loc (lv' := [(0, vR h), (1, vI v1), (2, vI v2), (5, vI v5), (6, vI v6), (7, vI v7), (8, vI v8), (10, vI v10), (11, vI v11), (12, vI (x48.1))]) [1, 2, 3, 4, 5, 6, 7, 8, 9, 0] rfl ?_
        exact okj_tw_copy_l203_j259 hdp hM51 hv1 hv2 hv5 hv6 hv7 hv8 hv10 hv11 hr49 ih hK
def tw_copy (N : Nat) (h : Nat) (v1 : Int) (v2 : Int) (v3 : Int) (v4 : Int) (v5 : Int) (v6 : Int) (σ : gMem) : Option (Int × gMem) := gLet (wI σ h 0 0) (fun s1 => (tw_isCell h 40 v1 v2 s1).bind (fun x4 => if x4 = 0 then (tw_throwing h 1 s1).bind (fun x6 => some (x6.1, x6.2)) else (tw_isCell h 40 v3 v4 s1).bind (fun x10 => if x10 = 0 then (tw_throwing h 1 s1).bind (fun x12 => some (x12.1, x12.2)) else (tw_isCell h 40 v5 v6 s1).bind (fun x16 => if x16 ≠ 0 then if v3 < v1 then (tw_throwing h 2 s1).bind (fun x18 => some (x18.1, x18.2)) else if v2 ≤ v4 then if 0 ≤ (40 : Int) ∧ (40 : Int) < ((122 : Nat) : Int) then (tw_least (w32 (v3 - v1)) (w32 ((mI s1 (h + 1) (40 : Int).toNat) - v5)) s1).bind (fun x23 => if 0 ≤ (40 : Int) ∧ (40 : Int) < ((122 : Nat) : Int) then (tw_least (w32 (v4 - v2)) (w32 ((mI s1 (h + 2) (40 : Int).toNat) - v6)) s1).bind (fun x26 => tw_copy_l111 N h v1 v2 v5 v6 (w32 (x23 + 1)) (w32 (x26 + 1)) (fun y33 s34 => if w32 ((mI s34 h 25) + y33) ≤ 60000 then (tw_step N h s34).bind (fun x37 => tw_copy_l203 N h v1 v2 v5 v6 (w32 (x23 + 1)) (w32 (x26 + 1)) (x37.1) (fun s52 => some (w32 ((w32 (x23 + 1)) * (w32 (x26 + 1))), s52)) N 0 (x37.2)) else (tw_throwing h 3 s34).bind (fun x54 => some (x54.1, x54.2))) N 0 0 s1) else none) else none else (tw_throwing h 2 s1).bind (fun x58 => some (x58.1, x58.2)) else (tw_throwing h 1 s1).bind (fun x62 => some (x62.1, x62.2))))))
set_option maxRecDepth 100000 in
theorem ok_tw_copy {ω : gW} {l : Launch} {d : Nat} {N : Nat} {h : Nat} {σ : gMem} {v1 : Int} {v2 : Int} {v3 : Int} {v4 : Int} {v5 : Int} {v6 : Int} (hdp : 5 ≤ d) (hM : TM σ h) (hv1 : g32 v1) (hv2 : g32 v2) (hv3 : g32 v3) (hv4 : g32 v4) (hv5 : g32 v5) (hv6 : g32 v6) : gK (fun p : Int × gMem => (.inl (some (vI p.1)), p.2)) gTw ω l d mu_tw_copy [vR h, vI v1, vI v2, vI v3, vI v4, vI v5, vI v6] σ (tw_copy N h v1 v2 v3 v4 v5 v6 σ) := by
  refine gK.of hp_X11 (Nat.le_of_ble_eq_true rfl) ?_
  unfold tw_copy
  refine x_aload_n (μ := mu_tw_copy) (pc := 0) 0 dX11_copy_0 rfl ?_
  refine x_iconst (μ := mu_tw_copy) (pc := 1) dX11_copy_1 ?_
  refine x_fpi (μ := mu_tw_copy) (pc := 2) fX11_0 q2636 dX11_copy_2 hM.1 (fun _ q => gTw_wI q) ?_
  refine x_let (fun s1 e2 => ?_)
  have hM3 := TM.eI e2 hM
  refine x_aload_n (μ := mu_tw_copy) (pc := 5) 0 dX11_copy_5 rfl ?_
  refine x_bipush (μ := mu_tw_copy) (pc := 6) dX11_copy_6 (by decide) ?_
  refine x_iload_n (μ := mu_tw_copy) (pc := 8) 1 dX11_copy_8 rfl ?_
  refine x_iload_n (μ := mu_tw_copy) (pc := 9) 2 dX11_copy_9 rfl ?_
  refine x_callV_pi (μ := mu_tw_copy) (pc := 10) (ok_tw_isCell (ω := ω) (l := l) (d := d - 1) (by omega) hM3 (by decide) hv1 hv2) gRel_Tw gRel_Tw (fun _ q => q) q2987 q2989 qs80 q232 q2990 dX11_copy_10 rfl hM3.1 hy_tw_isCell (by omega) (Nat.le_of_ble_eq_true rfl) rfl (Nat.le_of_ble_eq_true rfl) (fun x4 hr5 => ?_)
  refine x_if_eq (μ := mu_tw_copy) (pc := 13) (tgt := 41) dX11_copy_13 rfl hr5 ?_ ?_
  · refine x_aload_n (μ := mu_tw_copy) (pc := 41) 0 dX11_copy_41 rfl ?_
    refine x_iconst (μ := mu_tw_copy) (pc := 42) dX11_copy_42 ?_
    refine x_callV_mi (μ := mu_tw_copy) (pc := 43) (ok_tw_throwing (ω := ω) (l := l) (d := d - 1) (by omega) hM3 (by decide)) gRel_Tw gRel_Tw (fun _ q => q) q2960 q2962 qs78 q232 q2963 dX11_copy_43 rfl hM3.1 hy_tw_throwing (by omega) (Nat.le_of_ble_eq_true rfl) rfl (Nat.le_of_ble_eq_true rfl) (fun x6 k8 hr7 => ?_)
    have hM9 : TM (x6.2) h := hM3.tw k8
    exact x_iret (μ := mu_tw_copy) (pc := 46) dX11_copy_46 rfl rfl (gRel_Tw.1 _) (show g32 (x6.1) from hr7)
  · refine x_aload_n (μ := mu_tw_copy) (pc := 16) 0 dX11_copy_16 rfl ?_
    refine x_bipush (μ := mu_tw_copy) (pc := 17) dX11_copy_17 (by decide) ?_
    refine x_iload_n (μ := mu_tw_copy) (pc := 19) 3 dX11_copy_19 rfl ?_
    refine x_iload (μ := mu_tw_copy) (pc := 20) 4 dX11_copy_20 rfl ?_
    refine x_callV_pi (μ := mu_tw_copy) (pc := 22) (ok_tw_isCell (ω := ω) (l := l) (d := d - 1) (by omega) hM3 (by decide) hv3 hv4) gRel_Tw gRel_Tw (fun _ q => q) q2987 q2989 qs80 q232 q2990 dX11_copy_22 rfl hM3.1 hy_tw_isCell (by omega) (Nat.le_of_ble_eq_true rfl) rfl (Nat.le_of_ble_eq_true rfl) (fun x10 hr11 => ?_)
    refine x_if_eq (μ := mu_tw_copy) (pc := 25) (tgt := 41) dX11_copy_25 rfl hr11 ?_ ?_
    · refine x_aload_n (μ := mu_tw_copy) (pc := 41) 0 dX11_copy_41 rfl ?_
      refine x_iconst (μ := mu_tw_copy) (pc := 42) dX11_copy_42 ?_
      refine x_callV_mi (μ := mu_tw_copy) (pc := 43) (ok_tw_throwing (ω := ω) (l := l) (d := d - 1) (by omega) hM3 (by decide)) gRel_Tw gRel_Tw (fun _ q => q) q2960 q2962 qs78 q232 q2963 dX11_copy_43 rfl hM3.1 hy_tw_throwing (by omega) (Nat.le_of_ble_eq_true rfl) rfl (Nat.le_of_ble_eq_true rfl) (fun x12 k14 hr13 => ?_)
      have hM15 : TM (x12.2) h := hM3.tw k14
      exact x_iret (μ := mu_tw_copy) (pc := 46) dX11_copy_46 rfl rfl (gRel_Tw.1 _) (show g32 (x12.1) from hr13)
    · refine x_aload_n (μ := mu_tw_copy) (pc := 28) 0 dX11_copy_28 rfl ?_
      refine x_bipush (μ := mu_tw_copy) (pc := 29) dX11_copy_29 (by decide) ?_
      refine x_iload (μ := mu_tw_copy) (pc := 31) 5 dX11_copy_31 rfl ?_
      refine x_iload (μ := mu_tw_copy) (pc := 33) 6 dX11_copy_33 rfl ?_
      refine x_callV_pi (μ := mu_tw_copy) (pc := 35) (ok_tw_isCell (ω := ω) (l := l) (d := d - 1) (by omega) hM3 (by decide) hv5 hv6) gRel_Tw gRel_Tw (fun _ q => q) q2987 q2989 qs80 q232 q2990 dX11_copy_35 rfl hM3.1 hy_tw_isCell (by omega) (Nat.le_of_ble_eq_true rfl) rfl (Nat.le_of_ble_eq_true rfl) (fun x16 hr17 => ?_)
      refine x_if_ne (μ := mu_tw_copy) (pc := 38) (tgt := 47) dX11_copy_38 rfl hr17 ?_ ?_
      · refine x_iload_n (μ := mu_tw_copy) (pc := 47) 3 dX11_copy_47 rfl ?_
        refine x_iload_n (μ := mu_tw_copy) (pc := 48) 1 dX11_copy_48 rfl ?_
        refine x_icmp_lt (μ := mu_tw_copy) (pc := 49) (tgt := 58) dX11_copy_49 rfl hv3 hv1 ?_ ?_
        · refine x_aload_n (μ := mu_tw_copy) (pc := 58) 0 dX11_copy_58 rfl ?_
          refine x_iconst (μ := mu_tw_copy) (pc := 59) dX11_copy_59 ?_
          refine x_callV_mi (μ := mu_tw_copy) (pc := 60) (ok_tw_throwing (ω := ω) (l := l) (d := d - 1) (by omega) hM3 (by decide)) gRel_Tw gRel_Tw (fun _ q => q) q2960 q2962 qs78 q232 q2963 dX11_copy_60 rfl hM3.1 hy_tw_throwing (by omega) (Nat.le_of_ble_eq_true rfl) rfl (Nat.le_of_ble_eq_true rfl) (fun x18 k20 hr19 => ?_)
          have hM21 : TM (x18.2) h := hM3.tw k20
          exact x_iret (μ := mu_tw_copy) (pc := 63) dX11_copy_63 rfl rfl (gRel_Tw.1 _) (show g32 (x18.1) from hr19)
        · refine x_iload (μ := mu_tw_copy) (pc := 52) 4 dX11_copy_52 rfl ?_
          refine x_iload_n (μ := mu_tw_copy) (pc := 54) 2 dX11_copy_54 rfl ?_
          refine x_icmp_ge (μ := mu_tw_copy) (pc := 55) (tgt := 64) dX11_copy_55 rfl hv4 hv2 ?_ ?_
          · refine x_iload_n (μ := mu_tw_copy) (pc := 64) 3 dX11_copy_64 rfl ?_
            refine x_iload_n (μ := mu_tw_copy) (pc := 65) 1 dX11_copy_65 rfl ?_
            refine x_isub (μ := mu_tw_copy) (pc := 66) dX11_copy_66 ?_
            refine x_aload_n (μ := mu_tw_copy) (pc := 67) 0 dX11_copy_67 rfl ?_
            refine x_fgrE (μ := mu_tw_copy) (pc := 68) fX11_1 (Or.inr ⟨_, rfl⟩) q2637 (hM3.a1).1 dX11_copy_68 hM3.1 ?_
            refine x_bipush (μ := mu_tw_copy) (pc := 71) dX11_copy_71 (by decide) ?_
            refine x_iald (μ := mu_tw_copy) (pc := 73) dX11_copy_73 (hM3.a1).2.1 (hM3.a1).2.2 (fun hr22 => ?_)
            refine x_iload (μ := mu_tw_copy) (pc := 74) 5 dX11_copy_74 rfl ?_
            refine x_isub (μ := mu_tw_copy) (pc := 76) dX11_copy_76 ?_
            refine x_w1 ?_
            refine x_w2 ?_
            refine x_callS_pi (μ := mu_tw_copy) (pc := 77) (ok_tw_least (ω := ω) (l := l) (d := d - 1) (by omega) (w32_rng _) (w32_rng _)) gRel_Tw gRel_Tw (fun _ q => q) q3257 q3258 q232 q3259 dX11_copy_77 hy_tw_least (by omega) (Nat.le_of_ble_eq_true rfl) rfl (Nat.le_of_ble_eq_true rfl) (fun x23 hr24 => ?_)
            refine x_iconst (μ := mu_tw_copy) (pc := 80) dX11_copy_80 ?_
            refine x_iadd (μ := mu_tw_copy) (pc := 81) dX11_copy_81 ?_
            refine x_w1 ?_
            refine x_istore (μ := mu_tw_copy) (pc := 82) (lv' := [(7, vI (w32 (x23 + 1))), (0, vR h), (1, vI v1), (2, vI v2), (3, vI v3), (4, vI v4), (5, vI v5), (6, vI v6)]) dX11_copy_82 (by decide) rfl ?_
            refine x_iload (μ := mu_tw_copy) (pc := 84) 5 dX11_copy_84 rfl ?_
            refine x_iload_n (μ := mu_tw_copy) (pc := 86) 3 dX11_copy_86 rfl ?_
            refine x_isub (μ := mu_tw_copy) (pc := 87) dX11_copy_87 ?_
            refine x_aload_n (μ := mu_tw_copy) (pc := 88) 1 dX11_copy_88 rfl ?_
            refine x_fgrE (μ := mu_tw_copy) (pc := 89) fX11_2 (Or.inr ⟨_, rfl⟩) q2638 (hM3.a2).1 dX11_copy_89 hM3.1 ?_
            refine x_bipush (μ := mu_tw_copy) (pc := 92) dX11_copy_92 (by decide) ?_
            refine x_iald (μ := mu_tw_copy) (pc := 94) dX11_copy_94 (hM3.a2).2.1 (hM3.a2).2.2 (fun hr25 => ?_)
            refine x_iload (μ := mu_tw_copy) (pc := 95) 7 dX11_copy_95 rfl ?_
            refine x_isub (μ := mu_tw_copy) (pc := 97) dX11_copy_97 ?_
            refine x_w1 ?_
            refine x_w2 ?_
            refine x_callS_pi (μ := mu_tw_copy) (pc := 98) (ok_tw_least (ω := ω) (l := l) (d := d - 1) (by omega) (w32_rng _) (w32_rng _)) gRel_Tw gRel_Tw (fun _ q => q) q3257 q3258 q232 q3259 dX11_copy_98 hy_tw_least (by omega) (Nat.le_of_ble_eq_true rfl) rfl (Nat.le_of_ble_eq_true rfl) (fun x26 hr27 => ?_)
            refine x_iconst (μ := mu_tw_copy) (pc := 101) dX11_copy_101 ?_
            refine x_iadd (μ := mu_tw_copy) (pc := 102) dX11_copy_102 ?_
            refine x_w1 ?_
            refine x_istore (μ := mu_tw_copy) (pc := 103) (lv' := [(8, vI (w32 (x26 + 1))), (7, vI (w32 (x23 + 1))), (0, vR h), (1, vI v1), (2, vI v2), (3, vI v3), (4, vI v4), (5, vI v5), (6, vI v6)]) dX11_copy_103 (by decide) rfl ?_
            refine x_iconst (μ := mu_tw_copy) (pc := 105) dX11_copy_105 ?_
            refine x_istore (μ := mu_tw_copy) (pc := 106) (lv' := [(9, vI 0), (8, vI (w32 (x26 + 1))), (7, vI (w32 (x23 + 1))), (0, vR h), (1, vI v1), (2, vI v2), (3, vI v3), (4, vI v4), (5, vI v5), (6, vI v6)]) dX11_copy_106 (by decide) rfl ?_
            refine x_iconst (μ := mu_tw_copy) (pc := 108) dX11_copy_108 ?_
            refine x_istore (μ := mu_tw_copy) (pc := 109) (lv' := [(10, vI 0), (9, vI 0), (8, vI (w32 (x26 + 1))), (7, vI (w32 (x23 + 1))), (0, vR h), (1, vI v1), (2, vI v2), (3, vI v3), (4, vI v4), (5, vI v5), (6, vI v6)]) dX11_copy_109 (by decide) rfl ?_
            refine x_loc (lv' := [(0, vR h), (1, vI v1), (2, vI v2), (5, vI v5), (6, vI v6), (7, vI (w32 (x23 + 1))), (8, vI (w32 (x26 + 1))), (9, vI 0), (10, vI 0)]) [4, 5, 6, 9, 10, 3, 2, 1, 0] rfl ?_
            refine okl_tw_copy_l111 hdp hv1 hv2 hv5 hv6 (w32_rng _) (w32_rng _) (fun y33 s34 hy33 hM35 => ?_) N 0 0 s1 (by decide) (by decide) hM3
            refine x_aload_n (μ := mu_tw_copy) (pc := 175) 0 dX11_copy_175 rfl ?_
            refine x_fgi (μ := mu_tw_copy) (pc := 176) fX11_25 q2661 dX11_copy_176 hM35.1 (fun hr36 => ?_)
            refine x_iload (μ := mu_tw_copy) (pc := 179) 7 dX11_copy_179 rfl ?_
            refine x_iadd (μ := mu_tw_copy) (pc := 181) dX11_copy_181 ?_
            refine x_ldcw (μ := mu_tw_copy) (pc := 182) (n := 60000) dX11_copy_182 q3190 ?_
            refine x_w2 ?_
            refine x_icmp_le (μ := mu_tw_copy) (pc := 185) (tgt := 194) dX11_copy_185 rfl (w32_rng _) (by decide) ?_ ?_
            · refine x_aload_n (μ := mu_tw_copy) (pc := 194) 0 dX11_copy_194 rfl ?_
              refine x_callV_mi (μ := mu_tw_copy) (pc := 195) (ok_tw_step (ω := ω) (l := l) (d := d - 1) (by omega) hM35 ) gRel_Tw gRel_Tw (fun _ q => q) q3191 q3193 qs119 q232 q3194 dX11_copy_195 rfl hM35.1 hy_tw_step (by omega) (Nat.le_of_ble_eq_true rfl) rfl (Nat.le_of_ble_eq_true rfl) (fun x37 k39 hr38 => ?_)
              have hM40 : TM (x37.2) h := hM35.tw k39
              refine x_istore (μ := mu_tw_copy) (pc := 198) (lv' := [(10, vI (x37.1)), (0, vR h), (1, vI v1), (2, vI v2), (5, vI v5), (6, vI v6), (7, vI (w32 (x23 + 1))), (8, vI (w32 (x26 + 1))), (9, vI y33)]) dX11_copy_198 (by decide) rfl ?_
              refine x_iconst (μ := mu_tw_copy) (pc := 200) dX11_copy_200 ?_
              refine x_istore (μ := mu_tw_copy) (pc := 201) (lv' := [(11, vI 0), (10, vI (x37.1)), (0, vR h), (1, vI v1), (2, vI v2), (5, vI v5), (6, vI v6), (7, vI (w32 (x23 + 1))), (8, vI (w32 (x26 + 1))), (9, vI y33)]) dX11_copy_201 (by decide) rfl ?_
              refine x_loc (lv' := [(0, vR h), (1, vI v1), (2, vI v2), (5, vI v5), (6, vI v6), (7, vI (w32 (x23 + 1))), (8, vI (w32 (x26 + 1))), (10, vI (x37.1)), (11, vI 0)]) [2, 3, 4, 5, 6, 7, 8, 1, 0] rfl ?_
              refine okl_tw_copy_l203 hdp hv1 hv2 hv5 hv6 (w32_rng _) (w32_rng _) hr38 (fun s52 hM53 => ?_) N 0 (x37.2) (by decide) hM40
              refine x_iload (μ := mu_tw_copy) (pc := 287) 0 dX11_copy_287 rfl ?_
              refine x_iload (μ := mu_tw_copy) (pc := 289) 1 dX11_copy_289 rfl ?_
              refine x_imul (μ := mu_tw_copy) (pc := 291) dX11_copy_291 ?_
              refine x_w1 ?_
              exact x_iret (μ := mu_tw_copy) (pc := 292) dX11_copy_292 rfl rfl (gRel_Tw.1 _) (show g32 (w32 ((w32 (x23 + 1)) * (w32 (x26 + 1)))) from (w32_rng _))
            · refine x_aload_n (μ := mu_tw_copy) (pc := 188) 0 dX11_copy_188 rfl ?_
              refine x_iconst (μ := mu_tw_copy) (pc := 189) dX11_copy_189 ?_
              refine x_callV_mi (μ := mu_tw_copy) (pc := 190) (ok_tw_throwing (ω := ω) (l := l) (d := d - 1) (by omega) hM35 (by decide)) gRel_Tw gRel_Tw (fun _ q => q) q2960 q2962 qs78 q232 q2963 dX11_copy_190 rfl hM35.1 hy_tw_throwing (by omega) (Nat.le_of_ble_eq_true rfl) rfl (Nat.le_of_ble_eq_true rfl) (fun x54 k56 hr55 => ?_)
              have hM57 : TM (x54.2) h := hM35.tw k56
              exact x_iret (μ := mu_tw_copy) (pc := 193) dX11_copy_193 rfl rfl (gRel_Tw.1 _) (show g32 (x54.1) from hr55)
          · refine x_aload_n (μ := mu_tw_copy) (pc := 58) 0 dX11_copy_58 rfl ?_
            refine x_iconst (μ := mu_tw_copy) (pc := 59) dX11_copy_59 ?_
            refine x_callV_mi (μ := mu_tw_copy) (pc := 60) (ok_tw_throwing (ω := ω) (l := l) (d := d - 1) (by omega) hM3 (by decide)) gRel_Tw gRel_Tw (fun _ q => q) q2960 q2962 qs78 q232 q2963 dX11_copy_60 rfl hM3.1 hy_tw_throwing (by omega) (Nat.le_of_ble_eq_true rfl) rfl (Nat.le_of_ble_eq_true rfl) (fun x58 k60 hr59 => ?_)
            have hM61 : TM (x58.2) h := hM3.tw k60
            exact x_iret (μ := mu_tw_copy) (pc := 63) dX11_copy_63 rfl rfl (gRel_Tw.1 _) (show g32 (x58.1) from hr59)
      · refine x_aload_n (μ := mu_tw_copy) (pc := 41) 0 dX11_copy_41 rfl ?_
        refine x_iconst (μ := mu_tw_copy) (pc := 42) dX11_copy_42 ?_
        refine x_callV_mi (μ := mu_tw_copy) (pc := 43) (ok_tw_throwing (ω := ω) (l := l) (d := d - 1) (by omega) hM3 (by decide)) gRel_Tw gRel_Tw (fun _ q => q) q2960 q2962 qs78 q232 q2963 dX11_copy_43 rfl hM3.1 hy_tw_throwing (by omega) (Nat.le_of_ble_eq_true rfl) rfl (Nat.le_of_ble_eq_true rfl) (fun x62 k64 hr63 => ?_)
        have hM65 : TM (x62.2) h := hM3.tw k64
        exact x_iret (μ := mu_tw_copy) (pc := 46) dX11_copy_46 rfl rfl (gRel_Tw.1 _) (show g32 (x62.1) from hr63)
def tw_go (N : Nat) (h : Nat) (v1 : Int) (σ : gMem) : Option (Int × gMem) := gLet (wI σ h 0 0) (fun s1 => (tw_in v1 0 5 s1).bind (fun x4 => if x4 ≠ 0 then if 0 ≤ v1 ∧ v1 < ((6 : Nat) : Int) then if 0 ≤ mI s1 (h + 8) v1.toNat then if 0 ≤ mI s1 h 13 then (tw_throwing h 3 s1).bind (fun x8 => some (x8.1, x8.2)) else (tw_unsettled N h s1).bind (fun x12 => if 0 < x12 then (tw_throwing h 3 s1).bind (fun x14 => some (x14.1, x14.2)) else (tw_isLikeHead N h s1).bind (fun x18 => if x18 ≠ 0 then gLet (wI s1 h 12 v1) (fun s20 => (tw_head h s20).bind (fun x23 => (tw_become N h x23 s20).bind (fun x25 => (tw_head h x25).bind (fun x28 => some (x28, x25))))) else (tw_throwing h 3 s1).bind (fun x30 => some (x30.1, x30.2)))) else (tw_throwing h 2 s1).bind (fun x34 => some (x34.1, x34.2)) else none else (tw_throwing h 1 s1).bind (fun x38 => some (x38.1, x38.2))))
set_option maxRecDepth 100000 in
theorem ok_tw_go {ω : gW} {l : Launch} {d : Nat} {N : Nat} {h : Nat} {σ : gMem} {v1 : Int} (hdp : 4 ≤ d) (hM : TM σ h) (hv1 : g32 v1) : gK (fun p : Int × gMem => (.inl (some (vI p.1)), p.2)) gTw ω l d mu_tw_go [vR h, vI v1] σ (tw_go N h v1 σ) := by
  refine gK.of hp_X11 (Nat.le_of_ble_eq_true rfl) ?_
  unfold tw_go
  refine x_aload_n (μ := mu_tw_go) (pc := 0) 0 dX11_go_0 rfl ?_
  refine x_iconst (μ := mu_tw_go) (pc := 1) dX11_go_1 ?_
  refine x_fpi (μ := mu_tw_go) (pc := 2) fX11_0 q2636 dX11_go_2 hM.1 (fun _ q => gTw_wI q) ?_
  refine x_let (fun s1 e2 => ?_)
  have hM3 := TM.eI e2 hM
  refine x_iload_n (μ := mu_tw_go) (pc := 5) 1 dX11_go_5 rfl ?_
  refine x_iconst (μ := mu_tw_go) (pc := 6) dX11_go_6 ?_
  refine x_iconst (μ := mu_tw_go) (pc := 7) dX11_go_7 ?_
  refine x_callS_pi (μ := mu_tw_go) (pc := 8) (ok_tw_in (ω := ω) (l := l) (d := d - 1) (by omega) hv1 (by decide) (by decide)) gRel_Tw gRel_Tw (fun _ q => q) q2980 q2981 q232 q2982 dX11_go_8 hy_tw_in (by omega) (Nat.le_of_ble_eq_true rfl) rfl (Nat.le_of_ble_eq_true rfl) (fun x4 hr5 => ?_)
  refine x_if_ne (μ := mu_tw_go) (pc := 11) (tgt := 20) dX11_go_11 rfl hr5 ?_ ?_
  · refine x_aload_n (μ := mu_tw_go) (pc := 20) 0 dX11_go_20 rfl ?_
    refine x_fgrE (μ := mu_tw_go) (pc := 21) fX11_11 (Or.inr ⟨_, rfl⟩) q2647 (hM3.a11).1 dX11_go_21 hM3.1 ?_
    refine x_iload_n (μ := mu_tw_go) (pc := 24) 1 dX11_go_24 rfl ?_
    refine x_iald (μ := mu_tw_go) (pc := 25) dX11_go_25 (hM3.a11).2.1 (hM3.a11).2.2 (fun hr6 => ?_)
    refine x_if_ge (μ := mu_tw_go) (pc := 26) (tgt := 35) dX11_go_26 rfl hr6 ?_ ?_
    · refine x_aload_n (μ := mu_tw_go) (pc := 35) 0 dX11_go_35 rfl ?_
      refine x_fgi (μ := mu_tw_go) (pc := 36) fX11_13 q2649 dX11_go_36 hM3.1 (fun hr7 => ?_)
      refine x_if_ge (μ := mu_tw_go) (pc := 39) (tgt := 56) dX11_go_39 rfl hr7 ?_ ?_
      · refine x_aload_n (μ := mu_tw_go) (pc := 56) 0 dX11_go_56 rfl ?_
        refine x_iconst (μ := mu_tw_go) (pc := 57) dX11_go_57 ?_
        refine x_callV_mi (μ := mu_tw_go) (pc := 58) (ok_tw_throwing (ω := ω) (l := l) (d := d - 1) (by omega) hM3 (by decide)) gRel_Tw gRel_Tw (fun _ q => q) q2960 q2962 qs78 q232 q2963 dX11_go_58 rfl hM3.1 hy_tw_throwing (by omega) (Nat.le_of_ble_eq_true rfl) rfl (Nat.le_of_ble_eq_true rfl) (fun x8 k10 hr9 => ?_)
        have hM11 : TM (x8.2) h := hM3.tw k10
        exact x_iret (μ := mu_tw_go) (pc := 61) dX11_go_61 rfl rfl (gRel_Tw.1 _) (show g32 (x8.1) from hr9)
      · refine x_aload_n (μ := mu_tw_go) (pc := 42) 0 dX11_go_42 rfl ?_
        refine x_callV_pi (μ := mu_tw_go) (pc := 43) (ok_tw_unsettled (ω := ω) (l := l) (d := d - 1) (by omega) hM3 ) gRel_Tw gRel_Tw (fun _ q => q) q3592 q3594 qs194 q232 q3595 dX11_go_43 rfl hM3.1 hy_tw_unsettled (by omega) (Nat.le_of_ble_eq_true rfl) rfl (Nat.le_of_ble_eq_true rfl) (fun x12 hr13 => ?_)
        refine x_if_gt (μ := mu_tw_go) (pc := 46) (tgt := 56) dX11_go_46 rfl hr13 ?_ ?_
        · refine x_aload_n (μ := mu_tw_go) (pc := 56) 0 dX11_go_56 rfl ?_
          refine x_iconst (μ := mu_tw_go) (pc := 57) dX11_go_57 ?_
          refine x_callV_mi (μ := mu_tw_go) (pc := 58) (ok_tw_throwing (ω := ω) (l := l) (d := d - 1) (by omega) hM3 (by decide)) gRel_Tw gRel_Tw (fun _ q => q) q2960 q2962 qs78 q232 q2963 dX11_go_58 rfl hM3.1 hy_tw_throwing (by omega) (Nat.le_of_ble_eq_true rfl) rfl (Nat.le_of_ble_eq_true rfl) (fun x14 k16 hr15 => ?_)
          have hM17 : TM (x14.2) h := hM3.tw k16
          exact x_iret (μ := mu_tw_go) (pc := 61) dX11_go_61 rfl rfl (gRel_Tw.1 _) (show g32 (x14.1) from hr15)
        · refine x_aload_n (μ := mu_tw_go) (pc := 49) 0 dX11_go_49 rfl ?_
          refine x_callV_pi (μ := mu_tw_go) (pc := 50) (ok_tw_isLikeHead (ω := ω) (l := l) (d := d - 1) (by omega) hM3 ) gRel_Tw gRel_Tw (fun _ q => q) q3608 q3610 qs196 q232 q3611 dX11_go_50 rfl hM3.1 hy_tw_isLikeHead (by omega) (Nat.le_of_ble_eq_true rfl) rfl (Nat.le_of_ble_eq_true rfl) (fun x18 hr19 => ?_)
          refine x_if_ne (μ := mu_tw_go) (pc := 53) (tgt := 62) dX11_go_53 rfl hr19 ?_ ?_
          · refine x_aload_n (μ := mu_tw_go) (pc := 62) 0 dX11_go_62 rfl ?_
            refine x_iload_n (μ := mu_tw_go) (pc := 63) 1 dX11_go_63 rfl ?_
            refine x_fpi (μ := mu_tw_go) (pc := 64) fX11_12 q2648 dX11_go_64 hM3.1 (fun _ q => gTw_wI q) ?_
            refine x_let (fun s20 e21 => ?_)
            have hM22 := TM.eI e21 hM3
            refine x_aload_n (μ := mu_tw_go) (pc := 67) 0 dX11_go_67 rfl ?_
            refine x_aload_n (μ := mu_tw_go) (pc := 68) 0 dX11_go_68 rfl ?_
            refine x_callV_pi (μ := mu_tw_go) (pc := 69) (ok_tw_head (ω := ω) (l := l) (d := d - 1) (by omega) hM22 ) gRel_Tw gRel_Tw (fun _ q => q) q3596 q3598 qs195 q232 q3599 dX11_go_69 rfl hM22.1 hy_tw_head (by omega) (Nat.le_of_ble_eq_true rfl) rfl (Nat.le_of_ble_eq_true rfl) (fun x23 hr24 => ?_)
            refine x_callV_mv (μ := mu_tw_go) (pc := 72) (ok_tw_become (ω := ω) (l := l) (d := d - 1) (by omega) hM22 hr24) gRel_Tw gRel_Tw (fun _ q => q) q3628 q3630 qs201 q232 q3631 dX11_go_72 rfl hM22.1 hy_tw_become (by omega) (Nat.le_of_ble_eq_true rfl) rfl (Nat.le_of_ble_eq_true rfl) (fun x25 k26 => ?_)
            have hM27 : TM x25 h := hM22.tw k26
            refine x_aload_n (μ := mu_tw_go) (pc := 75) 0 dX11_go_75 rfl ?_
            refine x_callV_pi (μ := mu_tw_go) (pc := 76) (ok_tw_head (ω := ω) (l := l) (d := d - 1) (by omega) hM27 ) gRel_Tw gRel_Tw (fun _ q => q) q3596 q3598 qs195 q232 q3599 dX11_go_76 rfl hM27.1 hy_tw_head (by omega) (Nat.le_of_ble_eq_true rfl) rfl (Nat.le_of_ble_eq_true rfl) (fun x28 hr29 => ?_)
            exact x_iret (μ := mu_tw_go) (pc := 79) dX11_go_79 rfl rfl (gRel_Tw.1 _) (show g32 x28 from hr29)
          · refine x_aload_n (μ := mu_tw_go) (pc := 56) 0 dX11_go_56 rfl ?_
            refine x_iconst (μ := mu_tw_go) (pc := 57) dX11_go_57 ?_
            refine x_callV_mi (μ := mu_tw_go) (pc := 58) (ok_tw_throwing (ω := ω) (l := l) (d := d - 1) (by omega) hM3 (by decide)) gRel_Tw gRel_Tw (fun _ q => q) q2960 q2962 qs78 q232 q2963 dX11_go_58 rfl hM3.1 hy_tw_throwing (by omega) (Nat.le_of_ble_eq_true rfl) rfl (Nat.le_of_ble_eq_true rfl) (fun x30 k32 hr31 => ?_)
            have hM33 : TM (x30.2) h := hM3.tw k32
            exact x_iret (μ := mu_tw_go) (pc := 61) dX11_go_61 rfl rfl (gRel_Tw.1 _) (show g32 (x30.1) from hr31)
    · refine x_aload_n (μ := mu_tw_go) (pc := 29) 0 dX11_go_29 rfl ?_
      refine x_iconst (μ := mu_tw_go) (pc := 30) dX11_go_30 ?_
      refine x_callV_mi (μ := mu_tw_go) (pc := 31) (ok_tw_throwing (ω := ω) (l := l) (d := d - 1) (by omega) hM3 (by decide)) gRel_Tw gRel_Tw (fun _ q => q) q2960 q2962 qs78 q232 q2963 dX11_go_31 rfl hM3.1 hy_tw_throwing (by omega) (Nat.le_of_ble_eq_true rfl) rfl (Nat.le_of_ble_eq_true rfl) (fun x34 k36 hr35 => ?_)
      have hM37 : TM (x34.2) h := hM3.tw k36
      exact x_iret (μ := mu_tw_go) (pc := 34) dX11_go_34 rfl rfl (gRel_Tw.1 _) (show g32 (x34.1) from hr35)
  · refine x_aload_n (μ := mu_tw_go) (pc := 14) 0 dX11_go_14 rfl ?_
    refine x_iconst (μ := mu_tw_go) (pc := 15) dX11_go_15 ?_
    refine x_callV_mi (μ := mu_tw_go) (pc := 16) (ok_tw_throwing (ω := ω) (l := l) (d := d - 1) (by omega) hM3 (by decide)) gRel_Tw gRel_Tw (fun _ q => q) q2960 q2962 qs78 q232 q2963 dX11_go_16 rfl hM3.1 hy_tw_throwing (by omega) (Nat.le_of_ble_eq_true rfl) rfl (Nat.le_of_ble_eq_true rfl) (fun x38 k40 hr39 => ?_)
    have hM41 : TM (x38.2) h := hM3.tw k40
    exact x_iret (μ := mu_tw_go) (pc := 19) dX11_go_19 rfl rfl (gRel_Tw.1 _) (show g32 (x38.1) from hr39)
def tw_comeTogether_l45_j93 (N : Nat) (h : Nat) (v2 : Int) (v3 : Int) (v5 : Int) (v6 : Int) (v7 : Int) (Kh : Int → gMem → Option gMem) (K : gMem → Option gMem) (s : gMem) : Option gMem := Kh (w32 (v7 + 1)) s
set_option maxRecDepth 100000 in
theorem okj_tw_comeTogether_l45_j93 {ω : gW} {l : Launch} {d : Nat} {N : Nat} {h : Nat} {σ0 : gMem} {s : gMem} {v2 : Int} {v3 : Int} {v5 : Int} {v6 : Int} {v7 : Int} {Kh : Int → gMem → Option gMem} {K : gMem → Option gMem} (hdp : 5 ≤ d) (hM : TM s h) (hv2 : g32 v2) (hv3 : g32 v3) (hv5 : g32 v5) (hv6 : g32 v6) (hv7 : g32 v7) (hKh : ∀ (v7 : Int) (s : gMem) , g32 v7 → TM s h → GG (fun p : gMem => (.inl none, p)) gTw ω l d mu_tw_comeTogether σ0 45 [(0, vR h), (2, vI v2), (3, vI v3), (5, vI v5), (6, vI v6), (7, vI v7)] [] s (Kh v7 s)) (hK : ∀ (s : gMem) , TM s h → GG (fun p : gMem => (.inl none, p)) gTw ω l d mu_tw_comeTogether σ0 99 [(0, vR h), (2, vI v2), (3, vI v3), (5, vI v5), (6, vI v6)] [] s (K s)) : GG (fun p : gMem => (.inl none, p)) gTw ω l d mu_tw_comeTogether σ0 93 [(0, vR h), (2, vI v2), (3, vI v3), (5, vI v5), (6, vI v6), (7, vI v7)] [] s (tw_comeTogether_l45_j93 N h v2 v3 v5 v6 v7 Kh K s) := by
  unfold tw_comeTogether_l45_j93
  refine x_iincw (μ := mu_tw_comeTogether) (pc := 93) (lv' := [(7, vI (w32 (v7 + 1))), (0, vR h), (2, vI v2), (3, vI v3), (5, vI v5), (6, vI v6)]) 5 dX11_comeTogether_93 rfl (by decide) rfl ?_
  refine x_goto (μ := mu_tw_comeTogether) (pc := 96) (tgt := 45) dX11_comeTogether_96 rfl ?_
  refine x_loc (lv' := [(0, vR h), (2, vI v2), (3, vI v3), (5, vI v5), (6, vI v6), (7, vI (w32 (v7 + 1)))]) [1, 2, 3, 4, 5, 0] rfl ?_
  exact hKh (w32 (v7 + 1)) s (w32_rng _) hM
def tw_comeTogether_l45 (N : Nat) (h : Nat) (v2 : Int) (v3 : Int) (v5 : Int) (v6 : Int) (K : gMem → Option gMem) : Nat → Int → gMem → Option gMem
  | 0, _, _ => none
  | n + 1, v7, s => (tw_linesOf h v5 v3 s).bind (fun x6 => if x6 ≤ v7 then K s else (tw_lineAt h v5 v3 v7 s).bind (fun x8 => (tw_isIn N h v5 v6 v3 x8 v2 s).bind (fun x10 => if x10 = 0 then tw_comeTogether_l45_j93 N h v2 v3 v5 v6 v7  (tw_comeTogether_l45 N h v2 v3 v5 v6 K n) K s else (tw_putLine N h (mI s h 100) x8 s).bind (fun x13 => tw_comeTogether_l45_j93 N h v2 v3 v5 v6 v7  (tw_comeTogether_l45 N h v2 v3 v5 v6 K n) K x13))))
set_option maxRecDepth 100000 in
theorem okl_tw_comeTogether_l45 {ω : gW} {l : Launch} {d : Nat} {N : Nat} {h : Nat} {σ0 : gMem} {v2 : Int} {v3 : Int} {v5 : Int} {v6 : Int} {K : gMem → Option gMem} (hdp : 5 ≤ d) (hv2 : g32 v2) (hv3 : g32 v3) (hv5 : g32 v5) (hv6 : g32 v6) (hK : ∀ (s : gMem) , TM s h → GG (fun p : gMem => (.inl none, p)) gTw ω l d mu_tw_comeTogether σ0 99 [(0, vR h), (2, vI v2), (3, vI v3), (5, vI v5), (6, vI v6)] [] s (K s)) : ∀ (n : Nat) (v7 : Int) (s : gMem) , g32 v7 → TM s h → GG (fun p : gMem => (.inl none, p)) gTw ω l d mu_tw_comeTogether σ0 45 [(0, vR h), (2, vI v2), (3, vI v3), (5, vI v5), (6, vI v6), (7, vI v7)] [] s (tw_comeTogether_l45 N h v2 v3 v5 v6 K n v7 s) := by
  intro n
  induction n with
  | zero => intros; exact x_none
  | succ n ih =>
    intro v7 s hv7 hM
    unfold tw_comeTogether_l45
    refine x_iload (μ := mu_tw_comeTogether) (pc := 45) 5 dX11_comeTogether_45 rfl ?_
    refine x_aload_n (μ := mu_tw_comeTogether) (pc := 47) 0 dX11_comeTogether_47 rfl ?_
    refine x_iload (μ := mu_tw_comeTogether) (pc := 48) 3 dX11_comeTogether_48 rfl ?_
    refine x_iload_n (μ := mu_tw_comeTogether) (pc := 50) 2 dX11_comeTogether_50 rfl ?_
    refine x_callV_pi (μ := mu_tw_comeTogether) (pc := 51) (ok_tw_linesOf (ω := ω) (l := l) (d := d - 1) (by omega) hM hv5 hv3) gRel_Tw gRel_Tw (fun _ q => q) q3245 q3247 qs129 q232 q3248 dX11_comeTogether_51 rfl hM.1 hy_tw_linesOf (by omega) (Nat.le_of_ble_eq_true rfl) rfl (Nat.le_of_ble_eq_true rfl) (fun x6 hr7 => ?_)
    refine x_icmp_ge (μ := mu_tw_comeTogether) (pc := 54) (tgt := 99) dX11_comeTogether_54 rfl hv7 hr7 ?_ ?_
    · refine x_loc (lv' := [(0, vR h), (2, vI v2), (3, vI v3), (5, vI v5), (6, vI v6)]) [0, 1, 2, 3, 4] rfl ?_
      exact hK s hM
    · refine x_aload_n (μ := mu_tw_comeTogether) (pc := 57) 0 dX11_comeTogether_57 rfl ?_
      refine x_iload (μ := mu_tw_comeTogether) (pc := 58) 3 dX11_comeTogether_58 rfl ?_
      refine x_iload_n (μ := mu_tw_comeTogether) (pc := 60) 2 dX11_comeTogether_60 rfl ?_
      refine x_iload (μ := mu_tw_comeTogether) (pc := 61) 5 dX11_comeTogether_61 rfl ?_
      refine x_callV_pi (μ := mu_tw_comeTogether) (pc := 63) (ok_tw_lineAt (ω := ω) (l := l) (d := d - 1) (by omega) hM hv5 hv3 hv7) gRel_Tw gRel_Tw (fun _ q => q) q3148 q3150 qs111 q232 q3151 dX11_comeTogether_63 rfl hM.1 hy_tw_lineAt (by omega) (Nat.le_of_ble_eq_true rfl) rfl (Nat.le_of_ble_eq_true rfl) (fun x8 hr9 => ?_)
      refine x_istore (μ := mu_tw_comeTogether) (pc := 66) (lv' := [(8, vI x8), (0, vR h), (2, vI v2), (3, vI v3), (5, vI v5), (6, vI v6), (7, vI v7)]) dX11_comeTogether_66 (by decide) rfl ?_
      refine x_aload_n (μ := mu_tw_comeTogether) (pc := 68) 1 dX11_comeTogether_68 rfl ?_
      refine x_iload (μ := mu_tw_comeTogether) (pc := 69) 4 dX11_comeTogether_69 rfl ?_
      refine x_iload (μ := mu_tw_comeTogether) (pc := 71) 5 dX11_comeTogether_71 rfl ?_
      refine x_iload_n (μ := mu_tw_comeTogether) (pc := 73) 3 dX11_comeTogether_73 rfl ?_
      refine x_iload (μ := mu_tw_comeTogether) (pc := 74) 0 dX11_comeTogether_74 rfl ?_
      refine x_iload_n (μ := mu_tw_comeTogether) (pc := 76) 2 dX11_comeTogether_76 rfl ?_
      refine x_callV_pi (μ := mu_tw_comeTogether) (pc := 77) (ok_tw_isIn (ω := ω) (l := l) (d := d - 1) (by omega) hM hv5 hv6 hv3 hr9 hv2) gRel_Tw gRel_Tw (fun _ q => q) q3673 q3675 qs209 q232 q3676 dX11_comeTogether_77 rfl hM.1 hy_tw_isIn (by omega) (Nat.le_of_ble_eq_true rfl) rfl (Nat.le_of_ble_eq_true rfl) (fun x10 hr11 => ?_)
      refine x_if_eq (μ := mu_tw_comeTogether) (pc := 80) (tgt := 93) dX11_comeTogether_80 rfl hr11 ?_ ?_
      · refine x_loc (lv' := [(0, vR h), (2, vI v2), (3, vI v3), (5, vI v5), (6, vI v6), (7, vI v7)]) [1, 2, 3, 4, 5, 6] rfl ?_
        exact okj_tw_comeTogether_l45_j93 hdp hM hv2 hv3 hv5 hv6 hv7 ih hK
      · refine x_aload_n (μ := mu_tw_comeTogether) (pc := 83) 1 dX11_comeTogether_83 rfl ?_
        refine x_aload_n (μ := mu_tw_comeTogether) (pc := 84) 1 dX11_comeTogether_84 rfl ?_
        refine x_fgi (μ := mu_tw_comeTogether) (pc := 85) fX11_100 q2736 dX11_comeTogether_85 hM.1 (fun hr12 => ?_)
        refine x_iload (μ := mu_tw_comeTogether) (pc := 88) 0 dX11_comeTogether_88 rfl ?_
        refine x_callV_mv (μ := mu_tw_comeTogether) (pc := 90) (ok_tw_putLine (ω := ω) (l := l) (d := d - 1) (by omega) hM hr12 hr9) gRel_Tw gRel_Tw (fun _ q => q) q3685 q3687 qs212 q232 q3688 dX11_comeTogether_90 rfl hM.1 hy_tw_putLine (by omega) (Nat.le_of_ble_eq_true rfl) rfl (Nat.le_of_ble_eq_true rfl) (fun x13 k14 => ?_)
        have hM15 : TM x13 h := hM.tw k14
        refine x_loc (lv' := [(0, vR h), (2, vI v2), (3, vI v3), (5, vI v5), (6, vI v6), (7, vI v7)]) [1, 2, 3, 4, 5, 6] rfl ?_
        exact okj_tw_comeTogether_l45_j93 hdp hM15 hv2 hv3 hv5 hv6 hv7 ih hK
def tw_comeTogether_l102_j215 (N : Nat) (h : Nat) (v2 : Int) (v3 : Int) (v5 : Int) (v6 : Int) (v7 : Int) (Kh : Int → gMem → Option gMem) (K : gMem → Option gMem) (s : gMem) : Option gMem := Kh (w32 (v7 + 1)) s
set_option maxRecDepth 100000 in
theorem okj_tw_comeTogether_l102_j215 {ω : gW} {l : Launch} {d : Nat} {N : Nat} {h : Nat} {σ0 : gMem} {s : gMem} {v2 : Int} {v3 : Int} {v5 : Int} {v6 : Int} {v7 : Int} {Kh : Int → gMem → Option gMem} {K : gMem → Option gMem} (hdp : 5 ≤ d) (hM : TM s h) (hv2 : g32 v2) (hv3 : g32 v3) (hv5 : g32 v5) (hv6 : g32 v6) (hv7 : g32 v7) (hKh : ∀ (v7 : Int) (s : gMem) , g32 v7 → TM s h → GG (fun p : gMem => (.inl none, p)) gTw ω l d mu_tw_comeTogether σ0 102 [(0, vR h), (2, vI v2), (3, vI v3), (5, vI v5), (6, vI v6), (7, vI v7)] [] s (Kh v7 s)) (hK : ∀ (s : gMem) , TM s h → GG (fun p : gMem => (.inl none, p)) gTw ω l d mu_tw_comeTogether σ0 221 [] [] s (K s)) : GG (fun p : gMem => (.inl none, p)) gTw ω l d mu_tw_comeTogether σ0 215 [(0, vR h), (2, vI v2), (3, vI v3), (5, vI v5), (6, vI v6), (7, vI v7)] [] s (tw_comeTogether_l102_j215 N h v2 v3 v5 v6 v7 Kh K s) := by
  unfold tw_comeTogether_l102_j215
  refine x_iincw (μ := mu_tw_comeTogether) (pc := 215) (lv' := [(7, vI (w32 (v7 + 1))), (0, vR h), (2, vI v2), (3, vI v3), (5, vI v5), (6, vI v6)]) 5 dX11_comeTogether_215 rfl (by decide) rfl ?_
  refine x_goto (μ := mu_tw_comeTogether) (pc := 218) (tgt := 102) dX11_comeTogether_218 rfl ?_
  refine x_loc (lv' := [(0, vR h), (2, vI v2), (3, vI v3), (5, vI v5), (6, vI v6), (7, vI (w32 (v7 + 1)))]) [1, 2, 3, 4, 5, 0] rfl ?_
  exact hKh (w32 (v7 + 1)) s (w32_rng _) hM
def tw_comeTogether_l158 (N : Nat) (h : Nat) (v2 : Int) (v3 : Int) (v5 : Int) (v6 : Int) (v7 : Int) (v8 : Int) (K : Int → gMem → Option gMem) : Nat → Int → gMem → Option gMem
  | 0, _, _ => none
  | n + 1, v9, s => if v9 < 0 then K v9 s else (tw_lineAt h v6 v3 v9 s).bind (fun x26 => (tw_lineOf N h x26 s).bind (fun x28 => if 0 ≤ x28 then K v9 s else tw_comeTogether_l158 N h v2 v3 v5 v6 v7 v8 K n (w32 (v9 + (-1))) s))
set_option maxRecDepth 100000 in
theorem okl_tw_comeTogether_l158 {ω : gW} {l : Launch} {d : Nat} {N : Nat} {h : Nat} {σ0 : gMem} {v2 : Int} {v3 : Int} {v5 : Int} {v6 : Int} {v7 : Int} {v8 : Int} {K : Int → gMem → Option gMem} (hdp : 5 ≤ d) (hv2 : g32 v2) (hv3 : g32 v3) (hv5 : g32 v5) (hv6 : g32 v6) (hv7 : g32 v7) (hv8 : g32 v8) (hK : ∀ (v9 : Int) (s : gMem) , g32 v9 → TM s h → GG (fun p : gMem => (.inl none, p)) gTw ω l d mu_tw_comeTogether σ0 185 [(0, vR h), (2, vI v2), (3, vI v3), (5, vI v5), (6, vI v6), (7, vI v7), (8, vI v8), (9, vI v9)] [] s (K v9 s)) : ∀ (n : Nat) (v9 : Int) (s : gMem) , g32 v9 → TM s h → GG (fun p : gMem => (.inl none, p)) gTw ω l d mu_tw_comeTogether σ0 158 [(0, vR h), (2, vI v2), (3, vI v3), (5, vI v5), (6, vI v6), (7, vI v7), (8, vI v8), (9, vI v9)] [] s (tw_comeTogether_l158 N h v2 v3 v5 v6 v7 v8 K n v9 s) := by
  intro n
  induction n with
  | zero => intros; exact x_none
  | succ n ih =>
    intro v9 s hv9 hM
    unfold tw_comeTogether_l158
    refine x_iload (μ := mu_tw_comeTogether) (pc := 158) 7 dX11_comeTogether_158 rfl ?_
    refine x_if_lt (μ := mu_tw_comeTogether) (pc := 160) (tgt := 185) dX11_comeTogether_160 rfl hv9 ?_ ?_
    · exact hK v9 s hv9 hM
    · refine x_aload_n (μ := mu_tw_comeTogether) (pc := 163) 0 dX11_comeTogether_163 rfl ?_
      refine x_aload_n (μ := mu_tw_comeTogether) (pc := 164) 0 dX11_comeTogether_164 rfl ?_
      refine x_iload (μ := mu_tw_comeTogether) (pc := 165) 4 dX11_comeTogether_165 rfl ?_
      refine x_iload_n (μ := mu_tw_comeTogether) (pc := 167) 2 dX11_comeTogether_167 rfl ?_
      refine x_iload (μ := mu_tw_comeTogether) (pc := 168) 7 dX11_comeTogether_168 rfl ?_
      refine x_callV_pi (μ := mu_tw_comeTogether) (pc := 170) (ok_tw_lineAt (ω := ω) (l := l) (d := d - 1) (by omega) hM hv6 hv3 hv9) gRel_Tw gRel_Tw (fun _ q => q) q3148 q3150 qs111 q232 q3151 dX11_comeTogether_170 rfl hM.1 hy_tw_lineAt (by omega) (Nat.le_of_ble_eq_true rfl) rfl (Nat.le_of_ble_eq_true rfl) (fun x26 hr27 => ?_)
      refine x_callV_pi (μ := mu_tw_comeTogether) (pc := 173) (ok_tw_lineOf (ω := ω) (l := l) (d := d - 1) (by omega) hM hr27) gRel_Tw gRel_Tw (fun _ q => q) q3689 q3691 qs213 q232 q3692 dX11_comeTogether_173 rfl hM.1 hy_tw_lineOf (by omega) (Nat.le_of_ble_eq_true rfl) rfl (Nat.le_of_ble_eq_true rfl) (fun x28 hr29 => ?_)
      refine x_if_ge (μ := mu_tw_comeTogether) (pc := 176) (tgt := 185) dX11_comeTogether_176 rfl hr29 ?_ ?_
      · exact hK v9 s hv9 hM
      · refine x_iincw (μ := mu_tw_comeTogether) (pc := 179) (lv' := [(9, vI (w32 (v9 + (-1)))), (0, vR h), (2, vI v2), (3, vI v3), (5, vI v5), (6, vI v6), (7, vI v7), (8, vI v8)]) 7 dX11_comeTogether_179 rfl (by decide) rfl ?_
        refine x_goto (μ := mu_tw_comeTogether) (pc := 182) (tgt := 158) dX11_comeTogether_182 rfl ?_
        refine x_loc (lv' := [(0, vR h), (2, vI v2), (3, vI v3), (5, vI v5), (6, vI v6), (7, vI v7), (8, vI v8), (9, vI (w32 (v9 + (-1))))]) [1, 2, 3, 4, 5, 6, 7, 0] rfl ?_
        exact ih (w32 (v9 + (-1))) s (w32_rng _) hM
def tw_comeTogether_l102_j210 (N : Nat) (h : Nat) (v2 : Int) (v3 : Int) (v5 : Int) (v6 : Int) (v7 : Int) (v8 : Int) (t0 : Int) (Kh : Int → gMem → Option gMem) (K : gMem → Option gMem) (s : gMem) : Option gMem := (tw_putLine N h t0 v8 s).bind (fun x37 => tw_comeTogether_l102_j215 N h v2 v3 v5 v6 v7  (Kh) K x37)
set_option maxRecDepth 100000 in
theorem okj_tw_comeTogether_l102_j210 {ω : gW} {l : Launch} {d : Nat} {N : Nat} {h : Nat} {σ0 : gMem} {s : gMem} {v2 : Int} {v3 : Int} {v5 : Int} {v6 : Int} {v7 : Int} {v8 : Int} {t0 : Int} {Kh : Int → gMem → Option gMem} {K : gMem → Option gMem} (hdp : 5 ≤ d) (hM : TM s h) (hv2 : g32 v2) (hv3 : g32 v3) (hv5 : g32 v5) (hv6 : g32 v6) (hv7 : g32 v7) (hv8 : g32 v8) (ht0 : g32 t0) (hKh : ∀ (v7 : Int) (s : gMem) , g32 v7 → TM s h → GG (fun p : gMem => (.inl none, p)) gTw ω l d mu_tw_comeTogether σ0 102 [(0, vR h), (2, vI v2), (3, vI v3), (5, vI v5), (6, vI v6), (7, vI v7)] [] s (Kh v7 s)) (hK : ∀ (s : gMem) , TM s h → GG (fun p : gMem => (.inl none, p)) gTw ω l d mu_tw_comeTogether σ0 221 [] [] s (K s)) : GG (fun p : gMem => (.inl none, p)) gTw ω l d mu_tw_comeTogether σ0 210 [(0, vR h), (2, vI v2), (3, vI v3), (5, vI v5), (6, vI v6), (7, vI v7), (8, vI v8)] [vI t0, vR h] s (tw_comeTogether_l102_j210 N h v2 v3 v5 v6 v7 v8 t0 Kh K s) := by
  unfold tw_comeTogether_l102_j210
  refine x_iload (μ := mu_tw_comeTogether) (pc := 210) 6 dX11_comeTogether_210 rfl ?_
  refine x_callV_mv (μ := mu_tw_comeTogether) (pc := 212) (ok_tw_putLine (ω := ω) (l := l) (d := d - 1) (by omega) hM ht0 hv8) gRel_Tw gRel_Tw (fun _ q => q) q3685 q3687 qs212 q232 q3688 dX11_comeTogether_212 rfl hM.1 hy_tw_putLine (by omega) (Nat.le_of_ble_eq_true rfl) rfl (Nat.le_of_ble_eq_true rfl) (fun x37 k38 => ?_)
  have hM39 : TM x37 h := hM.tw k38
  refine x_loc (lv' := [(0, vR h), (2, vI v2), (3, vI v3), (5, vI v5), (6, vI v6), (7, vI v7)]) [0, 1, 2, 3, 4, 5] rfl ?_
  exact okj_tw_comeTogether_l102_j215 hdp hM39 hv2 hv3 hv5 hv6 hv7 hKh hK
def tw_comeTogether_l102_j185 (N : Nat) (h : Nat) (v2 : Int) (v3 : Int) (v5 : Int) (v6 : Int) (v7 : Int) (v8 : Int) (v9 : Int) (Kh : Int → gMem → Option gMem) (K : gMem → Option gMem) (s : gMem) : Option gMem := if 0 ≤ v9 then (tw_lineAt h v6 v3 v9 s).bind (fun x33 => (tw_lineOf N h x33 s).bind (fun x35 => tw_comeTogether_l102_j210 N h v2 v3 v5 v6 v7 v8 (w32 (x35 + 1)) (Kh) K s)) else tw_comeTogether_l102_j210 N h v2 v3 v5 v6 v7 v8 0 (Kh) K s
set_option maxRecDepth 100000 in
theorem okj_tw_comeTogether_l102_j185 {ω : gW} {l : Launch} {d : Nat} {N : Nat} {h : Nat} {σ0 : gMem} {s : gMem} {v2 : Int} {v3 : Int} {v5 : Int} {v6 : Int} {v7 : Int} {v8 : Int} {v9 : Int} {Kh : Int → gMem → Option gMem} {K : gMem → Option gMem} (hdp : 5 ≤ d) (hM : TM s h) (hv2 : g32 v2) (hv3 : g32 v3) (hv5 : g32 v5) (hv6 : g32 v6) (hv7 : g32 v7) (hv8 : g32 v8) (hv9 : g32 v9) (hKh : ∀ (v7 : Int) (s : gMem) , g32 v7 → TM s h → GG (fun p : gMem => (.inl none, p)) gTw ω l d mu_tw_comeTogether σ0 102 [(0, vR h), (2, vI v2), (3, vI v3), (5, vI v5), (6, vI v6), (7, vI v7)] [] s (Kh v7 s)) (hK : ∀ (s : gMem) , TM s h → GG (fun p : gMem => (.inl none, p)) gTw ω l d mu_tw_comeTogether σ0 221 [] [] s (K s)) : GG (fun p : gMem => (.inl none, p)) gTw ω l d mu_tw_comeTogether σ0 185 [(0, vR h), (2, vI v2), (3, vI v3), (5, vI v5), (6, vI v6), (7, vI v7), (8, vI v8), (9, vI v9)] [] s (tw_comeTogether_l102_j185 N h v2 v3 v5 v6 v7 v8 v9 Kh K s) := by
  unfold tw_comeTogether_l102_j185
  refine x_aload_n (μ := mu_tw_comeTogether) (pc := 185) 0 dX11_comeTogether_185 rfl ?_
  refine x_iload (μ := mu_tw_comeTogether) (pc := 186) 7 dX11_comeTogether_186 rfl ?_
  refine x_if_ge (μ := mu_tw_comeTogether) (pc := 188) (tgt := 195) dX11_comeTogether_188 rfl hv9 ?_ ?_
  · refine x_aload_n (μ := mu_tw_comeTogether) (pc := 195) 0 dX11_comeTogether_195 rfl ?_
    refine x_aload_n (μ := mu_tw_comeTogether) (pc := 196) 0 dX11_comeTogether_196 rfl ?_
    refine x_iload (μ := mu_tw_comeTogether) (pc := 197) 4 dX11_comeTogether_197 rfl ?_
    refine x_iload_n (μ := mu_tw_comeTogether) (pc := 199) 2 dX11_comeTogether_199 rfl ?_
    refine x_iload (μ := mu_tw_comeTogether) (pc := 200) 7 dX11_comeTogether_200 rfl ?_
    refine x_callV_pi (μ := mu_tw_comeTogether) (pc := 202) (ok_tw_lineAt (ω := ω) (l := l) (d := d - 1) (by omega) hM hv6 hv3 hv9) gRel_Tw gRel_Tw (fun _ q => q) q3148 q3150 qs111 q232 q3151 dX11_comeTogether_202 rfl hM.1 hy_tw_lineAt (by omega) (Nat.le_of_ble_eq_true rfl) rfl (Nat.le_of_ble_eq_true rfl) (fun x33 hr34 => ?_)
    refine x_callV_pi (μ := mu_tw_comeTogether) (pc := 205) (ok_tw_lineOf (ω := ω) (l := l) (d := d - 1) (by omega) hM hr34) gRel_Tw gRel_Tw (fun _ q => q) q3689 q3691 qs213 q232 q3692 dX11_comeTogether_205 rfl hM.1 hy_tw_lineOf (by omega) (Nat.le_of_ble_eq_true rfl) rfl (Nat.le_of_ble_eq_true rfl) (fun x35 hr36 => ?_)
    refine x_iconst (μ := mu_tw_comeTogether) (pc := 208) dX11_comeTogether_208 ?_
    refine x_iadd (μ := mu_tw_comeTogether) (pc := 209) dX11_comeTogether_209 ?_
    refine x_w1 ?_
    refine x_loc (lv' := [(0, vR h), (2, vI v2), (3, vI v3), (5, vI v5), (6, vI v6), (7, vI v7), (8, vI v8)]) [0, 1, 2, 3, 4, 5, 6] rfl ?_
    exact okj_tw_comeTogether_l102_j210 hdp hM hv2 hv3 hv5 hv6 hv7 hv8 (w32_rng _) hKh hK
  · refine x_iconst (μ := mu_tw_comeTogether) (pc := 191) dX11_comeTogether_191 ?_
    refine x_goto (μ := mu_tw_comeTogether) (pc := 192) (tgt := 210) dX11_comeTogether_192 rfl ?_
    refine x_loc (lv' := [(0, vR h), (2, vI v2), (3, vI v3), (5, vI v5), (6, vI v6), (7, vI v7), (8, vI v8)]) [0, 1, 2, 3, 4, 5, 6] rfl ?_
    exact okj_tw_comeTogether_l102_j210 hdp hM hv2 hv3 hv5 hv6 hv7 hv8 (by decide) hKh hK
def tw_comeTogether_l102 (N : Nat) (h : Nat) (v2 : Int) (v3 : Int) (v5 : Int) (v6 : Int) (K : gMem → Option gMem) : Nat → Int → gMem → Option gMem
  | 0, _, _ => none
  | n + 1, v7, s => (tw_linesOf h v6 v3 s).bind (fun x18 => if x18 ≤ v7 then K s else (tw_lineAt h v6 v3 v7 s).bind (fun x20 => (tw_placeOf N h v5 v3 x20 s).bind (fun x22 => if 0 ≤ x22 then tw_comeTogether_l102_j215 N h v2 v3 v5 v6 v7  (tw_comeTogether_l102 N h v2 v3 v5 v6 K n) K s else (tw_isIn N h v6 v5 v3 x20 v2 s).bind (fun x24 => if x24 = 0 then tw_comeTogether_l102_j215 N h v2 v3 v5 v6 v7  (tw_comeTogether_l102 N h v2 v3 v5 v6 K n) K s else tw_comeTogether_l158 N h v2 v3 v5 v6 v7 x20 (fun y30 s31 => tw_comeTogether_l102_j185 N h v2 v3 v5 v6 v7 x20 y30  (tw_comeTogether_l102 N h v2 v3 v5 v6 K n) K s31) N (w32 (v7 - 1)) s))))
set_option maxRecDepth 100000 in
theorem okl_tw_comeTogether_l102 {ω : gW} {l : Launch} {d : Nat} {N : Nat} {h : Nat} {σ0 : gMem} {v2 : Int} {v3 : Int} {v5 : Int} {v6 : Int} {K : gMem → Option gMem} (hdp : 5 ≤ d) (hv2 : g32 v2) (hv3 : g32 v3) (hv5 : g32 v5) (hv6 : g32 v6) (hK : ∀ (s : gMem) , TM s h → GG (fun p : gMem => (.inl none, p)) gTw ω l d mu_tw_comeTogether σ0 221 [] [] s (K s)) : ∀ (n : Nat) (v7 : Int) (s : gMem) , g32 v7 → TM s h → GG (fun p : gMem => (.inl none, p)) gTw ω l d mu_tw_comeTogether σ0 102 [(0, vR h), (2, vI v2), (3, vI v3), (5, vI v5), (6, vI v6), (7, vI v7)] [] s (tw_comeTogether_l102 N h v2 v3 v5 v6 K n v7 s) := by
  intro n
  induction n with
  | zero => intros; exact x_none
  | succ n ih =>
    intro v7 s hv7 hM
    unfold tw_comeTogether_l102
    refine x_iload (μ := mu_tw_comeTogether) (pc := 102) 5 dX11_comeTogether_102 rfl ?_
    refine x_aload_n (μ := mu_tw_comeTogether) (pc := 104) 0 dX11_comeTogether_104 rfl ?_
    refine x_iload (μ := mu_tw_comeTogether) (pc := 105) 4 dX11_comeTogether_105 rfl ?_
    refine x_iload_n (μ := mu_tw_comeTogether) (pc := 107) 2 dX11_comeTogether_107 rfl ?_
    refine x_callV_pi (μ := mu_tw_comeTogether) (pc := 108) (ok_tw_linesOf (ω := ω) (l := l) (d := d - 1) (by omega) hM hv6 hv3) gRel_Tw gRel_Tw (fun _ q => q) q3245 q3247 qs129 q232 q3248 dX11_comeTogether_108 rfl hM.1 hy_tw_linesOf (by omega) (Nat.le_of_ble_eq_true rfl) rfl (Nat.le_of_ble_eq_true rfl) (fun x18 hr19 => ?_)
    refine x_icmp_ge (μ := mu_tw_comeTogether) (pc := 111) (tgt := 221) dX11_comeTogether_111 rfl hv7 hr19 ?_ ?_
    · refine x_loc (lv' := []) [] rfl ?_
      exact hK s hM
    · refine x_aload_n (μ := mu_tw_comeTogether) (pc := 114) 0 dX11_comeTogether_114 rfl ?_
      refine x_iload (μ := mu_tw_comeTogether) (pc := 115) 4 dX11_comeTogether_115 rfl ?_
      refine x_iload_n (μ := mu_tw_comeTogether) (pc := 117) 2 dX11_comeTogether_117 rfl ?_
      refine x_iload (μ := mu_tw_comeTogether) (pc := 118) 5 dX11_comeTogether_118 rfl ?_
      refine x_callV_pi (μ := mu_tw_comeTogether) (pc := 120) (ok_tw_lineAt (ω := ω) (l := l) (d := d - 1) (by omega) hM hv6 hv3 hv7) gRel_Tw gRel_Tw (fun _ q => q) q3148 q3150 qs111 q232 q3151 dX11_comeTogether_120 rfl hM.1 hy_tw_lineAt (by omega) (Nat.le_of_ble_eq_true rfl) rfl (Nat.le_of_ble_eq_true rfl) (fun x20 hr21 => ?_)
      refine x_istore (μ := mu_tw_comeTogether) (pc := 123) (lv' := [(8, vI x20), (0, vR h), (2, vI v2), (3, vI v3), (5, vI v5), (6, vI v6), (7, vI v7)]) dX11_comeTogether_123 (by decide) rfl ?_
      refine x_aload_n (μ := mu_tw_comeTogether) (pc := 125) 1 dX11_comeTogether_125 rfl ?_
      refine x_iload (μ := mu_tw_comeTogether) (pc := 126) 4 dX11_comeTogether_126 rfl ?_
      refine x_iload_n (μ := mu_tw_comeTogether) (pc := 128) 3 dX11_comeTogether_128 rfl ?_
      refine x_iload (μ := mu_tw_comeTogether) (pc := 129) 0 dX11_comeTogether_129 rfl ?_
      refine x_callV_pi (μ := mu_tw_comeTogether) (pc := 131) (ok_tw_placeOf (ω := ω) (l := l) (d := d - 1) (by omega) hM hv5 hv3 hr21) gRel_Tw gRel_Tw (fun _ q => q) q3241 q3243 qs128 q232 q3244 dX11_comeTogether_131 rfl hM.1 hy_tw_placeOf (by omega) (Nat.le_of_ble_eq_true rfl) rfl (Nat.le_of_ble_eq_true rfl) (fun x22 hr23 => ?_)
      refine x_if_ge (μ := mu_tw_comeTogether) (pc := 134) (tgt := 215) dX11_comeTogether_134 rfl hr23 ?_ ?_
      · refine x_loc (lv' := [(0, vR h), (2, vI v2), (3, vI v3), (5, vI v5), (6, vI v6), (7, vI v7)]) [1, 2, 3, 4, 5, 6] rfl ?_
        exact okj_tw_comeTogether_l102_j215 hdp hM hv2 hv3 hv5 hv6 hv7 ih hK
      · refine x_aload_n (μ := mu_tw_comeTogether) (pc := 137) 1 dX11_comeTogether_137 rfl ?_
        refine x_iload (μ := mu_tw_comeTogether) (pc := 138) 5 dX11_comeTogether_138 rfl ?_
        refine x_iload (μ := mu_tw_comeTogether) (pc := 140) 4 dX11_comeTogether_140 rfl ?_
        refine x_iload_n (μ := mu_tw_comeTogether) (pc := 142) 3 dX11_comeTogether_142 rfl ?_
        refine x_iload (μ := mu_tw_comeTogether) (pc := 143) 0 dX11_comeTogether_143 rfl ?_
        refine x_iload_n (μ := mu_tw_comeTogether) (pc := 145) 2 dX11_comeTogether_145 rfl ?_
        refine x_callV_pi (μ := mu_tw_comeTogether) (pc := 146) (ok_tw_isIn (ω := ω) (l := l) (d := d - 1) (by omega) hM hv6 hv5 hv3 hr21 hv2) gRel_Tw gRel_Tw (fun _ q => q) q3673 q3675 qs209 q232 q3676 dX11_comeTogether_146 rfl hM.1 hy_tw_isIn (by omega) (Nat.le_of_ble_eq_true rfl) rfl (Nat.le_of_ble_eq_true rfl) (fun x24 hr25 => ?_)
        refine x_if_eq (μ := mu_tw_comeTogether) (pc := 149) (tgt := 215) dX11_comeTogether_149 rfl hr25 ?_ ?_
        · refine x_loc (lv' := [(0, vR h), (2, vI v2), (3, vI v3), (5, vI v5), (6, vI v6), (7, vI v7)]) [1, 2, 3, 4, 5, 6] rfl ?_
          exact okj_tw_comeTogether_l102_j215 hdp hM hv2 hv3 hv5 hv6 hv7 ih hK
        · refine x_iload (μ := mu_tw_comeTogether) (pc := 152) 6 dX11_comeTogether_152 rfl ?_
          refine x_iconst (μ := mu_tw_comeTogether) (pc := 154) dX11_comeTogether_154 ?_
          refine x_isub (μ := mu_tw_comeTogether) (pc := 155) dX11_comeTogether_155 ?_
          refine x_w1 ?_
          refine x_istore (μ := mu_tw_comeTogether) (pc := 156) (lv' := [(9, vI (w32 (v7 - 1))), (8, vI x20), (0, vR h), (2, vI v2), (3, vI v3), (5, vI v5), (6, vI v6), (7, vI v7)]) dX11_comeTogether_156 (by decide) rfl ?_
          refine x_loc (lv' := [(0, vR h), (2, vI v2), (3, vI v3), (5, vI v5), (6, vI v6), (7, vI v7), (8, vI x20), (9, vI (w32 (v7 - 1)))]) [2, 3, 4, 5, 6, 7, 1, 0] rfl ?_
          refine okl_tw_comeTogether_l158 hdp hv2 hv3 hv5 hv6 hv7 hr21 (fun y30 s31 hy30 hM32 => ?_) N (w32 (v7 - 1)) s (w32_rng _) hM
          exact okj_tw_comeTogether_l102_j185 hdp hM32 hv2 hv3 hv5 hv6 hv7 hr21 hy30 ih hK
def tw_comeTogether_j35 (N : Nat) (h : Nat) (v2 : Int) (v3 : Int) (v5 : Int) (t0 : Int) (s : gMem) : Option gMem := gLet (wI s h 100 0) (fun s3 => tw_comeTogether_l45 N h v2 v3 v5 t0 (fun s16 => tw_comeTogether_l102 N h v2 v3 v5 t0 (fun s40 => some s40) N 0 s16) N 0 s3)
set_option maxRecDepth 100000 in
theorem okj_tw_comeTogether_j35 {ω : gW} {l : Launch} {d : Nat} {N : Nat} {h : Nat} {σ0 : gMem} {s : gMem} {v2 : Int} {v3 : Int} {v5 : Int} {t0 : Int} (hdp : 5 ≤ d) (hM : TM s h) (hv2 : g32 v2) (hv3 : g32 v3) (hv5 : g32 v5) (ht0 : g32 t0) : GG (fun p : gMem => (.inl none, p)) gTw ω l d mu_tw_comeTogether σ0 35 [(0, vR h), (2, vI v2), (3, vI v3), (5, vI v5)] [vI t0] s (tw_comeTogether_j35 N h v2 v3 v5 t0 s) := by
  unfold tw_comeTogether_j35
  refine x_istore (μ := mu_tw_comeTogether) (pc := 35) (lv' := [(6, vI t0), (0, vR h), (2, vI v2), (3, vI v3), (5, vI v5)]) dX11_comeTogether_35 (by decide) rfl ?_
  refine x_aload_n (μ := mu_tw_comeTogether) (pc := 37) 1 dX11_comeTogether_37 rfl ?_
  refine x_iconst (μ := mu_tw_comeTogether) (pc := 38) dX11_comeTogether_38 ?_
  refine x_fpi (μ := mu_tw_comeTogether) (pc := 39) fX11_100 q2736 dX11_comeTogether_39 hM.1 (fun _ q => gTw_wI q) ?_
  refine x_let (fun s3 e4 => ?_)
  have hM5 := TM.eI e4 hM
  refine x_iconst (μ := mu_tw_comeTogether) (pc := 42) dX11_comeTogether_42 ?_
  refine x_istore (μ := mu_tw_comeTogether) (pc := 43) (lv' := [(7, vI 0), (6, vI t0), (0, vR h), (2, vI v2), (3, vI v3), (5, vI v5)]) dX11_comeTogether_43 (by decide) rfl ?_
  refine x_loc (lv' := [(0, vR h), (2, vI v2), (3, vI v3), (5, vI v5), (6, vI t0), (7, vI 0)]) [2, 3, 4, 5, 1, 0] rfl ?_
  refine okl_tw_comeTogether_l45 hdp hv2 hv3 hv5 ht0 (fun s16 hM17 => ?_) N 0 s3 (by decide) hM5
  refine x_iconst (μ := mu_tw_comeTogether) (pc := 99) dX11_comeTogether_99 ?_
  refine x_istore (μ := mu_tw_comeTogether) (pc := 100) (lv' := [(7, vI 0), (0, vR h), (2, vI v2), (3, vI v3), (5, vI v5), (6, vI t0)]) dX11_comeTogether_100 (by decide) rfl ?_
  refine x_loc (lv' := [(0, vR h), (2, vI v2), (3, vI v3), (5, vI v5), (6, vI t0), (7, vI 0)]) [1, 2, 3, 4, 5, 0] rfl ?_
  refine okl_tw_comeTogether_l102 hdp hv2 hv3 hv5 ht0 (fun s40 hM41 => ?_) N 0 s16 (by decide) hM17
  exact x_vret (μ := mu_tw_comeTogether) (pc := 221) (a1 := s40) dX11_comeTogether_221 rfl rfl (gRel_Tw.1 _) trivial
def tw_comeTogether_j22 (N : Nat) (h : Nat) (v1 : Int) (v2 : Int) (v3 : Int) (v4 : Int) (t0 : Int) (s : gMem) : Option gMem := if v4 = 0 then tw_comeTogether_j35 N h v2 v3 t0 v1 s else tw_comeTogether_j35 N h v2 v3 t0 40 s
set_option maxRecDepth 100000 in
theorem okj_tw_comeTogether_j22 {ω : gW} {l : Launch} {d : Nat} {N : Nat} {h : Nat} {σ0 : gMem} {s : gMem} {v1 : Int} {v2 : Int} {v3 : Int} {v4 : Int} {t0 : Int} (hdp : 5 ≤ d) (hM : TM s h) (hv1 : g32 v1) (hv2 : g32 v2) (hv3 : g32 v3) (hv4 : g32 v4) (ht0 : g32 t0) : GG (fun p : gMem => (.inl none, p)) gTw ω l d mu_tw_comeTogether σ0 22 [(0, vR h), (1, vI v1), (2, vI v2), (3, vI v3), (4, vI v4)] [vI t0] s (tw_comeTogether_j22 N h v1 v2 v3 v4 t0 s) := by
  unfold tw_comeTogether_j22
  refine x_istore (μ := mu_tw_comeTogether) (pc := 22) (lv' := [(5, vI t0), (0, vR h), (1, vI v1), (2, vI v2), (3, vI v3), (4, vI v4)]) dX11_comeTogether_22 (by decide) rfl ?_
  refine x_iload (μ := mu_tw_comeTogether) (pc := 24) 5 dX11_comeTogether_24 rfl ?_
  refine x_if_eq (μ := mu_tw_comeTogether) (pc := 26) (tgt := 34) dX11_comeTogether_26 rfl hv4 ?_ ?_
  · refine x_iload_n (μ := mu_tw_comeTogether) (pc := 34) 2 dX11_comeTogether_34 rfl ?_
    refine x_loc (lv' := [(0, vR h), (2, vI v2), (3, vI v3), (5, vI t0)]) [1, 3, 4, 0] rfl ?_
    exact okj_tw_comeTogether_j35 hdp hM hv2 hv3 ht0 hv1
  · refine x_bipush (μ := mu_tw_comeTogether) (pc := 29) dX11_comeTogether_29 (by decide) ?_
    refine x_goto (μ := mu_tw_comeTogether) (pc := 31) (tgt := 35) dX11_comeTogether_31 rfl ?_
    refine x_loc (lv' := [(0, vR h), (2, vI v2), (3, vI v3), (5, vI t0)]) [1, 3, 4, 0] rfl ?_
    exact okj_tw_comeTogether_j35 hdp hM hv2 hv3 ht0 (by decide)
def tw_comeTogether (N : Nat) (h : Nat) (v1 : Int) (v2 : Int) (v3 : Int) (σ : gMem) : Option gMem := (tw_sameOrder N h 40 v2 v1 v3 σ).bind (fun x1 => if x1 = 0 then tw_comeTogether_j22 N h v1 v2 v3 x1 40 σ else tw_comeTogether_j22 N h v1 v2 v3 x1 v1 σ)
set_option maxRecDepth 100000 in
theorem ok_tw_comeTogether {ω : gW} {l : Launch} {d : Nat} {N : Nat} {h : Nat} {σ : gMem} {v1 : Int} {v2 : Int} {v3 : Int} (hdp : 5 ≤ d) (hM : TM σ h) (hv1 : g32 v1) (hv2 : g32 v2) (hv3 : g32 v3) : gK (fun p : gMem => (.inl none, p)) gTw ω l d mu_tw_comeTogether [vR h, vI v1, vI v2, vI v3] σ (tw_comeTogether N h v1 v2 v3 σ) := by
  refine gK.of hp_X11 (Nat.le_of_ble_eq_true rfl) ?_
  unfold tw_comeTogether
  refine x_aload_n (μ := mu_tw_comeTogether) (pc := 0) 0 dX11_comeTogether_0 rfl ?_
  refine x_bipush (μ := mu_tw_comeTogether) (pc := 1) dX11_comeTogether_1 (by decide) ?_
  refine x_iload_n (μ := mu_tw_comeTogether) (pc := 3) 2 dX11_comeTogether_3 rfl ?_
  refine x_iload_n (μ := mu_tw_comeTogether) (pc := 4) 1 dX11_comeTogether_4 rfl ?_
  refine x_iload_n (μ := mu_tw_comeTogether) (pc := 5) 3 dX11_comeTogether_5 rfl ?_
  refine x_callV_pi (μ := mu_tw_comeTogether) (pc := 6) (ok_tw_sameOrder (ω := ω) (l := l) (d := d - 1) (by omega) hM (by decide) hv2 hv1 hv3) gRel_Tw gRel_Tw (fun _ q => q) q3669 q3671 qs208 q232 q3672 dX11_comeTogether_6 rfl hM.1 hy_tw_sameOrder (by omega) (Nat.le_of_ble_eq_true rfl) rfl (Nat.le_of_ble_eq_true rfl) (fun x1 hr2 => ?_)
  refine x_istore (μ := mu_tw_comeTogether) (pc := 9) (lv' := [(4, vI x1), (0, vR h), (1, vI v1), (2, vI v2), (3, vI v3)]) dX11_comeTogether_9 (by decide) rfl ?_
  refine x_iload (μ := mu_tw_comeTogether) (pc := 11) 0 dX11_comeTogether_11 rfl ?_
  refine x_if_eq (μ := mu_tw_comeTogether) (pc := 13) (tgt := 20) dX11_comeTogether_13 rfl hr2 ?_ ?_
  · refine x_bipush (μ := mu_tw_comeTogether) (pc := 20) dX11_comeTogether_20 (by decide) ?_
    refine x_loc (lv' := [(0, vR h), (1, vI v1), (2, vI v2), (3, vI v3), (4, vI x1)]) [1, 2, 3, 4, 0] rfl ?_
    exact okj_tw_comeTogether_j22 hdp hM hv1 hv2 hv3 hr2 (by decide)
  · refine x_iload_n (μ := mu_tw_comeTogether) (pc := 16) 2 dX11_comeTogether_16 rfl ?_
    refine x_goto (μ := mu_tw_comeTogether) (pc := 17) (tgt := 22) dX11_comeTogether_17 rfl ?_
    refine x_loc (lv' := [(0, vR h), (1, vI v1), (2, vI v2), (3, vI v3), (4, vI x1)]) [1, 2, 3, 4, 0] rfl ?_
    exact okj_tw_comeTogether_j22 hdp hM hv1 hv2 hv3 hr2 hv1
def x20_work_j184 (N : Nat) (W : Nat → Nat → Nat → gMem → Option gMem) (v0 : Nat) (v1 : Nat) (v2 : Nat) (s : gMem) : Option gMem := if mT s v0 = 18 then if mT s (mR s v0 1) = 108 then if 0 ≤ (0 : Int) ∧ (0 : Int) < (mN s (mR s v0 1) : Int) then (W (mR s (mR s v0 1) (0 : Int).toNat) v1 v2 s).bind (fun x30 => if mR x30 v0 0 ≠ mR x30 0 15 then if mR x30 v0 0 = mR x30 0 10 then (x20_cut N W v0 v1 v2 x30).bind (fun x32 => some x32) else if mR x30 v0 0 ≠ mR x30 0 11 then if mT x30 v2 = 5 then (x5_failed v2 x30).bind (fun x35 => if x35 ≠ 0 then some x30 else (x20_one N v0 v2 x30).bind (fun x37 => some x37)) else none else (x20_cut N W v0 v1 v2 x30).bind (fun x39 => some x39) else if mT x30 v2 = 5 then (x5_failed v2 x30).bind (fun x42 => (x5_is v2 x42 x30).bind (fun x44 => some x44)) else none) else none else none else none
set_option maxRecDepth 100000 in
theorem okj_x20_work_j184 {ω : gW} {l : Launch} {d : Nat} {N : Nat} {W : Nat → Nat → Nat → gMem → Option gMem} {dW : Nat} {σ0 : gMem} {s : gMem} {v0 : Nat} {v1 : Nat} {v2 : Nat} (hl : l.stackTraces = false) (hW : ∀ (a0 : Nat) (a1 : Nat) (a2 : Nat) (s : gMem), gKI (fun p : gMem => (.inl none, p)) gE ω l dW iy_Part_work none [vR a0, vR a1, vR a2] s (W a0 a1 a2 s)) (hdp : 8 ≤ d) (hdw : dW + 3 ≤ d) : GG (fun p : gMem => (.inl none, p)) gE ω l d mu_x20_work σ0 184 [(0, vR v0), (1, vR v1), (2, vR v2)] [] s (x20_work_j184 N W v0 v1 v2 s) := by
  unfold x20_work_j184
  refine x_aload_n (μ := mu_x20_work) (pc := 184) 0 dX20_work_184 rfl ?_
  refine x_if (fun hT28 => ?_)
  refine x_fgr (μ := mu_x20_work) (pc := 185) fX20_1 (by first | exact Or.inl ⟨_, rfl⟩ | exact Or.inr ⟨_, rfl⟩) q2041 dX20_work_185 hT28 ?_
  refine x_iconst (μ := mu_x20_work) (pc := 188) dX20_work_188 ?_
  refine x_if (fun hT29 => ?_)
  refine x_aald (μ := mu_x20_work) (pc := 189) 8 (fun _ => rfl) rfl rfl dX20_work_189 hT29 rfl ?_
  refine x_aload_n (μ := mu_x20_work) (pc := 190) 1 dX20_work_190 rfl ?_
  refine x_aload_n (μ := mu_x20_work) (pc := 191) 2 dX20_work_191 rfl ?_
  refine x_callF_mv (μ := mu_x20_work) (pc := 192) (hW (mR s (mR s v0 1) (0 : Int).toNat) v1 v2 s ) gRel_E gRel_E (fun _ q => q) q995 dX20_work_192 iy_Part_work_hy (by omega) rfl (Nat.le_of_ble_eq_true rfl) (fun x30 k31 => ?_)
  refine x_aload_n (μ := mu_x20_work) (pc := 197) 0 dX20_work_197 rfl ?_
  refine x_fgr (μ := mu_x20_work) (pc := 198) fX20_0 (by first | exact Or.inl ⟨_, rfl⟩ | exact Or.inr ⟨_, rfl⟩) q2040 dX20_work_198 (gT_E k31 hT28 (by decide)) ?_
  refine x_gst (μ := mu_x20_work) (pc := 201) (j := 15) (List.mem_of_getElem? (i := 15) rfl) q1304 dX20_work_201 ?_
  refine x_acmp_ne (μ := mu_x20_work) (pc := 204) (tgt := 218) dX20_work_204 rfl ?_ ?_
  · refine x_aload_n (μ := mu_x20_work) (pc := 218) 0 dX20_work_218 rfl ?_
    refine x_fgr (μ := mu_x20_work) (pc := 219) fX20_0 (by first | exact Or.inl ⟨_, rfl⟩ | exact Or.inr ⟨_, rfl⟩) q2040 dX20_work_219 (gT_E k31 hT28 (by decide)) ?_
    refine x_gst (μ := mu_x20_work) (pc := 222) (j := 10) (List.mem_of_getElem? (i := 10) rfl) q1306 dX20_work_222 ?_
    refine x_acmp_eq (μ := mu_x20_work) (pc := 225) (tgt := 238) dX20_work_225 rfl ?_ ?_
    · refine x_aload_n (μ := mu_x20_work) (pc := 238) 0 dX20_work_238 rfl ?_
      refine x_aload_n (μ := mu_x20_work) (pc := 239) 1 dX20_work_239 rfl ?_
      refine x_aload_n (μ := mu_x20_work) (pc := 240) 2 dX20_work_240 rfl ?_
      refine x_callV_mv (μ := mu_x20_work) (pc := 241) (ok_x20_cut (ω := ω) (l := l) (d := d - 1) hl hW (by omega) (by omega) ) gRel_E gRel_E (fun _ q => q) q1310 q1312 qs23 q252 q1313 dX20_work_241 rfl (gT_E k31 hT28 (by decide)) hy_x20_cut (by omega) (Nat.le_of_ble_eq_true rfl) rfl (Nat.le_of_ble_eq_true rfl) (fun x32 k33 => ?_)
      refine x_goto (μ := mu_x20_work) (pc := 244) (tgt := 259) dX20_work_244 rfl ?_
      exact x_vret (μ := mu_x20_work) (pc := 259) (a1 := x32) dX20_work_259 rfl rfl (gRel_E.1 _) trivial
    · refine x_aload_n (μ := mu_x20_work) (pc := 228) 0 dX20_work_228 rfl ?_
      refine x_fgr (μ := mu_x20_work) (pc := 229) fX20_0 (by first | exact Or.inl ⟨_, rfl⟩ | exact Or.inr ⟨_, rfl⟩) q2040 dX20_work_229 (gT_E k31 hT28 (by decide)) ?_
      refine x_gst (μ := mu_x20_work) (pc := 232) (j := 11) (List.mem_of_getElem? (i := 11) rfl) q1308 dX20_work_232 ?_
      refine x_acmp_ne (μ := mu_x20_work) (pc := 235) (tgt := 247) dX20_work_235 rfl ?_ ?_
      · refine x_aload_n (μ := mu_x20_work) (pc := 247) 2 dX20_work_247 rfl ?_
        refine x_if (fun hT34 => ?_)
        refine x_callV_pi (μ := mu_x20_work) (pc := 248) (ok_x5_failed (ω := ω) (l := l) (d := d - 1) hl (by omega) ) gRel_E gRel_E (fun _ q => q) q1200 q1073 q1074 q225 q1075 dX20_work_248 rfl hT34 hy_x5_failed (by omega) (Nat.le_of_ble_eq_true rfl) rfl (Nat.le_of_ble_eq_true rfl) (fun x35 hr36 => ?_)
        refine x_if_ne (μ := mu_x20_work) (pc := 251) (tgt := 259) dX20_work_251 rfl hr36 ?_ ?_
        · exact x_vret (μ := mu_x20_work) (pc := 259) (a1 := x30) dX20_work_259 rfl rfl (gRel_E.1 _) trivial
        · refine x_aload_n (μ := mu_x20_work) (pc := 254) 0 dX20_work_254 rfl ?_
          refine x_aload_n (μ := mu_x20_work) (pc := 255) 2 dX20_work_255 rfl ?_
          refine x_callV_mv (μ := mu_x20_work) (pc := 256) (ok_x20_one (ω := ω) (l := l) (d := d - 1) hl (by omega) ) gRel_E gRel_E (fun _ q => q) q1320 q1322 qs24 q252 q1323 dX20_work_256 rfl (gT_E k31 hT28 (by decide)) hy_x20_one (by omega) (Nat.le_of_ble_eq_true rfl) rfl (Nat.le_of_ble_eq_true rfl) (fun x37 k38 => ?_)
          exact x_vret (μ := mu_x20_work) (pc := 259) (a1 := x37) dX20_work_259 rfl rfl (gRel_E.1 _) trivial
      · refine x_aload_n (μ := mu_x20_work) (pc := 238) 0 dX20_work_238 rfl ?_
        refine x_aload_n (μ := mu_x20_work) (pc := 239) 1 dX20_work_239 rfl ?_
        refine x_aload_n (μ := mu_x20_work) (pc := 240) 2 dX20_work_240 rfl ?_
        refine x_callV_mv (μ := mu_x20_work) (pc := 241) (ok_x20_cut (ω := ω) (l := l) (d := d - 1) hl hW (by omega) (by omega) ) gRel_E gRel_E (fun _ q => q) q1310 q1312 qs23 q252 q1313 dX20_work_241 rfl (gT_E k31 hT28 (by decide)) hy_x20_cut (by omega) (Nat.le_of_ble_eq_true rfl) rfl (Nat.le_of_ble_eq_true rfl) (fun x39 k40 => ?_)
        refine x_goto (μ := mu_x20_work) (pc := 244) (tgt := 259) dX20_work_244 rfl ?_
        exact x_vret (μ := mu_x20_work) (pc := 259) (a1 := x39) dX20_work_259 rfl rfl (gRel_E.1 _) trivial
  · refine x_aload_n (μ := mu_x20_work) (pc := 207) 2 dX20_work_207 rfl ?_
    refine x_aload_n (μ := mu_x20_work) (pc := 208) 2 dX20_work_208 rfl ?_
    refine x_if (fun hT41 => ?_)
    refine x_callV_pi (μ := mu_x20_work) (pc := 209) (ok_x5_failed (ω := ω) (l := l) (d := d - 1) hl (by omega) ) gRel_E gRel_E (fun _ q => q) q1200 q1073 q1074 q225 q1075 dX20_work_209 rfl hT41 hy_x5_failed (by omega) (Nat.le_of_ble_eq_true rfl) rfl (Nat.le_of_ble_eq_true rfl) (fun x42 hr43 => ?_)
    refine x_callV_mv (μ := mu_x20_work) (pc := 212) (ok_x5_is (ω := ω) (l := l) (d := d - 1) hl (by omega) hr43) gRel_E gRel_E (fun _ q => q) q1235 q1036 q1037 q225 q1038 dX20_work_212 rfl hT41 hy_x5_is (by omega) (Nat.le_of_ble_eq_true rfl) rfl (Nat.le_of_ble_eq_true rfl) (fun x44 k45 => ?_)
    refine x_goto (μ := mu_x20_work) (pc := 215) (tgt := 259) dX20_work_215 rfl ?_
    exact x_vret (μ := mu_x20_work) (pc := 259) (a1 := x44) dX20_work_259 rfl rfl (gRel_E.1 _) trivial
set_option maxRecDepth 100000 in
def x20_work (N : Nat) (W : Nat → Nat → Nat → gMem → Option gMem) (v0 : Nat) (v1 : Nat) (v2 : Nat) (σ : gMem) : Option gMem := if mT σ v0 = 18 then if mT σ (mR σ v0 0) = 91 then if mI σ (mR σ v0 0) 0 = 0 then if mT σ (mR σ v0 1) = 108 then if 0 ≤ (0 : Int) ∧ (0 : Int) < (mN σ (mR σ v0 1) : Int) then (W (mR σ (mR σ v0 1) (0 : Int).toNat) v1 v2 σ).bind (fun x6 => if mT x6 v2 = 5 then (x5_failed v2 x6).bind (fun x9 => if x9 ≠ 0 then some x6 else (x5_wantTruth v2 x6).bind (fun x11 => if x11.1 = 0 then some (x11.2) else if gcmp (mL (x11.2) v2 2) (((1 : Fin 2) : Nat) : Int) ≠ 0 then if mT (x11.2) (mR (x11.2) v0 1) = 108 then if 0 ≤ (2 : Int) ∧ (2 : Int) < (mN (x11.2) (mR (x11.2) v0 1) : Int) then (W (mR (x11.2) (mR (x11.2) v0 1) (2 : Int).toNat) v1 v2 (x11.2)).bind (fun x16 => some x16) else none else none else if mT (x11.2) (mR (x11.2) v0 1) = 108 then if 0 ≤ (1 : Int) ∧ (1 : Int) < (mN (x11.2) (mR (x11.2) v0 1) : Int) then (W (mR (x11.2) (mR (x11.2) v0 1) (1 : Int).toNat) v1 v2 (x11.2)).bind (fun x19 => some x19) else none else none)) else none) else none else none else if mI σ (mR σ v0 0) 0 = 1 then (x20_truths N W v0 v1 v2 σ).bind (fun x22 => some x22) else if mI σ (mR σ v0 0) 0 = 2 then (x20_truths N W v0 v1 v2 σ).bind (fun x25 => some x25) else if mI σ (mR σ v0 0) 0 = 3 then x20_work_j184 N W v0 v1 v2  σ else if mI σ (mR σ v0 0) 0 = 4 then x20_work_j184 N W v0 v1 v2  σ else if mI σ (mR σ v0 0) 0 = 5 then (x20_numbers N W v0 v1 v2 σ).bind (fun x48 => some x48) else if mI σ (mR σ v0 0) 0 = 6 then (x20_numbers N W v0 v1 v2 σ).bind (fun x51 => some x51) else if mI σ (mR σ v0 0) 0 = 7 then (x20_numbers N W v0 v1 v2 σ).bind (fun x54 => some x54) else if mI σ (mR σ v0 0) 0 = 8 then (x20_numbers N W v0 v1 v2 σ).bind (fun x57 => some x57) else if mI σ (mR σ v0 0) 0 = 9 then x20_work_j184 N W v0 v1 v2  σ else if mI σ (mR σ v0 0) 0 = 10 then x20_work_j184 N W v0 v1 v2  σ else if mI σ (mR σ v0 0) 0 = 11 then x20_work_j184 N W v0 v1 v2  σ else if mI σ (mR σ v0 0) 0 = 12 then (x20_search N W v0 v1 v2 σ).bind (fun x63 => some x63) else if mI σ (mR σ v0 0) 0 = 13 then (x20_search N W v0 v1 v2 σ).bind (fun x66 => some x66) else if mI σ (mR σ v0 0) 0 = 14 then (x20_search N W v0 v1 v2 σ).bind (fun x69 => some x69) else if mI σ (mR σ v0 0) 0 = 15 then x20_work_j184 N W v0 v1 v2  σ else if mI σ (mR σ v0 0) 0 = 16 then (x20_place N v0 v1 v2 σ).bind (fun x73 => some x73) else if mI σ (mR σ v0 0) 0 = 17 then (x20_place N v0 v1 v2 σ).bind (fun x76 => some x76) else x20_work_j184 N W v0 v1 v2  σ else none else none
set_option maxRecDepth 100000 in
theorem ok_x20_work {ω : gW} {l : Launch} {d : Nat} {N : Nat} {W : Nat → Nat → Nat → gMem → Option gMem} {dW : Nat} {σ : gMem} {v0 : Nat} {v1 : Nat} {v2 : Nat} (hl : l.stackTraces = false) (hW : ∀ (a0 : Nat) (a1 : Nat) (a2 : Nat) (s : gMem), gKI (fun p : gMem => (.inl none, p)) gE ω l dW iy_Part_work none [vR a0, vR a1, vR a2] s (W a0 a1 a2 s)) (hdp : 8 ≤ d) (hdw : dW + 3 ≤ d) : gK (fun p : gMem => (.inl none, p)) gE ω l d mu_x20_work [vR v0, vR v1, vR v2] σ (x20_work N W v0 v1 v2 σ) := by
  refine gK.of hp_X20 (Nat.le_of_ble_eq_true rfl) ?_
  unfold x20_work
  refine x_aload_n (μ := mu_x20_work) (pc := 0) 0 dX20_work_0 rfl ?_
  refine x_if (fun hT1 => ?_)
  refine x_fgr (μ := mu_x20_work) (pc := 1) fX20_0 (by first | exact Or.inl ⟨_, rfl⟩ | exact Or.inr ⟨_, rfl⟩) q2040 dX20_work_1 hT1 ?_
  refine x_if (fun hT2 => ?_)
  refine x_ord91 (μ := mu_x20_work) (pc := 4) q988 dX20_work_4 hT2 (by omega) (Nat.le_of_ble_eq_true rfl) (fun hr3 => ?_)
  refine x_tab (μ := mu_x20_work) (pc := 7) (tgt := 92) 0 dX20_work_7 (by decide) (by decide) (by decide) rfl rfl ?_ (fun hn4 => ?_)
  · refine x_aload_n (μ := mu_x20_work) (pc := 92) 0 dX20_work_92 rfl ?_
    refine x_fgr (μ := mu_x20_work) (pc := 93) fX20_1 (by first | exact Or.inl ⟨_, rfl⟩ | exact Or.inr ⟨_, rfl⟩) q2041 dX20_work_93 hT1 ?_
    refine x_iconst (μ := mu_x20_work) (pc := 96) dX20_work_96 ?_
    refine x_if (fun hT5 => ?_)
    refine x_aald (μ := mu_x20_work) (pc := 97) 8 (fun _ => rfl) rfl rfl dX20_work_97 hT5 rfl ?_
    refine x_aload_n (μ := mu_x20_work) (pc := 98) 1 dX20_work_98 rfl ?_
    refine x_aload_n (μ := mu_x20_work) (pc := 99) 2 dX20_work_99 rfl ?_
    refine x_callF_mv (μ := mu_x20_work) (pc := 100) (hW (mR σ (mR σ v0 1) (0 : Int).toNat) v1 v2 σ ) gRel_E gRel_E (fun _ q => q) q995 dX20_work_100 iy_Part_work_hy (by omega) rfl (Nat.le_of_ble_eq_true rfl) (fun x6 k7 => ?_)
    refine x_aload_n (μ := mu_x20_work) (pc := 105) 2 dX20_work_105 rfl ?_
    refine x_if (fun hT8 => ?_)
    refine x_callV_pi (μ := mu_x20_work) (pc := 106) (ok_x5_failed (ω := ω) (l := l) (d := d - 1) hl (by omega) ) gRel_E gRel_E (fun _ q => q) q1200 q1073 q1074 q225 q1075 dX20_work_106 rfl hT8 hy_x5_failed (by omega) (Nat.le_of_ble_eq_true rfl) rfl (Nat.le_of_ble_eq_true rfl) (fun x9 hr10 => ?_)
    refine x_if_ne (μ := mu_x20_work) (pc := 109) (tgt := 259) dX20_work_109 rfl hr10 ?_ ?_
    · exact x_vret (μ := mu_x20_work) (pc := 259) (a1 := x6) dX20_work_259 rfl rfl (gRel_E.1 _) trivial
    · refine x_aload_n (μ := mu_x20_work) (pc := 112) 2 dX20_work_112 rfl ?_
      refine x_callV_mi (μ := mu_x20_work) (pc := 113) (ok_x5_wantTruth (ω := ω) (l := l) (d := d - 1) hl (by omega) ) gRel_E gRel_E (fun _ q => q) q1201 q1202 q1203 q225 q1204 dX20_work_113 rfl hT8 hy_x5_wantTruth (by omega) (Nat.le_of_ble_eq_true rfl) rfl (Nat.le_of_ble_eq_true rfl) (fun x11 k13 hr12 => ?_)
      refine x_if_eq (μ := mu_x20_work) (pc := 116) (tgt := 259) dX20_work_116 rfl hr12 ?_ ?_
      · exact x_vret (μ := mu_x20_work) (pc := 259) (a1 := x11.2) dX20_work_259 rfl rfl (gRel_E.1 _) trivial
      · refine x_aload_n (μ := mu_x20_work) (pc := 119) 0 dX20_work_119 rfl ?_
        refine x_fgr (μ := mu_x20_work) (pc := 120) fX20_1 (by first | exact Or.inl ⟨_, rfl⟩ | exact Or.inr ⟨_, rfl⟩) q2041 dX20_work_120 (gT_E k13 (gT_E k7 hT1 (by decide)) (by decide)) ?_
        refine x_aload_n (μ := mu_x20_work) (pc := 123) 2 dX20_work_123 rfl ?_
        refine x_fglN (μ := mu_x20_work) (pc := 124) fX5_2 q383 dX20_work_124 (gT_E k13 hT8 (by decide)) (fun hr14 => ?_)
        refine x_lconst (μ := mu_x20_work) (pc := 127) dX20_work_127 ?_
        refine x_lcmp (μ := mu_x20_work) (pc := 128) dX20_work_128 hr14 (by decide) ?_
        refine x_if_ne (μ := mu_x20_work) (pc := 129) (tgt := 136) dX20_work_129 rfl (gcmp_rng _ _) ?_ ?_
        · refine x_iconst (μ := mu_x20_work) (pc := 136) dX20_work_136 ?_
          refine x_if (fun hT15 => ?_)
          refine x_aald (μ := mu_x20_work) (pc := 137) 8 (fun _ => rfl) rfl rfl dX20_work_137 hT15 rfl ?_
          refine x_aload_n (μ := mu_x20_work) (pc := 138) 1 dX20_work_138 rfl ?_
          refine x_aload_n (μ := mu_x20_work) (pc := 139) 2 dX20_work_139 rfl ?_
          refine x_callF_mv (μ := mu_x20_work) (pc := 140) (hW (mR (x11.2) (mR (x11.2) v0 1) (2 : Int).toNat) v1 v2 (x11.2) ) gRel_E gRel_E (fun _ q => q) q995 dX20_work_140 iy_Part_work_hy (by omega) rfl (Nat.le_of_ble_eq_true rfl) (fun x16 k17 => ?_)
          refine x_goto (μ := mu_x20_work) (pc := 145) (tgt := 259) dX20_work_145 rfl ?_
          exact x_vret (μ := mu_x20_work) (pc := 259) (a1 := x16) dX20_work_259 rfl rfl (gRel_E.1 _) trivial
        · refine x_iconst (μ := mu_x20_work) (pc := 132) dX20_work_132 ?_
          refine x_goto (μ := mu_x20_work) (pc := 133) (tgt := 137) dX20_work_133 rfl ?_
          refine x_if (fun hT18 => ?_)
          refine x_aald (μ := mu_x20_work) (pc := 137) 8 (fun _ => rfl) rfl rfl dX20_work_137 hT18 rfl ?_
          refine x_aload_n (μ := mu_x20_work) (pc := 138) 1 dX20_work_138 rfl ?_
          refine x_aload_n (μ := mu_x20_work) (pc := 139) 2 dX20_work_139 rfl ?_
          refine x_callF_mv (μ := mu_x20_work) (pc := 140) (hW (mR (x11.2) (mR (x11.2) v0 1) (1 : Int).toNat) v1 v2 (x11.2) ) gRel_E gRel_E (fun _ q => q) q995 dX20_work_140 iy_Part_work_hy (by omega) rfl (Nat.le_of_ble_eq_true rfl) (fun x19 k20 => ?_)
          refine x_goto (μ := mu_x20_work) (pc := 145) (tgt := 259) dX20_work_145 rfl ?_
          exact x_vret (μ := mu_x20_work) (pc := 259) (a1 := x19) dX20_work_259 rfl rfl (gRel_E.1 _) trivial
  refine x_tab (μ := mu_x20_work) (pc := 7) (tgt := 148) 1 dX20_work_7 (by decide) (by decide) (by decide) rfl rfl ?_ (fun hn21 => ?_)
  · refine x_aload_n (μ := mu_x20_work) (pc := 148) 0 dX20_work_148 rfl ?_
    refine x_aload_n (μ := mu_x20_work) (pc := 149) 1 dX20_work_149 rfl ?_
    refine x_aload_n (μ := mu_x20_work) (pc := 150) 2 dX20_work_150 rfl ?_
    refine x_callV_mv (μ := mu_x20_work) (pc := 151) (ok_x20_truths (ω := ω) (l := l) (d := d - 1) hl hW (by omega) (by omega) ) gRel_E gRel_E (fun _ q => q) q1205 q1207 qs16 q252 q1209 dX20_work_151 rfl hT1 hy_x20_truths (by omega) (Nat.le_of_ble_eq_true rfl) rfl (Nat.le_of_ble_eq_true rfl) (fun x22 k23 => ?_)
    refine x_goto (μ := mu_x20_work) (pc := 154) (tgt := 259) dX20_work_154 rfl ?_
    exact x_vret (μ := mu_x20_work) (pc := 259) (a1 := x22) dX20_work_259 rfl rfl (gRel_E.1 _) trivial
  refine x_tab (μ := mu_x20_work) (pc := 7) (tgt := 148) 2 dX20_work_7 (by decide) (by decide) (by decide) rfl rfl ?_ (fun hn24 => ?_)
  · refine x_aload_n (μ := mu_x20_work) (pc := 148) 0 dX20_work_148 rfl ?_
    refine x_aload_n (μ := mu_x20_work) (pc := 149) 1 dX20_work_149 rfl ?_
    refine x_aload_n (μ := mu_x20_work) (pc := 150) 2 dX20_work_150 rfl ?_
    refine x_callV_mv (μ := mu_x20_work) (pc := 151) (ok_x20_truths (ω := ω) (l := l) (d := d - 1) hl hW (by omega) (by omega) ) gRel_E gRel_E (fun _ q => q) q1205 q1207 qs16 q252 q1209 dX20_work_151 rfl hT1 hy_x20_truths (by omega) (Nat.le_of_ble_eq_true rfl) rfl (Nat.le_of_ble_eq_true rfl) (fun x25 k26 => ?_)
    refine x_goto (μ := mu_x20_work) (pc := 154) (tgt := 259) dX20_work_154 rfl ?_
    exact x_vret (μ := mu_x20_work) (pc := 259) (a1 := x25) dX20_work_259 rfl rfl (gRel_E.1 _) trivial
  refine x_tab (μ := mu_x20_work) (pc := 7) (tgt := 184) 3 dX20_work_7 (by decide) (by decide) (by decide) rfl rfl ?_ (fun hn27 => ?_)
  · exact okj_x20_work_j184 hl hW hdp hdw
  refine x_tab (μ := mu_x20_work) (pc := 7) (tgt := 184) 4 dX20_work_7 (by decide) (by decide) (by decide) rfl rfl ?_ (fun hn46 => ?_)
  · exact okj_x20_work_j184 hl hW hdp hdw
  refine x_tab (μ := mu_x20_work) (pc := 7) (tgt := 157) 5 dX20_work_7 (by decide) (by decide) (by decide) rfl rfl ?_ (fun hn47 => ?_)
  · refine x_aload_n (μ := mu_x20_work) (pc := 157) 0 dX20_work_157 rfl ?_
    refine x_aload_n (μ := mu_x20_work) (pc := 158) 1 dX20_work_158 rfl ?_
    refine x_aload_n (μ := mu_x20_work) (pc := 159) 2 dX20_work_159 rfl ?_
    refine x_callV_mv (μ := mu_x20_work) (pc := 160) (ok_x20_numbers (ω := ω) (l := l) (d := d - 1) hl hW (by omega) (by omega) ) gRel_E gRel_E (fun _ q => q) q1236 q1238 qs18 q252 q1239 dX20_work_160 rfl hT1 hy_x20_numbers (by omega) (Nat.le_of_ble_eq_true rfl) rfl (Nat.le_of_ble_eq_true rfl) (fun x48 k49 => ?_)
    refine x_goto (μ := mu_x20_work) (pc := 163) (tgt := 259) dX20_work_163 rfl ?_
    exact x_vret (μ := mu_x20_work) (pc := 259) (a1 := x48) dX20_work_259 rfl rfl (gRel_E.1 _) trivial
  refine x_tab (μ := mu_x20_work) (pc := 7) (tgt := 157) 6 dX20_work_7 (by decide) (by decide) (by decide) rfl rfl ?_ (fun hn50 => ?_)
  · refine x_aload_n (μ := mu_x20_work) (pc := 157) 0 dX20_work_157 rfl ?_
    refine x_aload_n (μ := mu_x20_work) (pc := 158) 1 dX20_work_158 rfl ?_
    refine x_aload_n (μ := mu_x20_work) (pc := 159) 2 dX20_work_159 rfl ?_
    refine x_callV_mv (μ := mu_x20_work) (pc := 160) (ok_x20_numbers (ω := ω) (l := l) (d := d - 1) hl hW (by omega) (by omega) ) gRel_E gRel_E (fun _ q => q) q1236 q1238 qs18 q252 q1239 dX20_work_160 rfl hT1 hy_x20_numbers (by omega) (Nat.le_of_ble_eq_true rfl) rfl (Nat.le_of_ble_eq_true rfl) (fun x51 k52 => ?_)
    refine x_goto (μ := mu_x20_work) (pc := 163) (tgt := 259) dX20_work_163 rfl ?_
    exact x_vret (μ := mu_x20_work) (pc := 259) (a1 := x51) dX20_work_259 rfl rfl (gRel_E.1 _) trivial
  refine x_tab (μ := mu_x20_work) (pc := 7) (tgt := 157) 7 dX20_work_7 (by decide) (by decide) (by decide) rfl rfl ?_ (fun hn53 => ?_)
  · refine x_aload_n (μ := mu_x20_work) (pc := 157) 0 dX20_work_157 rfl ?_
    refine x_aload_n (μ := mu_x20_work) (pc := 158) 1 dX20_work_158 rfl ?_
    refine x_aload_n (μ := mu_x20_work) (pc := 159) 2 dX20_work_159 rfl ?_
    refine x_callV_mv (μ := mu_x20_work) (pc := 160) (ok_x20_numbers (ω := ω) (l := l) (d := d - 1) hl hW (by omega) (by omega) ) gRel_E gRel_E (fun _ q => q) q1236 q1238 qs18 q252 q1239 dX20_work_160 rfl hT1 hy_x20_numbers (by omega) (Nat.le_of_ble_eq_true rfl) rfl (Nat.le_of_ble_eq_true rfl) (fun x54 k55 => ?_)
    refine x_goto (μ := mu_x20_work) (pc := 163) (tgt := 259) dX20_work_163 rfl ?_
    exact x_vret (μ := mu_x20_work) (pc := 259) (a1 := x54) dX20_work_259 rfl rfl (gRel_E.1 _) trivial
  refine x_tab (μ := mu_x20_work) (pc := 7) (tgt := 157) 8 dX20_work_7 (by decide) (by decide) (by decide) rfl rfl ?_ (fun hn56 => ?_)
  · refine x_aload_n (μ := mu_x20_work) (pc := 157) 0 dX20_work_157 rfl ?_
    refine x_aload_n (μ := mu_x20_work) (pc := 158) 1 dX20_work_158 rfl ?_
    refine x_aload_n (μ := mu_x20_work) (pc := 159) 2 dX20_work_159 rfl ?_
    refine x_callV_mv (μ := mu_x20_work) (pc := 160) (ok_x20_numbers (ω := ω) (l := l) (d := d - 1) hl hW (by omega) (by omega) ) gRel_E gRel_E (fun _ q => q) q1236 q1238 qs18 q252 q1239 dX20_work_160 rfl hT1 hy_x20_numbers (by omega) (Nat.le_of_ble_eq_true rfl) rfl (Nat.le_of_ble_eq_true rfl) (fun x57 k58 => ?_)
    refine x_goto (μ := mu_x20_work) (pc := 163) (tgt := 259) dX20_work_163 rfl ?_
    exact x_vret (μ := mu_x20_work) (pc := 259) (a1 := x57) dX20_work_259 rfl rfl (gRel_E.1 _) trivial
  refine x_tab (μ := mu_x20_work) (pc := 7) (tgt := 184) 9 dX20_work_7 (by decide) (by decide) (by decide) rfl rfl ?_ (fun hn59 => ?_)
  · exact okj_x20_work_j184 hl hW hdp hdw
  refine x_tab (μ := mu_x20_work) (pc := 7) (tgt := 184) 10 dX20_work_7 (by decide) (by decide) (by decide) rfl rfl ?_ (fun hn60 => ?_)
  · exact okj_x20_work_j184 hl hW hdp hdw
  refine x_tab (μ := mu_x20_work) (pc := 7) (tgt := 184) 11 dX20_work_7 (by decide) (by decide) (by decide) rfl rfl ?_ (fun hn61 => ?_)
  · exact okj_x20_work_j184 hl hW hdp hdw
  refine x_tab (μ := mu_x20_work) (pc := 7) (tgt := 166) 12 dX20_work_7 (by decide) (by decide) (by decide) rfl rfl ?_ (fun hn62 => ?_)
  · refine x_aload_n (μ := mu_x20_work) (pc := 166) 0 dX20_work_166 rfl ?_
    refine x_aload_n (μ := mu_x20_work) (pc := 167) 1 dX20_work_167 rfl ?_
    refine x_aload_n (μ := mu_x20_work) (pc := 168) 2 dX20_work_168 rfl ?_
    refine x_callV_mv (μ := mu_x20_work) (pc := 169) (ok_x20_search (ω := ω) (l := l) (d := d - 1) hl hW (by omega) (by omega) ) gRel_E gRel_E (fun _ q => q) q1269 q1271 qs19 q252 q1272 dX20_work_169 rfl hT1 hy_x20_search (by omega) (Nat.le_of_ble_eq_true rfl) rfl (Nat.le_of_ble_eq_true rfl) (fun x63 k64 => ?_)
    refine x_goto (μ := mu_x20_work) (pc := 172) (tgt := 259) dX20_work_172 rfl ?_
    exact x_vret (μ := mu_x20_work) (pc := 259) (a1 := x63) dX20_work_259 rfl rfl (gRel_E.1 _) trivial
  refine x_tab (μ := mu_x20_work) (pc := 7) (tgt := 166) 13 dX20_work_7 (by decide) (by decide) (by decide) rfl rfl ?_ (fun hn65 => ?_)
  · refine x_aload_n (μ := mu_x20_work) (pc := 166) 0 dX20_work_166 rfl ?_
    refine x_aload_n (μ := mu_x20_work) (pc := 167) 1 dX20_work_167 rfl ?_
    refine x_aload_n (μ := mu_x20_work) (pc := 168) 2 dX20_work_168 rfl ?_
    refine x_callV_mv (μ := mu_x20_work) (pc := 169) (ok_x20_search (ω := ω) (l := l) (d := d - 1) hl hW (by omega) (by omega) ) gRel_E gRel_E (fun _ q => q) q1269 q1271 qs19 q252 q1272 dX20_work_169 rfl hT1 hy_x20_search (by omega) (Nat.le_of_ble_eq_true rfl) rfl (Nat.le_of_ble_eq_true rfl) (fun x66 k67 => ?_)
    refine x_goto (μ := mu_x20_work) (pc := 172) (tgt := 259) dX20_work_172 rfl ?_
    exact x_vret (μ := mu_x20_work) (pc := 259) (a1 := x66) dX20_work_259 rfl rfl (gRel_E.1 _) trivial
  refine x_tab (μ := mu_x20_work) (pc := 7) (tgt := 166) 14 dX20_work_7 (by decide) (by decide) (by decide) rfl rfl ?_ (fun hn68 => ?_)
  · refine x_aload_n (μ := mu_x20_work) (pc := 166) 0 dX20_work_166 rfl ?_
    refine x_aload_n (μ := mu_x20_work) (pc := 167) 1 dX20_work_167 rfl ?_
    refine x_aload_n (μ := mu_x20_work) (pc := 168) 2 dX20_work_168 rfl ?_
    refine x_callV_mv (μ := mu_x20_work) (pc := 169) (ok_x20_search (ω := ω) (l := l) (d := d - 1) hl hW (by omega) (by omega) ) gRel_E gRel_E (fun _ q => q) q1269 q1271 qs19 q252 q1272 dX20_work_169 rfl hT1 hy_x20_search (by omega) (Nat.le_of_ble_eq_true rfl) rfl (Nat.le_of_ble_eq_true rfl) (fun x69 k70 => ?_)
    refine x_goto (μ := mu_x20_work) (pc := 172) (tgt := 259) dX20_work_172 rfl ?_
    exact x_vret (μ := mu_x20_work) (pc := 259) (a1 := x69) dX20_work_259 rfl rfl (gRel_E.1 _) trivial
  refine x_tab (μ := mu_x20_work) (pc := 7) (tgt := 184) 15 dX20_work_7 (by decide) (by decide) (by decide) rfl rfl ?_ (fun hn71 => ?_)
  · exact okj_x20_work_j184 hl hW hdp hdw
  refine x_tab (μ := mu_x20_work) (pc := 7) (tgt := 175) 16 dX20_work_7 (by decide) (by decide) (by decide) rfl rfl ?_ (fun hn72 => ?_)
  · refine x_aload_n (μ := mu_x20_work) (pc := 175) 0 dX20_work_175 rfl ?_
    refine x_aload_n (μ := mu_x20_work) (pc := 176) 1 dX20_work_176 rfl ?_
    refine x_aload_n (μ := mu_x20_work) (pc := 177) 2 dX20_work_177 rfl ?_
    refine x_callV_mv (μ := mu_x20_work) (pc := 178) (ok_x20_place (ω := ω) (l := l) (d := d - 1) hl (by omega) ) gRel_E gRel_E (fun _ q => q) q1294 q1296 qs22 q252 q1297 dX20_work_178 rfl hT1 hy_x20_place (by omega) (Nat.le_of_ble_eq_true rfl) rfl (Nat.le_of_ble_eq_true rfl) (fun x73 k74 => ?_)
    refine x_goto (μ := mu_x20_work) (pc := 181) (tgt := 259) dX20_work_181 rfl ?_
    exact x_vret (μ := mu_x20_work) (pc := 259) (a1 := x73) dX20_work_259 rfl rfl (gRel_E.1 _) trivial
  refine x_tab (μ := mu_x20_work) (pc := 7) (tgt := 175) 17 dX20_work_7 (by decide) (by decide) (by decide) rfl rfl ?_ (fun hn75 => ?_)
  · refine x_aload_n (μ := mu_x20_work) (pc := 175) 0 dX20_work_175 rfl ?_
    refine x_aload_n (μ := mu_x20_work) (pc := 176) 1 dX20_work_176 rfl ?_
    refine x_aload_n (μ := mu_x20_work) (pc := 177) 2 dX20_work_177 rfl ?_
    refine x_callV_mv (μ := mu_x20_work) (pc := 178) (ok_x20_place (ω := ω) (l := l) (d := d - 1) hl (by omega) ) gRel_E gRel_E (fun _ q => q) q1294 q1296 qs22 q252 q1297 dX20_work_178 rfl hT1 hy_x20_place (by omega) (Nat.le_of_ble_eq_true rfl) rfl (Nat.le_of_ble_eq_true rfl) (fun x76 k77 => ?_)
    refine x_goto (μ := mu_x20_work) (pc := 181) (tgt := 259) dX20_work_181 rfl ?_
    exact x_vret (μ := mu_x20_work) (pc := 259) (a1 := x76) dX20_work_259 rfl rfl (gRel_E.1 _) trivial
  refine x_tabOut (μ := mu_x20_work) (pc := 7) (tgt := 184) dX20_work_7 hr3 (by omega) rfl ?_
  exact okj_x20_work_j184 hl hW hdp hdw
def x23_write (N : Nat) (v0 : Nat) (v1 : Nat) (v2 : Nat) (σ : gMem) : Option gMem := if mT σ v1 = 7 then (x8_begin v1 σ).bind (fun x2 => if mT x2 v0 = 21 then (dp_Part_write N 64 (mR x2 v0 0) v1 v2 x2).bind (fun x5 => some x5) else none) else none
set_option maxRecDepth 100000 in
theorem ok_x23_write {ω : gW} {l : Launch} {d : Nat} {N : Nat} {σ : gMem} {v0 : Nat} {v1 : Nat} {v2 : Nat} (hl : l.stackTraces = false) (hdp : 152 ≤ d) : gK (fun p : gMem => (.inl none, p)) gE ω l d mu_x23_write [vR v0, vR v1, vR v2] σ (x23_write N v0 v1 v2 σ) := by
  refine gK.of hp_X23 (Nat.le_of_ble_eq_true rfl) ?_
  unfold x23_write
  refine x_aload_n (μ := mu_x23_write) (pc := 0) 1 dX23_write_0 rfl ?_
  refine x_if (fun hT1 => ?_)
  refine x_callV_mv (μ := mu_x23_write) (pc := 1) (ok_x8_begin (ω := ω) (l := l) (d := d - 1) hl (by omega) ) gRel_E gRel_E (fun _ q => q) q1361 q1362 q1363 q229 q1364 dX23_write_1 rfl hT1 hy_x8_begin (by omega) (Nat.le_of_ble_eq_true rfl) rfl (Nat.le_of_ble_eq_true rfl) (fun x2 k3 => ?_)
  refine x_aload_n (μ := mu_x23_write) (pc := 4) 0 dX23_write_4 rfl ?_
  refine x_if (fun hT4 => ?_)
  refine x_fgr (μ := mu_x23_write) (pc := 5) fX23_0 (by first | exact Or.inl ⟨_, rfl⟩ | exact Or.inr ⟨_, rfl⟩) q2107 dX23_write_5 hT4 ?_
  refine x_aload_n (μ := mu_x23_write) (pc := 8) 1 dX23_write_8 rfl ?_
  refine x_aload_n (μ := mu_x23_write) (pc := 9) 2 dX23_write_9 rfl ?_
  refine x_callF_mv (μ := mu_x23_write) (pc := 10) (ok_dp_Part_write (ω := ω) (l := l) (d := d - 1) hl 64 (mR x2 v0 0) v1 v2 x2 (by omega)) gRel_E gRel_E (fun _ q => q) q1370 dX23_write_10 iy_Part_write_hy (by omega) rfl (Nat.le_of_ble_eq_true rfl) (fun x5 k6 => ?_)
  exact x_vret (μ := mu_x23_write) (pc := 15) (a1 := x5) dX23_write_15 rfl rfl (gRel_E.1 _) trivial
def x25_isIn_j71 (N : Nat) (σ : gMem) (v1 : Int) (v2 : Int) (t0 : Nat) (t1 : Nat) : Option Int := if mT σ t1 = 23 then (x25_isChanged N t1 t0 v1 v2 σ).bind (fun x10 => if x10 = 0 then some 0 else some 1) else none
set_option maxRecDepth 100000 in
theorem okj_x25_isIn_j71 {ω : gW} {l : Launch} {d : Nat} {N : Nat} {σ : gMem} {v1 : Int} {v2 : Int} {t0 : Nat} {t1 : Nat} (hl : l.stackTraces = false) (hdp : 69 ≤ d) (hv1 : g32 v1) (hv2 : g32 v2) : GG (fun x : Int => (.inl (some (vI x)), σ)) gE ω l d mu_x25_isIn σ 71 [(1, vI v1), (2, vI v2)] [vR t0, vR t1] σ (x25_isIn_j71 N σ v1 v2 t0 t1 ) := by
  unfold x25_isIn_j71
  refine x_iload_n (μ := mu_x25_isIn) (pc := 71) 0 dX25_isIn_71 rfl ?_
  refine x_iload_n (μ := mu_x25_isIn) (pc := 72) 1 dX25_isIn_72 rfl ?_
  refine x_if (fun hT9 => ?_)
  refine x_callV_pi (μ := mu_x25_isIn) (pc := 73) (ok_x25_isChanged (ω := ω) (l := l) (d := d - 1) hl (by omega) hv1 hv2) gRel_E gRel_E (fun _ q => q) q2513 q2515 qs69 q266 q2516 dX25_isIn_73 rfl hT9 hy_x25_isChanged (by omega) (Nat.le_of_ble_eq_true rfl) rfl (Nat.le_of_ble_eq_true rfl) (fun x10 hr11 => ?_)
  refine x_if_eq (μ := mu_x25_isIn) (pc := 76) (tgt := 83) dX25_isIn_76 rfl hr11 ?_ ?_
  · refine x_iconst (μ := mu_x25_isIn) (pc := 83) dX25_isIn_83 ?_
    exact x_zret (μ := mu_x25_isIn) (pc := 84) dX25_isIn_84 rfl (by decide) rfl (gRel_E.1 _) (show g32 0 from (by decide))
  · refine x_iconst (μ := mu_x25_isIn) (pc := 79) dX25_isIn_79 ?_
    refine x_goto (μ := mu_x25_isIn) (pc := 80) (tgt := 84) dX25_isIn_80 rfl ?_
    exact x_zret (μ := mu_x25_isIn) (pc := 84) dX25_isIn_84 rfl (by decide) rfl (gRel_E.1 _) (show g32 1 from (by decide))
def x25_isIn_j43 (N : Nat) (σ : gMem) (v0 : Nat) (v1 : Int) (v2 : Int) (v3 : Int) : Option Int := if mT σ v0 = 23 then (x25_has N (mR σ v0 0) v1 v2 σ).bind (fun x7 => if x7 = 0 then some 1 else if v3 = 0 then x25_isIn_j71 N σ v1 v2 (mR σ v0 2) v0 else x25_isIn_j71 N σ v1 v2 (mR σ v0 1) v0) else none
set_option maxRecDepth 100000 in
theorem okj_x25_isIn_j43 {ω : gW} {l : Launch} {d : Nat} {N : Nat} {σ : gMem} {v0 : Nat} {v1 : Int} {v2 : Int} {v3 : Int} (hl : l.stackTraces = false) (hdp : 69 ≤ d) (hv1 : g32 v1) (hv2 : g32 v2) (hv3 : g32 v3) : GG (fun x : Int => (.inl (some (vI x)), σ)) gE ω l d mu_x25_isIn σ 43 [(0, vR v0), (1, vI v1), (2, vI v2), (3, vI v3)] [] σ (x25_isIn_j43 N σ v0 v1 v2 v3 ) := by
  unfold x25_isIn_j43
  refine x_aload_n (μ := mu_x25_isIn) (pc := 43) 0 dX25_isIn_43 rfl ?_
  refine x_if (fun hT6 => ?_)
  refine x_fgr (μ := mu_x25_isIn) (pc := 44) fX25_0 (by first | exact Or.inl ⟨_, rfl⟩ | exact Or.inr ⟨_, rfl⟩) q2470 dX25_isIn_44 hT6 ?_
  refine x_iload_n (μ := mu_x25_isIn) (pc := 47) 1 dX25_isIn_47 rfl ?_
  refine x_iload_n (μ := mu_x25_isIn) (pc := 48) 2 dX25_isIn_48 rfl ?_
  refine x_callS_pi (μ := mu_x25_isIn) (pc := 49) (ok_x25_has (ω := ω) (l := l) (d := d - 1) hl (by omega) hv1 hv2) gRel_E gRel_E (fun _ q => q) q2506 q2507 q266 q2508 dX25_isIn_49 hy_x25_has (by omega) (Nat.le_of_ble_eq_true rfl) rfl (Nat.le_of_ble_eq_true rfl) (fun x7 hr8 => ?_)
  refine x_if_eq (μ := mu_x25_isIn) (pc := 52) (tgt := 79) dX25_isIn_52 rfl hr8 ?_ ?_
  · refine x_iconst (μ := mu_x25_isIn) (pc := 79) dX25_isIn_79 ?_
    refine x_goto (μ := mu_x25_isIn) (pc := 80) (tgt := 84) dX25_isIn_80 rfl ?_
    exact x_zret (μ := mu_x25_isIn) (pc := 84) dX25_isIn_84 rfl (by decide) rfl (gRel_E.1 _) (show g32 1 from (by decide))
  · refine x_aload_n (μ := mu_x25_isIn) (pc := 55) 0 dX25_isIn_55 rfl ?_
    refine x_iload_n (μ := mu_x25_isIn) (pc := 56) 3 dX25_isIn_56 rfl ?_
    refine x_if_eq (μ := mu_x25_isIn) (pc := 57) (tgt := 67) dX25_isIn_57 rfl hv3 ?_ ?_
    · refine x_aload_n (μ := mu_x25_isIn) (pc := 67) 0 dX25_isIn_67 rfl ?_
      refine x_fgr (μ := mu_x25_isIn) (pc := 68) fX25_2 (by first | exact Or.inl ⟨_, rfl⟩ | exact Or.inr ⟨_, rfl⟩) q2472 dX25_isIn_68 hT6 ?_
      refine x_loc (lv' := [(1, vI v1), (2, vI v2)]) [1, 2] rfl ?_
      exact okj_x25_isIn_j71 hl hdp hv1 hv2
    · refine x_aload_n (μ := mu_x25_isIn) (pc := 60) 0 dX25_isIn_60 rfl ?_
      refine x_fgr (μ := mu_x25_isIn) (pc := 61) fX25_1 (by first | exact Or.inl ⟨_, rfl⟩ | exact Or.inr ⟨_, rfl⟩) q2471 dX25_isIn_61 hT6 ?_
      refine x_goto (μ := mu_x25_isIn) (pc := 64) (tgt := 71) dX25_isIn_64 rfl ?_
      refine x_loc (lv' := [(1, vI v1), (2, vI v2)]) [1, 2] rfl ?_
      exact okj_x25_isIn_j71 hl hdp hv1 hv2
def x25_isIn_j32 (N : Nat) (σ : gMem) (v0 : Nat) (v1 : Int) (v2 : Int) (v3 : Int) (v4 : Int) : Option Int := if v3 ≠ 0 then x25_isIn_j43 N σ v0 v1 v2 v3  else if v4 ≠ 0 then x25_isIn_j43 N σ v0 v1 v2 v3  else some 0
set_option maxRecDepth 100000 in
theorem okj_x25_isIn_j32 {ω : gW} {l : Launch} {d : Nat} {N : Nat} {σ : gMem} {v0 : Nat} {v1 : Int} {v2 : Int} {v3 : Int} {v4 : Int} (hl : l.stackTraces = false) (hdp : 69 ≤ d) (hv1 : g32 v1) (hv2 : g32 v2) (hv3 : g32 v3) (hv4 : g32 v4) : GG (fun x : Int => (.inl (some (vI x)), σ)) gE ω l d mu_x25_isIn σ 32 [(0, vR v0), (1, vI v1), (2, vI v2), (3, vI v3), (4, vI v4)] [] σ (x25_isIn_j32 N σ v0 v1 v2 v3 v4 ) := by
  unfold x25_isIn_j32
  refine x_iload_n (μ := mu_x25_isIn) (pc := 32) 3 dX25_isIn_32 rfl ?_
  refine x_if_ne (μ := mu_x25_isIn) (pc := 33) (tgt := 43) dX25_isIn_33 rfl hv3 ?_ ?_
  · refine x_loc (lv' := [(0, vR v0), (1, vI v1), (2, vI v2), (3, vI v3)]) [0, 1, 2, 3] rfl ?_
    exact okj_x25_isIn_j43 hl hdp hv1 hv2 hv3
  · refine x_iload (μ := mu_x25_isIn) (pc := 36) 4 dX25_isIn_36 rfl ?_
    refine x_if_ne (μ := mu_x25_isIn) (pc := 38) (tgt := 43) dX25_isIn_38 rfl hv4 ?_ ?_
    · refine x_loc (lv' := [(0, vR v0), (1, vI v1), (2, vI v2), (3, vI v3)]) [0, 1, 2, 3] rfl ?_
      exact okj_x25_isIn_j43 hl hdp hv1 hv2 hv3
    · refine x_iconst (μ := mu_x25_isIn) (pc := 41) dX25_isIn_41 ?_
      exact x_zret (μ := mu_x25_isIn) (pc := 42) dX25_isIn_42 rfl (by decide) rfl (gRel_E.1 _) (show g32 0 from (by decide))
def x25_isIn (N : Nat) (v0 : Nat) (v1 : Int) (v2 : Int) (σ : gMem) : Option Int := if mT σ v0 = 23 then (x25_has N (mR σ v0 1) v1 v2 σ).bind (fun x2 => (x25_has N (mR σ v0 2) v1 v2 σ).bind (fun x4 => if x2 = 0 then x25_isIn_j32 N σ v0 v1 v2 x2 x4  else if x4 = 0 then x25_isIn_j32 N σ v0 v1 v2 x2 x4  else some 1)) else none
set_option maxRecDepth 100000 in
theorem ok_x25_isIn {ω : gW} {l : Launch} {d : Nat} {N : Nat} {σ : gMem} {v0 : Nat} {v1 : Int} {v2 : Int} (hl : l.stackTraces = false) (hdp : 69 ≤ d) (hv1 : g32 v1) (hv2 : g32 v2) : gK (fun x : Int => (.inl (some (vI x)), σ)) gE ω l d mu_x25_isIn [vR v0, vI v1, vI v2] σ (x25_isIn N v0 v1 v2 σ) := by
  refine gK.of hp_X25 (Nat.le_of_ble_eq_true rfl) ?_
  unfold x25_isIn
  refine x_aload_n (μ := mu_x25_isIn) (pc := 0) 0 dX25_isIn_0 rfl ?_
  refine x_if (fun hT1 => ?_)
  refine x_fgr (μ := mu_x25_isIn) (pc := 1) fX25_1 (by first | exact Or.inl ⟨_, rfl⟩ | exact Or.inr ⟨_, rfl⟩) q2471 dX25_isIn_1 hT1 ?_
  refine x_iload_n (μ := mu_x25_isIn) (pc := 4) 1 dX25_isIn_4 rfl ?_
  refine x_iload_n (μ := mu_x25_isIn) (pc := 5) 2 dX25_isIn_5 rfl ?_
  refine x_callS_pi (μ := mu_x25_isIn) (pc := 6) (ok_x25_has (ω := ω) (l := l) (d := d - 1) hl (by omega) hv1 hv2) gRel_E gRel_E (fun _ q => q) q2506 q2507 q266 q2508 dX25_isIn_6 hy_x25_has (by omega) (Nat.le_of_ble_eq_true rfl) rfl (Nat.le_of_ble_eq_true rfl) (fun x2 hr3 => ?_)
  refine x_istore_n (μ := mu_x25_isIn) (pc := 9) (lv' := [(3, vI x2), (0, vR v0), (1, vI v1), (2, vI v2)]) dX25_isIn_9 rfl (by decide) rfl ?_
  refine x_aload_n (μ := mu_x25_isIn) (pc := 10) 1 dX25_isIn_10 rfl ?_
  refine x_fgr (μ := mu_x25_isIn) (pc := 11) fX25_2 (by first | exact Or.inl ⟨_, rfl⟩ | exact Or.inr ⟨_, rfl⟩) q2472 dX25_isIn_11 hT1 ?_
  refine x_iload_n (μ := mu_x25_isIn) (pc := 14) 2 dX25_isIn_14 rfl ?_
  refine x_iload_n (μ := mu_x25_isIn) (pc := 15) 3 dX25_isIn_15 rfl ?_
  refine x_callS_pi (μ := mu_x25_isIn) (pc := 16) (ok_x25_has (ω := ω) (l := l) (d := d - 1) hl (by omega) hv1 hv2) gRel_E gRel_E (fun _ q => q) q2506 q2507 q266 q2508 dX25_isIn_16 hy_x25_has (by omega) (Nat.le_of_ble_eq_true rfl) rfl (Nat.le_of_ble_eq_true rfl) (fun x4 hr5 => ?_)
  refine x_istore (μ := mu_x25_isIn) (pc := 19) (lv' := [(4, vI x4), (3, vI x2), (0, vR v0), (1, vI v1), (2, vI v2)]) dX25_isIn_19 (by decide) rfl ?_
  refine x_iload_n (μ := mu_x25_isIn) (pc := 21) 1 dX25_isIn_21 rfl ?_
  refine x_if_eq (μ := mu_x25_isIn) (pc := 22) (tgt := 32) dX25_isIn_22 rfl hr3 ?_ ?_
  · refine x_loc (lv' := [(0, vR v0), (1, vI v1), (2, vI v2), (3, vI x2), (4, vI x4)]) [2, 3, 4, 1, 0] rfl ?_
    exact okj_x25_isIn_j32 hl hdp hv1 hv2 hr3 hr5
  · refine x_iload (μ := mu_x25_isIn) (pc := 25) 0 dX25_isIn_25 rfl ?_
    refine x_if_eq (μ := mu_x25_isIn) (pc := 27) (tgt := 32) dX25_isIn_27 rfl hr5 ?_ ?_
    · refine x_loc (lv' := [(0, vR v0), (1, vI v1), (2, vI v2), (3, vI x2), (4, vI x4)]) [2, 3, 4, 1, 0] rfl ?_
      exact okj_x25_isIn_j32 hl hdp hv1 hv2 hr3 hr5
    · refine x_iconst (μ := mu_x25_isIn) (pc := 30) dX25_isIn_30 ?_
      exact x_zret (μ := mu_x25_isIn) (pc := 31) dX25_isIn_31 rfl (by decide) rfl (gRel_E.1 _) (show g32 1 from (by decide))
def x4_find_l2 (N : Nat) (v0 : Nat) (v1 : Nat) (K : gMem → Option gMem) : Nat → Int → gMem → Option gMem
  | 0, _, _ => none
  | n + 1, v2, s => if mT s v0 = 4 then if mT s (mR s v0 0) = 101 then if w32 (mN s (mR s v0 0) : Int) ≤ v2 then K s else if 0 ≤ v2 ∧ v2 < (mN s (mR s v0 0) : Int) then gLet (wL s (mR s v0 0) v2.toNat (((0 : Fin 2) : Nat) : Int)) (fun s3 => x4_find_l2 N v0 v1 K n (w32 (v2 + 1)) s3) else none else none else none
set_option maxRecDepth 100000 in
theorem okl_x4_find_l2 {ω : gW} {l : Launch} {d : Nat} {N : Nat} {σ0 : gMem} {v0 : Nat} {v1 : Nat} {K : gMem → Option gMem} (hl : l.stackTraces = false) (hdp : 68 ≤ d) (hK : ∀ (s : gMem) , GG (fun p : gMem => (.inl none, p)) gE ω l d mu_x4_find σ0 24 [(0, vR v0), (1, vR v1)] [] s (K s)) : ∀ (n : Nat) (v2 : Int) (s : gMem) , g32 v2 → GG (fun p : gMem => (.inl none, p)) gE ω l d mu_x4_find σ0 2 [(0, vR v0), (1, vR v1), (2, vI v2)] [] s (x4_find_l2 N v0 v1 K n v2 s) := by
  intro n
  induction n with
  | zero => intros; exact x_none
  | succ n ih =>
    intro v2 s hv2
    unfold x4_find_l2
    refine x_iload_n (μ := mu_x4_find) (pc := 2) 2 dX4_find_2 rfl ?_
    refine x_aload_n (μ := mu_x4_find) (pc := 3) 0 dX4_find_3 rfl ?_
    refine x_if (fun hT1 => ?_)
    refine x_fgr (μ := mu_x4_find) (pc := 4) fX4_0 (by first | exact Or.inl ⟨_, rfl⟩ | exact Or.inr ⟨_, rfl⟩) q320 dX4_find_4 hT1 ?_
    refine x_if (fun hT2 => ?_)
    refine x_len (μ := mu_x4_find) (pc := 7) 1 (fun _ => rfl) dX4_find_7 hT2 ?_
    refine x_w1 ?_
    refine x_icmp_ge (μ := mu_x4_find) (pc := 8) (tgt := 24) dX4_find_8 rfl hv2 (w32_rng _) ?_ ?_
    · refine x_loc (lv' := [(0, vR v0), (1, vR v1)]) [0, 1] rfl ?_
      exact hK s
    · refine x_aload_n (μ := mu_x4_find) (pc := 11) 0 dX4_find_11 rfl ?_
      refine x_fgr (μ := mu_x4_find) (pc := 12) fX4_0 (by first | exact Or.inl ⟨_, rfl⟩ | exact Or.inr ⟨_, rfl⟩) q320 dX4_find_12 hT1 ?_
      refine x_iload_n (μ := mu_x4_find) (pc := 15) 2 dX4_find_15 rfl ?_
      refine x_lconst (μ := mu_x4_find) (pc := 16) dX4_find_16 ?_
      refine x_last (μ := mu_x4_find) (pc := 17) dX4_find_17 hT2 rfl (fun _ _ q => gE_wL q) ?_
      refine x_let (fun s3 e4 => ?_)
      refine x_iincw (μ := mu_x4_find) (pc := 18) (lv' := [(2, vI (w32 (v2 + 1))), (0, vR v0), (1, vR v1)]) 2 dX4_find_18 rfl (by decide) rfl ?_
      refine x_goto (μ := mu_x4_find) (pc := 21) (tgt := 2) dX4_find_21 rfl ?_
      refine x_loc (lv' := [(0, vR v0), (1, vR v1), (2, vI (w32 (v2 + 1)))]) [1, 2, 0] rfl ?_
      exact ih (w32 (v2 + 1)) s3 (w32_rng _)
def x4_find_l37_j91 (N : Nat) (v0 : Nat) (v1 : Nat) (v2 : Int) (v3 : Int) (Kh : Int → gMem → Option gMem) (K : gMem → Option gMem) (s : gMem) : Option gMem := Kh (w32 (v3 + 1)) s
set_option maxRecDepth 100000 in
theorem okj_x4_find_l37_j91 {ω : gW} {l : Launch} {d : Nat} {N : Nat} {σ0 : gMem} {s : gMem} {v0 : Nat} {v1 : Nat} {v2 : Int} {v3 : Int} {Kh : Int → gMem → Option gMem} {K : gMem → Option gMem} (hl : l.stackTraces = false) (hdp : 68 ≤ d) (hv2 : g32 v2) (hv3 : g32 v3) (hKh : ∀ (v3 : Int) (s : gMem) , g32 v3 → GG (fun p : gMem => (.inl none, p)) gE ω l d mu_x4_find σ0 37 [(0, vR v0), (1, vR v1), (2, vI v2), (3, vI v3)] [] s (Kh v3 s)) (hK : ∀ (s : gMem) , GG (fun p : gMem => (.inl none, p)) gE ω l d mu_x4_find σ0 97 [(0, vR v0), (1, vR v1), (2, vI v2)] [] s (K s)) : GG (fun p : gMem => (.inl none, p)) gE ω l d mu_x4_find σ0 91 [(0, vR v0), (1, vR v1), (2, vI v2), (3, vI v3)] [] s (x4_find_l37_j91 N v0 v1 v2 v3 Kh K s) := by
  unfold x4_find_l37_j91
  refine x_iincw (μ := mu_x4_find) (pc := 91) (lv' := [(3, vI (w32 (v3 + 1))), (0, vR v0), (1, vR v1), (2, vI v2)]) 3 dX4_find_91 rfl (by decide) rfl ?_
  refine x_goto (μ := mu_x4_find) (pc := 94) (tgt := 37) dX4_find_94 rfl ?_
  refine x_loc (lv' := [(0, vR v0), (1, vR v1), (2, vI v2), (3, vI (w32 (v3 + 1)))]) [1, 2, 3, 0] rfl ?_
  exact hKh (w32 (v3 + 1)) s (w32_rng _)
def x4_find_l37 (N : Nat) (v0 : Nat) (v1 : Nat) (v2 : Int) (K : gMem → Option gMem) : Nat → Int → gMem → Option gMem
  | 0, _, _ => none
  | n + 1, v3, s => if mT s v1 = 8 then if mT s (mR s v1 1) = 100 then if w32 (mN s (mR s v1 1) : Int) ≤ v3 then K s else if mT s v0 = 4 then gLet (wI s v0 9 (w32 ((10 * v2) + v3))) (fun s11 => if mT s11 (mR s11 v1 2) = 111 then if 0 ≤ v2 ∧ v2 < (mN s11 (mR s11 v1 2) : Int) then if mT s11 (mR s11 (mR s11 v1 2) v2.toNat) = 110 then if 0 ≤ v3 ∧ v3 < (mN s11 (mR s11 (mR s11 v1 2) v2.toNat) : Int) then if mR s11 (mR s11 (mR s11 v1 2) v2.toNat) v3.toNat = 0 ∨ gNode (mT s11 (mR s11 (mR s11 (mR s11 v1 2) v2.toNat) v3.toNat)) = true then if mT s11 (mR s11 (mR s11 (mR s11 v1 2) v2.toNat) v3.toNat) = 21 then if 0 ≤ v2 ∧ v2 < (mN s11 (mR s11 v1 2) : Int) then if 0 ≤ v3 ∧ v3 < (mN s11 (mR s11 (mR s11 v1 2) v2.toNat) : Int) then if mR s11 (mR s11 (mR s11 v1 2) v2.toNat) v3.toNat = 0 ∨ mT s11 (mR s11 (mR s11 (mR s11 v1 2) v2.toNat) v3.toNat) = 21 then if mT s11 (mR s11 (mR s11 (mR s11 v1 2) v2.toNat) v3.toNat) = 21 then (dp_Part_leads N 64 (mR s11 (mR s11 (mR s11 (mR s11 v1 2) v2.toNat) v3.toNat) 0) v0 v1 s11).bind (fun x18 => x4_find_l37_j91 N v0 v1 v2 v3  (x4_find_l37 N v0 v1 v2 K n) K x18) else none else none else none else none else x4_find_l37_j91 N v0 v1 v2 v3  (x4_find_l37 N v0 v1 v2 K n) K s11 else none else none else none else none else none) else none else none else none
set_option maxRecDepth 100000 in
theorem okl_x4_find_l37 {ω : gW} {l : Launch} {d : Nat} {N : Nat} {σ0 : gMem} {v0 : Nat} {v1 : Nat} {v2 : Int} {K : gMem → Option gMem} (hl : l.stackTraces = false) (hdp : 68 ≤ d) (hv2 : g32 v2) (hK : ∀ (s : gMem) , GG (fun p : gMem => (.inl none, p)) gE ω l d mu_x4_find σ0 97 [(0, vR v0), (1, vR v1), (2, vI v2)] [] s (K s)) : ∀ (n : Nat) (v3 : Int) (s : gMem) , g32 v3 → GG (fun p : gMem => (.inl none, p)) gE ω l d mu_x4_find σ0 37 [(0, vR v0), (1, vR v1), (2, vI v2), (3, vI v3)] [] s (x4_find_l37 N v0 v1 v2 K n v3 s) := by
  intro n
  induction n with
  | zero => intros; exact x_none
  | succ n ih =>
    intro v3 s hv3
    unfold x4_find_l37
    refine x_iload_n (μ := mu_x4_find) (pc := 37) 3 dX4_find_37 rfl ?_
    refine x_aload_n (μ := mu_x4_find) (pc := 38) 1 dX4_find_38 rfl ?_
    refine x_if (fun hT8 => ?_)
    refine x_fgrN (μ := mu_x4_find) (pc := 39) fX9_1 (by first | exact Or.inl ⟨_, rfl⟩ | exact Or.inr ⟨_, rfl⟩) q574 dX4_find_39 hT8 ?_
    refine x_if (fun hT9 => ?_)
    refine x_len (μ := mu_x4_find) (pc := 42) 0 (fun _ => rfl) dX4_find_42 hT9 ?_
    refine x_w1 ?_
    refine x_icmp_ge (μ := mu_x4_find) (pc := 43) (tgt := 97) dX4_find_43 rfl hv3 (w32_rng _) ?_ ?_
    · refine x_loc (lv' := [(0, vR v0), (1, vR v1), (2, vI v2)]) [0, 1, 2] rfl ?_
      exact hK s
    · refine x_aload_n (μ := mu_x4_find) (pc := 46) 0 dX4_find_46 rfl ?_
      refine x_bipush (μ := mu_x4_find) (pc := 47) dX4_find_47 (by decide) ?_
      refine x_iload_n (μ := mu_x4_find) (pc := 49) 2 dX4_find_49 rfl ?_
      refine x_imul (μ := mu_x4_find) (pc := 50) dX4_find_50 ?_
      refine x_iload_n (μ := mu_x4_find) (pc := 51) 3 dX4_find_51 rfl ?_
      refine x_iadd (μ := mu_x4_find) (pc := 52) dX4_find_52 ?_
      refine x_w1 ?_
      refine x_if (fun hT10 => ?_)
      refine x_fpi (μ := mu_x4_find) (pc := 53) fX4_9 q331 dX4_find_53 hT10 (fun _ q => gE_wI q) ?_
      refine x_let (fun s11 e12 => ?_)
      refine x_aload_n (μ := mu_x4_find) (pc := 56) 1 dX4_find_56 rfl ?_
      refine x_fgrN (μ := mu_x4_find) (pc := 57) fX9_2 (by first | exact Or.inl ⟨_, rfl⟩ | exact Or.inr ⟨_, rfl⟩) q579 dX4_find_57 (gT_I e12 hT8) ?_
      refine x_iload_n (μ := mu_x4_find) (pc := 60) 2 dX4_find_60 rfl ?_
      refine x_if (fun hT13 => ?_)
      refine x_aald (μ := mu_x4_find) (pc := 61) 11 (fun _ => rfl) rfl rfl dX4_find_61 hT13 rfl ?_
      refine x_iload_n (μ := mu_x4_find) (pc := 62) 3 dX4_find_62 rfl ?_
      refine x_if (fun hT14 => ?_)
      refine x_aald (μ := mu_x4_find) (pc := 63) 10 (fun _ => rfl) rfl rfl dX4_find_63 hT14 rfl ?_
      refine x_if (fun hg15 => ?_)
      refine x_inst (μ := mu_x4_find) (pc := 64) (ci := 20) (by decide) rfl q840 dX4_find_64 hg15 ?_ ?_
      · refine x_if_eqF (μ := mu_x4_find) (pc := 67) (tgt := 91) dX4_find_67 rfl (by decide) (by decide) ?_
        refine x_aload_n (μ := mu_x4_find) (pc := 70) 1 dX4_find_70 rfl ?_
        refine x_fgrN (μ := mu_x4_find) (pc := 71) fX9_2 (by first | exact Or.inl ⟨_, rfl⟩ | exact Or.inr ⟨_, rfl⟩) q579 dX4_find_71 (gT_I e12 hT8) ?_
        refine x_iload_n (μ := mu_x4_find) (pc := 74) 2 dX4_find_74 rfl ?_
        refine x_aald (μ := mu_x4_find) (pc := 75) 11 (fun _ => rfl) rfl rfl dX4_find_75 hT13 rfl ?_
        refine x_iload_n (μ := mu_x4_find) (pc := 76) 3 dX4_find_76 rfl ?_
        refine x_aald (μ := mu_x4_find) (pc := 77) 10 (fun _ => rfl) rfl rfl dX4_find_77 hT14 rfl ?_
        refine x_if (fun hg16 => ?_)
        refine x_castC (μ := mu_x4_find) (pc := 78) (ci := 20) rfl q840 dX4_find_78 hg16 ?_
        refine x_if (fun hT17 => ?_)
        refine x_fgrN (μ := mu_x4_find) (pc := 81) fX23_0 (by first | exact Or.inl ⟨_, rfl⟩ | exact Or.inr ⟨_, rfl⟩) q2108 dX4_find_81 hT17 ?_
        refine x_aload_n (μ := mu_x4_find) (pc := 84) 0 dX4_find_84 rfl ?_
        refine x_aload_n (μ := mu_x4_find) (pc := 85) 1 dX4_find_85 rfl ?_
        refine x_callF_mv (μ := mu_x4_find) (pc := 86) (ok_dp_Part_leads (ω := ω) (l := l) (d := d - 1) hl 64 (mR s11 (mR s11 (mR s11 (mR s11 v1 2) v2.toNat) v3.toNat) 0) v0 v1 s11 (by omega)) gRel_E gRel_E (fun _ q => q) q842 dX4_find_86 iy_Part_leads_hy (by omega) rfl (Nat.le_of_ble_eq_true rfl) (fun x18 k19 => ?_)
        exact okj_x4_find_l37_j91 hl hdp hv2 hv3 ih hK
      · refine x_if_eqT (μ := mu_x4_find) (pc := 67) (tgt := 91) dX4_find_67 rfl (by decide) (by decide) ?_
        exact okj_x4_find_l37_j91 hl hdp hv2 hv3 ih hK
def x4_find_l26 (N : Nat) (v0 : Nat) (v1 : Nat) (K : gMem → Option gMem) : Nat → Int → gMem → Option gMem
  | 0, _, _ => none
  | n + 1, v2, s => if mT s v1 = 8 then if mT s (mR s v1 0) = 100 then if w32 (mN s (mR s v1 0) : Int) ≤ v2 then K s else x4_find_l37 N v0 v1 v2 (fun s20 => x4_find_l26 N v0 v1 K n (w32 (v2 + 1)) s20) N 0 s else none else none
set_option maxRecDepth 100000 in
theorem okl_x4_find_l26 {ω : gW} {l : Launch} {d : Nat} {N : Nat} {σ0 : gMem} {v0 : Nat} {v1 : Nat} {K : gMem → Option gMem} (hl : l.stackTraces = false) (hdp : 68 ≤ d) (hK : ∀ (s : gMem) , GG (fun p : gMem => (.inl none, p)) gE ω l d mu_x4_find σ0 103 [(0, vR v0), (1, vR v1)] [] s (K s)) : ∀ (n : Nat) (v2 : Int) (s : gMem) , g32 v2 → GG (fun p : gMem => (.inl none, p)) gE ω l d mu_x4_find σ0 26 [(0, vR v0), (1, vR v1), (2, vI v2)] [] s (x4_find_l26 N v0 v1 K n v2 s) := by
  intro n
  induction n with
  | zero => intros; exact x_none
  | succ n ih =>
    intro v2 s hv2
    unfold x4_find_l26
    refine x_iload_n (μ := mu_x4_find) (pc := 26) 2 dX4_find_26 rfl ?_
    refine x_aload_n (μ := mu_x4_find) (pc := 27) 1 dX4_find_27 rfl ?_
    refine x_if (fun hT6 => ?_)
    refine x_fgrN (μ := mu_x4_find) (pc := 28) fX9_0 (by first | exact Or.inl ⟨_, rfl⟩ | exact Or.inr ⟨_, rfl⟩) q569 dX4_find_28 hT6 ?_
    refine x_if (fun hT7 => ?_)
    refine x_len (μ := mu_x4_find) (pc := 31) 0 (fun _ => rfl) dX4_find_31 hT7 ?_
    refine x_w1 ?_
    refine x_icmp_ge (μ := mu_x4_find) (pc := 32) (tgt := 103) dX4_find_32 rfl hv2 (w32_rng _) ?_ ?_
    · refine x_loc (lv' := [(0, vR v0), (1, vR v1)]) [0, 1] rfl ?_
      exact hK s
    · refine x_iconst (μ := mu_x4_find) (pc := 35) dX4_find_35 ?_
      refine x_istore_n (μ := mu_x4_find) (pc := 36) (lv' := [(3, vI 0), (0, vR v0), (1, vR v1), (2, vI v2)]) dX4_find_36 rfl (by decide) rfl ?_
      refine x_loc (lv' := [(0, vR v0), (1, vR v1), (2, vI v2), (3, vI 0)]) [1, 2, 3, 0] rfl ?_
      refine okl_x4_find_l37 hl hdp hv2 (fun s20 => ?_) N 0 s (by decide)
      refine x_iincw (μ := mu_x4_find) (pc := 97) (lv' := [(2, vI (w32 (v2 + 1))), (0, vR v0), (1, vR v1)]) 2 dX4_find_97 rfl (by decide) rfl ?_
      refine x_goto (μ := mu_x4_find) (pc := 100) (tgt := 26) dX4_find_100 rfl ?_
      refine x_loc (lv' := [(0, vR v0), (1, vR v1), (2, vI (w32 (v2 + 1)))]) [1, 2, 0] rfl ?_
      exact ih (w32 (v2 + 1)) s20 (w32_rng _)
def x4_find_l120 (N : Nat) (v0 : Nat) (v1 : Nat) (K : gMem → Option gMem) : Nat → Int → gMem → Option gMem
  | 0, _, _ => none
  | n + 1, v2, s => if 320 ≤ v2 then K s else if mT s v0 = 4 then if mT s (mR s v0 2) = 100 then if 0 ≤ v2 ∧ v2 < (mN s (mR s v0 2) : Int) then gLet (wI s (mR s v0 2) v2.toNat (-1)) (fun s31 => if mT s31 (mR s31 v0 8) = 103 then if 0 ≤ v2 ∧ v2 < (mN s31 (mR s31 v0 8) : Int) then gLet (wI s31 (mR s31 v0 8) v2.toNat 0) (fun s34 => if mT s34 (mR s34 v0 7) = 103 then if 0 ≤ v2 ∧ v2 < (mN s34 (mR s34 v0 7) : Int) then gLet (wI s34 (mR s34 v0 7) v2.toNat 0) (fun s37 => x4_find_l120 N v0 v1 K n (w32 (v2 + 1)) s37) else none else none) else none else none) else none else none else none
set_option maxRecDepth 100000 in
theorem okl_x4_find_l120 {ω : gW} {l : Launch} {d : Nat} {N : Nat} {σ0 : gMem} {v0 : Nat} {v1 : Nat} {K : gMem → Option gMem} (hl : l.stackTraces = false) (hdp : 68 ≤ d) (hK : ∀ (s : gMem) , GG (fun p : gMem => (.inl none, p)) gE ω l d mu_x4_find σ0 154 [(0, vR v0), (1, vR v1)] [] s (K s)) : ∀ (n : Nat) (v2 : Int) (s : gMem) , g32 v2 → GG (fun p : gMem => (.inl none, p)) gE ω l d mu_x4_find σ0 120 [(0, vR v0), (1, vR v1), (2, vI v2)] [] s (x4_find_l120 N v0 v1 K n v2 s) := by
  intro n
  induction n with
  | zero => intros; exact x_none
  | succ n ih =>
    intro v2 s hv2
    unfold x4_find_l120
    refine x_iload_n (μ := mu_x4_find) (pc := 120) 2 dX4_find_120 rfl ?_
    refine x_sipush (μ := mu_x4_find) (pc := 121) dX4_find_121 (by decide) ?_
    refine x_icmp_ge (μ := mu_x4_find) (pc := 124) (tgt := 154) dX4_find_124 rfl hv2 (by decide) ?_ ?_
    · refine x_loc (lv' := [(0, vR v0), (1, vR v1)]) [0, 1] rfl ?_
      exact hK s
    · refine x_aload_n (μ := mu_x4_find) (pc := 127) 0 dX4_find_127 rfl ?_
      refine x_if (fun hT29 => ?_)
      refine x_fgr (μ := mu_x4_find) (pc := 128) fX4_2 (by first | exact Or.inl ⟨_, rfl⟩ | exact Or.inr ⟨_, rfl⟩) q323 dX4_find_128 hT29 ?_
      refine x_iload_n (μ := mu_x4_find) (pc := 131) 2 dX4_find_131 rfl ?_
      refine x_iconst (μ := mu_x4_find) (pc := 132) dX4_find_132 ?_
      refine x_if (fun hT30 => ?_)
      refine x_iast (μ := mu_x4_find) (pc := 133) dX4_find_133 hT30 rfl (fun _ _ q => gE_wI q) ?_
      refine x_let (fun s31 e32 => ?_)
      refine x_aload_n (μ := mu_x4_find) (pc := 134) 0 dX4_find_134 rfl ?_
      refine x_fgr (μ := mu_x4_find) (pc := 135) fX4_8 (by first | exact Or.inl ⟨_, rfl⟩ | exact Or.inr ⟨_, rfl⟩) q329 dX4_find_135 (gT_I e32 hT29) ?_
      refine x_iload_n (μ := mu_x4_find) (pc := 138) 2 dX4_find_138 rfl ?_
      refine x_iconst (μ := mu_x4_find) (pc := 139) dX4_find_139 ?_
      refine x_if (fun hT33 => ?_)
      refine x_zast (μ := mu_x4_find) (pc := 140) dX4_find_140 hT33 rfl (by decide) (fun _ _ q => gE_wI q) ?_
      refine x_let (fun s34 e35 => ?_)
      refine x_aload_n (μ := mu_x4_find) (pc := 141) 0 dX4_find_141 rfl ?_
      refine x_fgr (μ := mu_x4_find) (pc := 142) fX4_7 (by first | exact Or.inl ⟨_, rfl⟩ | exact Or.inr ⟨_, rfl⟩) q328 dX4_find_142 (gT_I e35 (gT_I e32 hT29)) ?_
      refine x_iload_n (μ := mu_x4_find) (pc := 145) 2 dX4_find_145 rfl ?_
      refine x_iconst (μ := mu_x4_find) (pc := 146) dX4_find_146 ?_
      refine x_if (fun hT36 => ?_)
      refine x_zast (μ := mu_x4_find) (pc := 147) dX4_find_147 hT36 rfl (by decide) (fun _ _ q => gE_wI q) ?_
      refine x_let (fun s37 e38 => ?_)
      refine x_iincw (μ := mu_x4_find) (pc := 148) (lv' := [(2, vI (w32 (v2 + 1))), (0, vR v0), (1, vR v1)]) 2 dX4_find_148 rfl (by decide) rfl ?_
      refine x_goto (μ := mu_x4_find) (pc := 151) (tgt := 120) dX4_find_151 rfl ?_
      refine x_loc (lv' := [(0, vR v0), (1, vR v1), (2, vI (w32 (v2 + 1)))]) [1, 2, 0] rfl ?_
      exact ih (w32 (v2 + 1)) s37 (w32_rng _)
def x4_find_l167_j201 (N : Nat) (v0 : Nat) (v1 : Nat) (v2 : Int) (v3 : Int) (Kh : Int → gMem → Option gMem) (K : gMem → Option gMem) (s : gMem) : Option gMem := Kh (w32 (v3 + 1)) s
set_option maxRecDepth 100000 in
theorem okj_x4_find_l167_j201 {ω : gW} {l : Launch} {d : Nat} {N : Nat} {σ0 : gMem} {s : gMem} {v0 : Nat} {v1 : Nat} {v2 : Int} {v3 : Int} {Kh : Int → gMem → Option gMem} {K : gMem → Option gMem} (hl : l.stackTraces = false) (hdp : 68 ≤ d) (hv2 : g32 v2) (hv3 : g32 v3) (hKh : ∀ (v3 : Int) (s : gMem) , g32 v3 → GG (fun p : gMem => (.inl none, p)) gE ω l d mu_x4_find σ0 167 [(0, vR v0), (1, vR v1), (2, vI v2), (3, vI v3)] [] s (Kh v3 s)) (hK : ∀ (s : gMem) , GG (fun p : gMem => (.inl none, p)) gE ω l d mu_x4_find σ0 207 [(0, vR v0), (1, vR v1), (2, vI v2)] [] s (K s)) : GG (fun p : gMem => (.inl none, p)) gE ω l d mu_x4_find σ0 201 [(0, vR v0), (1, vR v1), (2, vI v2), (3, vI v3)] [] s (x4_find_l167_j201 N v0 v1 v2 v3 Kh K s) := by
  unfold x4_find_l167_j201
  refine x_iincw (μ := mu_x4_find) (pc := 201) (lv' := [(3, vI (w32 (v3 + 1))), (0, vR v0), (1, vR v1), (2, vI v2)]) 3 dX4_find_201 rfl (by decide) rfl ?_
  refine x_goto (μ := mu_x4_find) (pc := 204) (tgt := 167) dX4_find_204 rfl ?_
  refine x_loc (lv' := [(0, vR v0), (1, vR v1), (2, vI v2), (3, vI (w32 (v3 + 1)))]) [1, 2, 3, 0] rfl ?_
  exact hKh (w32 (v3 + 1)) s (w32_rng _)
def x4_find_l167 (N : Nat) (v0 : Nat) (v1 : Nat) (v2 : Int) (K : gMem → Option gMem) : Nat → Int → gMem → Option gMem
  | 0, _, _ => none
  | n + 1, v3, s => if mT s v1 = 8 then if mT s (mR s v1 1) = 100 then if w32 (mN s (mR s v1 1) : Int) ≤ v3 then K s else if mT s v0 = 4 then if mT s (mR s v0 2) = 100 then if 0 ≤ ((10 * v2) + v3) ∧ ((10 * v2) + v3) < (mN s (mR s v0 2) : Int) then if mI s (mR s v0 2) ((10 * v2) + v3).toNat ≠ (-1) then x4_find_l167_j201 N v0 v1 v2 v3  (x4_find_l167 N v0 v1 v2 K n) K s else (x4_walk N v0 (w32 ((10 * v2) + v3)) s).bind (fun x47 => x4_find_l167_j201 N v0 v1 v2 v3  (x4_find_l167 N v0 v1 v2 K n) K x47) else none else none else none else none else none
set_option maxRecDepth 100000 in
theorem okl_x4_find_l167 {ω : gW} {l : Launch} {d : Nat} {N : Nat} {σ0 : gMem} {v0 : Nat} {v1 : Nat} {v2 : Int} {K : gMem → Option gMem} (hl : l.stackTraces = false) (hdp : 68 ≤ d) (hv2 : g32 v2) (hK : ∀ (s : gMem) , GG (fun p : gMem => (.inl none, p)) gE ω l d mu_x4_find σ0 207 [(0, vR v0), (1, vR v1), (2, vI v2)] [] s (K s)) : ∀ (n : Nat) (v3 : Int) (s : gMem) , g32 v3 → GG (fun p : gMem => (.inl none, p)) gE ω l d mu_x4_find σ0 167 [(0, vR v0), (1, vR v1), (2, vI v2), (3, vI v3)] [] s (x4_find_l167 N v0 v1 v2 K n v3 s) := by
  intro n
  induction n with
  | zero => intros; exact x_none
  | succ n ih =>
    intro v3 s hv3
    unfold x4_find_l167
    refine x_iload_n (μ := mu_x4_find) (pc := 167) 3 dX4_find_167 rfl ?_
    refine x_aload_n (μ := mu_x4_find) (pc := 168) 1 dX4_find_168 rfl ?_
    refine x_if (fun hT42 => ?_)
    refine x_fgrN (μ := mu_x4_find) (pc := 169) fX9_1 (by first | exact Or.inl ⟨_, rfl⟩ | exact Or.inr ⟨_, rfl⟩) q574 dX4_find_169 hT42 ?_
    refine x_if (fun hT43 => ?_)
    refine x_len (μ := mu_x4_find) (pc := 172) 0 (fun _ => rfl) dX4_find_172 hT43 ?_
    refine x_w1 ?_
    refine x_icmp_ge (μ := mu_x4_find) (pc := 173) (tgt := 207) dX4_find_173 rfl hv3 (w32_rng _) ?_ ?_
    · refine x_loc (lv' := [(0, vR v0), (1, vR v1), (2, vI v2)]) [0, 1, 2] rfl ?_
      exact hK s
    · refine x_aload_n (μ := mu_x4_find) (pc := 176) 0 dX4_find_176 rfl ?_
      refine x_if (fun hT44 => ?_)
      refine x_fgr (μ := mu_x4_find) (pc := 177) fX4_2 (by first | exact Or.inl ⟨_, rfl⟩ | exact Or.inr ⟨_, rfl⟩) q323 dX4_find_177 hT44 ?_
      refine x_bipush (μ := mu_x4_find) (pc := 180) dX4_find_180 (by decide) ?_
      refine x_iload_n (μ := mu_x4_find) (pc := 182) 2 dX4_find_182 rfl ?_
      refine x_imul (μ := mu_x4_find) (pc := 183) dX4_find_183 ?_
      refine x_iload_n (μ := mu_x4_find) (pc := 184) 3 dX4_find_184 rfl ?_
      refine x_iadd (μ := mu_x4_find) (pc := 185) dX4_find_185 ?_
      refine x_if (fun hT45 => ?_)
      refine x_iald (μ := mu_x4_find) (pc := 186) dX4_find_186 hT45 rfl (fun hr46 => ?_)
      refine x_iconst (μ := mu_x4_find) (pc := 187) dX4_find_187 ?_
      refine x_icmp_ne (μ := mu_x4_find) (pc := 188) (tgt := 201) dX4_find_188 rfl hr46 (by decide) ?_ ?_
      · exact okj_x4_find_l167_j201 hl hdp hv2 hv3 ih hK
      · refine x_aload_n (μ := mu_x4_find) (pc := 191) 0 dX4_find_191 rfl ?_
        refine x_bipush (μ := mu_x4_find) (pc := 192) dX4_find_192 (by decide) ?_
        refine x_iload_n (μ := mu_x4_find) (pc := 194) 2 dX4_find_194 rfl ?_
        refine x_imul (μ := mu_x4_find) (pc := 195) dX4_find_195 ?_
        refine x_iload_n (μ := mu_x4_find) (pc := 196) 3 dX4_find_196 rfl ?_
        refine x_iadd (μ := mu_x4_find) (pc := 197) dX4_find_197 ?_
        refine x_w1 ?_
        refine x_callV_mv (μ := mu_x4_find) (pc := 198) (ok_x4_walk (ω := ω) (l := l) (d := d - 1) hl (by omega) (w32_rng _)) gRel_E gRel_E (fun _ q => q) q936 q938 qs9 q224 q939 dX4_find_198 rfl hT44 hy_x4_walk (by omega) (Nat.le_of_ble_eq_true rfl) rfl (Nat.le_of_ble_eq_true rfl) (fun x47 k48 => ?_)
        exact okj_x4_find_l167_j201 hl hdp hv2 hv3 ih hK
def x4_find_l156 (N : Nat) (v0 : Nat) (v1 : Nat) (K : gMem → Option gMem) : Nat → Int → gMem → Option gMem
  | 0, _, _ => none
  | n + 1, v2, s => if mT s v1 = 8 then if mT s (mR s v1 0) = 100 then if w32 (mN s (mR s v1 0) : Int) ≤ v2 then K s else x4_find_l167 N v0 v1 v2 (fun s49 => x4_find_l156 N v0 v1 K n (w32 (v2 + 1)) s49) N 0 s else none else none
set_option maxRecDepth 100000 in
theorem okl_x4_find_l156 {ω : gW} {l : Launch} {d : Nat} {N : Nat} {σ0 : gMem} {v0 : Nat} {v1 : Nat} {K : gMem → Option gMem} (hl : l.stackTraces = false) (hdp : 68 ≤ d) (hK : ∀ (s : gMem) , GG (fun p : gMem => (.inl none, p)) gE ω l d mu_x4_find σ0 213 [] [] s (K s)) : ∀ (n : Nat) (v2 : Int) (s : gMem) , g32 v2 → GG (fun p : gMem => (.inl none, p)) gE ω l d mu_x4_find σ0 156 [(0, vR v0), (1, vR v1), (2, vI v2)] [] s (x4_find_l156 N v0 v1 K n v2 s) := by
  intro n
  induction n with
  | zero => intros; exact x_none
  | succ n ih =>
    intro v2 s hv2
    unfold x4_find_l156
    refine x_iload_n (μ := mu_x4_find) (pc := 156) 2 dX4_find_156 rfl ?_
    refine x_aload_n (μ := mu_x4_find) (pc := 157) 1 dX4_find_157 rfl ?_
    refine x_if (fun hT40 => ?_)
    refine x_fgrN (μ := mu_x4_find) (pc := 158) fX9_0 (by first | exact Or.inl ⟨_, rfl⟩ | exact Or.inr ⟨_, rfl⟩) q569 dX4_find_158 hT40 ?_
    refine x_if (fun hT41 => ?_)
    refine x_len (μ := mu_x4_find) (pc := 161) 0 (fun _ => rfl) dX4_find_161 hT41 ?_
    refine x_w1 ?_
    refine x_icmp_ge (μ := mu_x4_find) (pc := 162) (tgt := 213) dX4_find_162 rfl hv2 (w32_rng _) ?_ ?_
    · refine x_loc (lv' := []) [] rfl ?_
      exact hK s
    · refine x_iconst (μ := mu_x4_find) (pc := 165) dX4_find_165 ?_
      refine x_istore_n (μ := mu_x4_find) (pc := 166) (lv' := [(3, vI 0), (0, vR v0), (1, vR v1), (2, vI v2)]) dX4_find_166 rfl (by decide) rfl ?_
      refine x_loc (lv' := [(0, vR v0), (1, vR v1), (2, vI v2), (3, vI 0)]) [1, 2, 3, 0] rfl ?_
      refine okl_x4_find_l167 hl hdp hv2 (fun s49 => ?_) N 0 s (by decide)
      refine x_iincw (μ := mu_x4_find) (pc := 207) (lv' := [(2, vI (w32 (v2 + 1))), (0, vR v0), (1, vR v1)]) 2 dX4_find_207 rfl (by decide) rfl ?_
      refine x_goto (μ := mu_x4_find) (pc := 210) (tgt := 156) dX4_find_210 rfl ?_
      refine x_loc (lv' := [(0, vR v0), (1, vR v1), (2, vI (w32 (v2 + 1)))]) [1, 2, 0] rfl ?_
      exact ih (w32 (v2 + 1)) s49 (w32_rng _)
def x4_find (N : Nat) (v0 : Nat) (v1 : Nat) (σ : gMem) : Option gMem := x4_find_l2 N v0 v1 (fun s5 => x4_find_l26 N v0 v1 (fun s21 => if mT s21 v0 = 4 then gLet (wI s21 v0 10 0) (fun s23 => gLet (wI s23 v0 11 0) (fun s25 => gLet (wI s25 v0 12 0) (fun s27 => x4_find_l120 N v0 v1 (fun s39 => x4_find_l156 N v0 v1 (fun s50 => some s50) N 0 s39) N 0 s27))) else none) N 0 s5) N 0 σ
set_option maxRecDepth 100000 in
theorem ok_x4_find {ω : gW} {l : Launch} {d : Nat} {N : Nat} {σ : gMem} {v0 : Nat} {v1 : Nat} (hl : l.stackTraces = false) (hdp : 68 ≤ d) : gK (fun p : gMem => (.inl none, p)) gE ω l d mu_x4_find [vR v0, vR v1] σ (x4_find N v0 v1 σ) := by
  refine gK.of hp_X4 (Nat.le_of_ble_eq_true rfl) ?_
  unfold x4_find
  refine x_iconst (μ := mu_x4_find) (pc := 0) dX4_find_0 ?_
  refine x_istore_n (μ := mu_x4_find) (pc := 1) (lv' := [(2, vI 0), (0, vR v0), (1, vR v1)]) dX4_find_1 rfl (by decide) rfl ?_
  refine x_loc (lv' := [(0, vR v0), (1, vR v1), (2, vI 0)]) [1, 2, 0] rfl ?_
  refine okl_x4_find_l2 hl hdp (fun s5 => ?_) N 0 σ (by decide)
  refine x_iconst (μ := mu_x4_find) (pc := 24) dX4_find_24 ?_
  refine x_istore_n (μ := mu_x4_find) (pc := 25) (lv' := [(2, vI 0), (0, vR v0), (1, vR v1)]) dX4_find_25 rfl (by decide) rfl ?_
  refine x_loc (lv' := [(0, vR v0), (1, vR v1), (2, vI 0)]) [1, 2, 0] rfl ?_
  refine okl_x4_find_l26 hl hdp (fun s21 => ?_) N 0 s5 (by decide)
  refine x_aload_n (μ := mu_x4_find) (pc := 103) 0 dX4_find_103 rfl ?_
  refine x_iconst (μ := mu_x4_find) (pc := 104) dX4_find_104 ?_
  refine x_if (fun hT22 => ?_)
  refine x_fpi (μ := mu_x4_find) (pc := 105) fX4_10 q332 dX4_find_105 hT22 (fun _ q => gE_wI q) ?_
  refine x_let (fun s23 e24 => ?_)
  refine x_aload_n (μ := mu_x4_find) (pc := 108) 0 dX4_find_108 rfl ?_
  refine x_iconst (μ := mu_x4_find) (pc := 109) dX4_find_109 ?_
  refine x_fpi (μ := mu_x4_find) (pc := 110) fX4_11 q334 dX4_find_110 (gT_I e24 hT22) (fun _ q => gE_wI q) ?_
  refine x_let (fun s25 e26 => ?_)
  refine x_aload_n (μ := mu_x4_find) (pc := 113) 0 dX4_find_113 rfl ?_
  refine x_iconst (μ := mu_x4_find) (pc := 114) dX4_find_114 ?_
  refine x_fpi (μ := mu_x4_find) (pc := 115) fX4_12 q335 dX4_find_115 (gT_I e26 (gT_I e24 hT22)) (fun _ q => gE_wI q) ?_
  refine x_let (fun s27 e28 => ?_)
  refine x_iconst (μ := mu_x4_find) (pc := 118) dX4_find_118 ?_
  refine x_istore_n (μ := mu_x4_find) (pc := 119) (lv' := [(2, vI 0), (0, vR v0), (1, vR v1)]) dX4_find_119 rfl (by decide) rfl ?_
  refine x_loc (lv' := [(0, vR v0), (1, vR v1), (2, vI 0)]) [1, 2, 0] rfl ?_
  refine okl_x4_find_l120 hl hdp (fun s39 => ?_) N 0 s27 (by decide)
  refine x_iconst (μ := mu_x4_find) (pc := 154) dX4_find_154 ?_
  refine x_istore_n (μ := mu_x4_find) (pc := 155) (lv' := [(2, vI 0), (0, vR v0), (1, vR v1)]) dX4_find_155 rfl (by decide) rfl ?_
  refine x_loc (lv' := [(0, vR v0), (1, vR v1), (2, vI 0)]) [1, 2, 0] rfl ?_
  refine okl_x4_find_l156 hl hdp (fun s50 => ?_) N 0 s39 (by decide)
  exact x_vret (μ := mu_x4_find) (pc := 213) (a1 := s50) dX4_find_213 rfl rfl (gRel_E.1 _) trivial
def x6_chain_l5 (N : Nat) (W : Nat → gMem → Option gR) (v0 : Nat) (K : Nat → gMem → Option gR) : Nat → Nat → gMem → Option gR
  | 0, _, _ => none
  | n + 1, v1, s => if mT s v0 = 6 then (x6_peek N v0 s).bind (fun x6 => if x6.1 ≠ 38 then K v1 (x6.2) else gLet (wI (x6.2) v0 6 (w32 ((mI (x6.2) v0 6) + 1))) (fun s10 => (x6_sum N W v0 s10).bind (fun p => gThrR p (fun x12 s14 => (x6_two v0 (mR s10 0 26) v1 x12 s14).bind (fun x15 => x6_chain_l5 N W v0 K n (x15.1) (x15.2)))))) else none
set_option maxRecDepth 100000 in
theorem okl_x6_chain_l5 {ω : gW} {l : Launch} {d : Nat} {N : Nat} {W : Nat → gMem → Option gR} {dW : Nat} {σ0 : gMem} {v0 : Nat} {K : Nat → gMem → Option gR} (hl : l.stackTraces = false) (hW : ∀ (a0 : Nat) (s : gMem), gK (fun p : gR => p) gE ω l dW mu_x6_sign [vR a0] s (W a0 s)) (hdp : 6 ≤ d) (hdw : dW + 3 ≤ d) (hK : ∀ (v1 : Nat) (s : gMem) , GG (fun p : gR => p) gE ω l d mu_x6_chain σ0 40 [(1, vR v1)] [] s (K v1 s)) : ∀ (n : Nat) (v1 : Nat) (s : gMem) , GG (fun p : gR => p) gE ω l d mu_x6_chain σ0 5 [(0, vR v0), (1, vR v1)] [] s (x6_chain_l5 N W v0 K n v1 s) := by
  intro n
  induction n with
  | zero => intros; exact x_none
  | succ n ih =>
    intro v1 s
    unfold x6_chain_l5
    refine x_aload_n (μ := mu_x6_chain) (pc := 5) 0 dX6_chain_5 rfl ?_
    refine x_if (fun hT5 => ?_)
    refine x_callV_mi (μ := mu_x6_chain) (pc := 6) (ok_x6_peek (ω := ω) (l := l) (d := d - 1) hl (by omega) ) gRel_E gRel_E (fun _ q => q) q1811 q1813 qs34 q226 q1814 dX6_chain_6 rfl hT5 hy_x6_peek (by omega) (Nat.le_of_ble_eq_true rfl) rfl (Nat.le_of_ble_eq_true rfl) (fun x6 k8 hr7 => ?_)
    refine x_bipush (μ := mu_x6_chain) (pc := 9) dX6_chain_9 (by decide) ?_
    refine x_icmp_ne (μ := mu_x6_chain) (pc := 11) (tgt := 40) dX6_chain_11 rfl hr7 (by decide) ?_ ?_
    · refine x_loc (lv' := [(1, vR v1)]) [1] rfl ?_
      exact hK v1 (x6.2)
    · refine x_aload_n (μ := mu_x6_chain) (pc := 14) 0 dX6_chain_14 rfl ?_
      refine x_dup (μ := mu_x6_chain) (pc := 15) dX6_chain_15 rfl ?_
      refine x_fgi (μ := mu_x6_chain) (pc := 16) fX6_6 q487 dX6_chain_16 (gT_E k8 hT5 (by decide)) (fun hr9 => ?_)
      refine x_iconst (μ := mu_x6_chain) (pc := 19) dX6_chain_19 ?_
      refine x_iadd (μ := mu_x6_chain) (pc := 20) dX6_chain_20 ?_
      refine x_w1 ?_
      refine x_fpi (μ := mu_x6_chain) (pc := 21) fX6_6 q487 dX6_chain_21 (gT_E k8 hT5 (by decide)) (fun _ q => gE_wI q) ?_
      refine x_let (fun s10 e11 => ?_)
      refine x_aload_n (μ := mu_x6_chain) (pc := 24) 0 dX6_chain_24 rfl ?_
      refine x_gst (μ := mu_x6_chain) (pc := 25) (j := 26) (List.mem_of_getElem? (i := 24) rfl) q2086 dX6_chain_25 ?_
      refine x_aload_n (μ := mu_x6_chain) (pc := 28) 1 dX6_chain_28 rfl ?_
      refine x_aload_n (μ := mu_x6_chain) (pc := 29) 0 dX6_chain_29 rfl ?_
      refine x_callV_xr (μ := mu_x6_chain) (pc := 30) (ok_x6_sum (ω := ω) (l := l) (d := d - 1) hl hW (by omega) (by omega) ) q1799 q1801 qs31 q226 q1802 dX6_chain_30 rfl (gT_I e11 (gT_E k8 hT5 (by decide))) hy_x6_sum (by omega) (Nat.le_of_ble_eq_true rfl) rfl (Nat.le_of_ble_eq_true rfl) (by decide) (fun x12 s14 k13 => ?_)
      refine x_callV_mr (μ := mu_x6_chain) (pc := 33) (ok_x6_two (ω := ω) (l := l) (d := d - 1) hl (by omega) ) gRel_E gRel_E (fun _ q => q) q2062 q2064 qs57 q226 q2065 dX6_chain_33 rfl (gT_E k13 (gT_I e11 (gT_E k8 hT5 (by decide))) (by decide)) hy_x6_two (by omega) (Nat.le_of_ble_eq_true rfl) rfl (Nat.le_of_ble_eq_true rfl) (fun x15 k16 => ?_)
      refine x_astore_n (μ := mu_x6_chain) (pc := 36) (lv' := [(1, vR (x15.1)), (0, vR v0)]) dX6_chain_36 rfl (by decide) rfl ?_
      refine x_goto (μ := mu_x6_chain) (pc := 37) (tgt := 5) dX6_chain_37 rfl ?_
      refine x_loc (lv' := [(0, vR v0), (1, vR (x15.1))]) [1, 0] rfl ?_
      exact ih (x15.1) (x15.2)
def x6_chain (N : Nat) (W : Nat → gMem → Option gR) (v0 : Nat) (σ : gMem) : Option gR := if mT σ v0 = 6 then (x6_sum N W v0 σ).bind (fun p => gThrR p (fun x2 s4 => x6_chain_l5 N W v0 (fun y17 s18 => some (.inl (some (vR y17)), s18)) N x2 s4)) else none
set_option maxRecDepth 100000 in
theorem ok_x6_chain {ω : gW} {l : Launch} {d : Nat} {N : Nat} {W : Nat → gMem → Option gR} {dW : Nat} {σ : gMem} {v0 : Nat} (hl : l.stackTraces = false) (hW : ∀ (a0 : Nat) (s : gMem), gK (fun p : gR => p) gE ω l dW mu_x6_sign [vR a0] s (W a0 s)) (hdp : 6 ≤ d) (hdw : dW + 3 ≤ d) : gK (fun p : gR => p) gE ω l d mu_x6_chain [vR v0] σ (x6_chain N W v0 σ) := by
  refine gK.of hp_X6 (Nat.le_of_ble_eq_true rfl) ?_
  unfold x6_chain
  refine x_aload_n (μ := mu_x6_chain) (pc := 0) 0 dX6_chain_0 rfl ?_
  refine x_if (fun hT1 => ?_)
  refine x_callV_xr (μ := mu_x6_chain) (pc := 1) (ok_x6_sum (ω := ω) (l := l) (d := d - 1) hl hW (by omega) (by omega) ) q1799 q1801 qs31 q226 q1802 dX6_chain_1 rfl hT1 hy_x6_sum (by omega) (Nat.le_of_ble_eq_true rfl) rfl (Nat.le_of_ble_eq_true rfl) (by decide) (fun x2 s4 k3 => ?_)
  refine x_astore_n (μ := mu_x6_chain) (pc := 4) (lv' := [(1, vR x2), (0, vR v0)]) dX6_chain_4 rfl (by decide) rfl ?_
  refine x_loc (lv' := [(0, vR v0), (1, vR x2)]) [1, 0] rfl ?_
  refine okl_x6_chain_l5 hl hW hdp hdw (fun y17 s18 => ?_) N x2 s4
  refine x_aload_n (μ := mu_x6_chain) (pc := 40) 0 dX6_chain_40 rfl ?_
  exact x_aret (μ := mu_x6_chain) (pc := 41) (a1 := ((.inl (some (vR y17)), s18) : gR)) dX6_chain_41 rfl (by first | exact Or.inl ⟨_, rfl⟩ | exact Or.inr ⟨_, rfl⟩) rfl (gRel_E.1 _) trivial
def dp_Content_write (N : Nat) : Nat → Nat → Nat → gMem → Option gMem := fun a0 a1 a2 s => if mT s a0 = 11 then x13_write a0 a1 a2 s else if mT s a0 = 12 then x14_write N a0 a1 a2 s else if mT s a0 = 16 then x18_write N a0 a1 a2 s else if mT s a0 = 21 then x23_write N a0 a1 a2 s else none
set_option maxRecDepth 100000 in
theorem ok_dp_Content_write {ω : gW} {l : Launch} {d : Nat} {N : Nat} (hl : l.stackTraces = false) (a0 : Nat) (a1 : Nat) (a2 : Nat) (s : gMem) (hd : 152 ≤ d) : gKI (fun p : gMem => (.inl none, p)) gE ω l d iy_Content_write none [vR a0, vR a1, vR a2] s (dp_Content_write N a0 a1 a2 s) := by
  unfold dp_Content_write
  refine gKI.cls (ci := 10) rfl (List.mem_of_getElem? (i := 8) rfl) q1553 q1513 q241 q1515 (Nat.le_of_ble_eq_true rfl) (ok_x13_write hl (by omega)) ?_
  refine gKI.cls (ci := 11) rfl (List.mem_of_getElem? (i := 9) rfl) q1555 q1519 q242 q1521 (Nat.le_of_ble_eq_true rfl) (ok_x14_write hl (by omega)) ?_
  refine gKI.cls (ci := 15) rfl (List.mem_of_getElem? (i := 10) rfl) q1551 q1496 q250 q1498 (Nat.le_of_ble_eq_true rfl) (ok_x18_write hl (by omega)) ?_
  refine gKI.cls (ci := 20) rfl (List.mem_of_getElem? (i := 11) rfl) q1356 q1358 q256 q1360 (Nat.le_of_ble_eq_true rfl) (ok_x23_write hl (by omega)) ?_
  exact gKI.none
def dp_Part_work (N : Nat) : Nat → Nat → Nat → Nat → gMem → Option gMem
  | 0 => fun _ _ _ _ => none
  | n + 1 => fun a0 a1 a2 s => if mT s a0 = 11 then x13_work a0 a1 a2 s else if mT s a0 = 12 then x14_work a0 a1 a2 s else if mT s a0 = 16 then x18_work a0 a1 a2 s else if mT s a0 = 13 then x15_work a0 a1 a2 s else if mT s a0 = 15 then x17_work N a0 a1 a2 s else if mT s a0 = 17 then x19_work a0 a1 a2 s else if mT s a0 = 19 then x21_work N (dp_Part_work N n) a0 a1 a2 s else if mT s a0 = 20 then x22_work N (dp_Part_work N n) a0 a1 a2 s else if mT s a0 = 18 then x20_work N (dp_Part_work N n) a0 a1 a2 s else none
set_option maxRecDepth 100000 in
theorem ok_dp_Part_work {ω : gW} {l : Launch} {N : Nat} (hl : l.stackTraces = false) : ∀ (n : Nat) {d : Nat} (a0 : Nat) (a1 : Nat) (a2 : Nat) (s : gMem), 8 + 3 * n ≤ d → gKI (fun p : gMem => (.inl none, p)) gE ω l d iy_Part_work none [vR a0, vR a1, vR a2] s (dp_Part_work N n a0 a1 a2 s) := by
  intro n
  induction n with
  | zero => intro d a0 a1 a2 s hd; exact gKI.none
  | succ n ih =>
    intro d a0 a1 a2 s hd
    unfold dp_Part_work
    refine gKI.cls (ci := 10) rfl (List.mem_of_getElem? (i := 48) rfl) q1046 q1048 q241 q1050 (Nat.le_of_ble_eq_true rfl) (ok_x13_work hl (by omega)) ?_
    refine gKI.cls (ci := 11) rfl (List.mem_of_getElem? (i := 49) rfl) q1058 q1060 q242 q1062 (Nat.le_of_ble_eq_true rfl) (ok_x14_work hl (by omega)) ?_
    refine gKI.cls (ci := 15) rfl (List.mem_of_getElem? (i := 50) rfl) q1030 q1032 q250 q1034 (Nat.le_of_ble_eq_true rfl) (ok_x18_work hl (by omega)) ?_
    refine gKI.cls (ci := 12) rfl (List.mem_of_getElem? (i := 51) rfl) q996 q998 q247 q1000 (Nat.le_of_ble_eq_true rfl) (ok_x15_work hl (by omega)) ?_
    refine gKI.cls (ci := 14) rfl (List.mem_of_getElem? (i := 52) rfl) q1009 q1011 q249 q1013 (Nat.le_of_ble_eq_true rfl) (ok_x17_work hl (by omega)) ?_
    refine gKI.cls (ci := 16) rfl (List.mem_of_getElem? (i := 53) rfl) q977 q979 q251 q981 (Nat.le_of_ble_eq_true rfl) (ok_x19_work hl (by omega)) ?_
    refine gKI.cls (ci := 18) rfl (List.mem_of_getElem? (i := 54) rfl) q1002 q1004 q253 q1006 (Nat.le_of_ble_eq_true rfl) (ok_x21_work hl (dW := 8 + 3 * n) (fun a0 a1 a2 s => ih a0 a1 a2 s (Nat.le_refl _)) (by omega) (by omega)) ?_
    refine gKI.cls (ci := 19) rfl (List.mem_of_getElem? (i := 55) rfl) q1039 q1041 q255 q1043 (Nat.le_of_ble_eq_true rfl) (ok_x22_work hl (dW := 8 + 3 * n) (fun a0 a1 a2 s => ih a0 a1 a2 s (Nat.le_refl _)) (by omega) (by omega)) ?_
    refine gKI.cls (ci := 17) rfl (List.mem_of_getElem? (i := 56) rfl) q983 q985 q252 q987 (Nat.le_of_ble_eq_true rfl) (ok_x20_work hl (dW := 8 + 3 * n) (fun a0 a1 a2 s => ih a0 a1 a2 s (Nat.le_refl _)) (by omega) (by omega)) ?_
    exact gKI.none
def x0_insert (N : Nat) (v0 : Nat) (v1 : Int) (v2 : Int) (v3 : Nat) (σ : gMem) : Option (Int × gMem) := if mT σ v0 = 1 then (x1_insert N v0 v1 v2 σ).bind (fun p => gTryI p (fun x2 s5 => if mT s5 v3 = 101 then if 0 ≤ (0 : Int) ∧ (0 : Int) < (mN s5 v3 : Int) then gLet (wL s5 v3 (0 : Int).toNat x2) (fun s11 => some (0, s11)) else none else none) (fun E6 s7 => if E6 = "java/lang/IllegalArgumentException" then some (1, s7) else if E6 = "java/lang/IndexOutOfBoundsException" then some (2, s7) else if E6 = "java/lang/IllegalStateException" then some (3, s7) else none)) else none
set_option maxRecDepth 100000 in
theorem ok_x0_insert {ω : gW} {l : Launch} {d : Nat} {N : Nat} {σ : gMem} {v0 : Nat} {v1 : Int} {v2 : Int} {v3 : Nat} (hl : l.stackTraces = false) (hdp : 10 ≤ d) (hv1 : g32 v1) (hv2 : g32 v2) : gK (fun p : Int × gMem => (.inl (some (vI p.1)), p.2)) gE ω l d mu_x0_insert [vR v0, vI v1, vI v2, vR v3] σ (x0_insert N v0 v1 v2 v3 σ) := by
  refine gK.ofH hp_X0 (Nat.le_of_ble_eq_true rfl) ?_
  unfold x0_insert
  refine x_aload_n (μ := mu_x0_insert) (pc := 0) 3 dX0_insert_0 rfl ?_
  refine x_iconst (μ := mu_x0_insert) (pc := 1) dX0_insert_1 ?_
  refine x_aload_n (μ := mu_x0_insert) (pc := 2) 0 dX0_insert_2 rfl ?_
  refine x_iload_n (μ := mu_x0_insert) (pc := 3) 1 dX0_insert_3 rfl ?_
  refine x_iload_n (μ := mu_x0_insert) (pc := 4) 2 dX0_insert_4 rfl ?_
  refine x_if (fun hT1 => ?_)
  refine x_callV_ti (μ := mu_x0_insert) (pc := 5) (ok_x1_insert (ω := ω) (l := l) (d := d - 1) hl (by omega) hv1 hv2) q2195 q2196 q2197 q221 q2198 dX0_insert_5 rfl hT1 hy_x1_insert (by omega) (Nat.le_of_ble_eq_true rfl) rfl (Nat.le_of_ble_eq_true rfl) (fun x2 s5 k4 hr3 => ?_) (fun E6 s7 k9 => ?_)
  · refine x_i2l (μ := mu_x0_insert) (pc := 8) dX0_insert_8 hr3 ?_
    refine x_if (fun hT10 => ?_)
    refine x_last (μ := mu_x0_insert) (pc := 9) dX0_insert_9 hT10 rfl (fun _ _ q => gE_wL q) ?_
    refine x_let (fun s11 e12 => ?_)
    refine x_goto (μ := mu_x0_insert) (pc := 10) (tgt := 25) dX0_insert_10 rfl ?_
    refine x_iconst (μ := mu_x0_insert) (pc := 25) dX0_insert_25 ?_
    exact x_iret (μ := mu_x0_insert) (pc := 26) dX0_insert_26 rfl rfl (gRel_E.1 _) (show g32 0 from (by decide))
  · refine x_eqE "java/lang/IllegalArgumentException" (fun _ => ?_) (fun _ => ?_)
    · refine x_catch0 (pc := 5) (tgt := 13) rfl  q1755 q2123 (by decide) (fun q13 => ?_)
      refine x_astore (μ := mu_x0_insert) (pc := 13) (lv' := [(4, vR q13), (0, vR v0), (1, vI v1), (2, vI v2), (3, vR v3)]) dX0_insert_13 (by decide) rfl ?_
      refine x_iconst (μ := mu_x0_insert) (pc := 15) dX0_insert_15 ?_
      exact x_iret (μ := mu_x0_insert) (pc := 16) dX0_insert_16 rfl rfl (gRel_E.1 _) (show g32 1 from (by decide))
    refine x_eqE "java/lang/IndexOutOfBoundsException" (fun _ => ?_) (fun _ => ?_)
    · refine x_catch1 (pc := 5) (tgt := 17) rfl q1755 (by decide) q1676 q1764 (by decide) (fun q14 => ?_)
      refine x_astore (μ := mu_x0_insert) (pc := 17) (lv' := [(4, vR q14), (0, vR v0), (1, vI v1), (2, vI v2), (3, vR v3)]) dX0_insert_17 (by decide) rfl ?_
      refine x_iconst (μ := mu_x0_insert) (pc := 19) dX0_insert_19 ?_
      exact x_iret (μ := mu_x0_insert) (pc := 20) dX0_insert_20 rfl rfl (gRel_E.1 _) (show g32 2 from (by decide))
    refine x_eqE "java/lang/IllegalStateException" (fun _ => ?_) (fun _ => ?_)
    · refine x_catch2 (pc := 5) (tgt := 21) rfl q1755 (by decide) q1676 (by decide) q2194 q2209 (by decide) (fun q15 => ?_)
      refine x_astore (μ := mu_x0_insert) (pc := 21) (lv' := [(4, vR q15), (0, vR v0), (1, vI v1), (2, vI v2), (3, vR v3)]) dX0_insert_21 (by decide) rfl ?_
      refine x_iconst (μ := mu_x0_insert) (pc := 23) dX0_insert_23 ?_
      exact x_iret (μ := mu_x0_insert) (pc := 24) dX0_insert_24 rfl rfl (gRel_E.1 _) (show g32 3 from (by decide))
    exact x_xnone
def x0_remove (N : Nat) (v0 : Nat) (v1 : Int) (v2 : Int) (v3 : Nat) (σ : gMem) : Option (Int × gMem) := if mT σ v0 = 1 then (x1_remove N v0 v1 v2 σ).bind (fun p => gTryI p (fun x2 s5 => if mT s5 v3 = 101 then if 0 ≤ (0 : Int) ∧ (0 : Int) < (mN s5 v3 : Int) then gLet (wL s5 v3 (0 : Int).toNat x2) (fun s11 => some (0, s11)) else none else none) (fun E6 s7 => if E6 = "java/lang/IllegalArgumentException" then some (1, s7) else if E6 = "java/lang/IndexOutOfBoundsException" then some (2, s7) else if E6 = "java/lang/IllegalStateException" then some (3, s7) else none)) else none
set_option maxRecDepth 100000 in
theorem ok_x0_remove {ω : gW} {l : Launch} {d : Nat} {N : Nat} {σ : gMem} {v0 : Nat} {v1 : Int} {v2 : Int} {v3 : Nat} (hl : l.stackTraces = false) (hdp : 10 ≤ d) (hv1 : g32 v1) (hv2 : g32 v2) : gK (fun p : Int × gMem => (.inl (some (vI p.1)), p.2)) gE ω l d mu_x0_remove [vR v0, vI v1, vI v2, vR v3] σ (x0_remove N v0 v1 v2 v3 σ) := by
  refine gK.ofH hp_X0 (Nat.le_of_ble_eq_true rfl) ?_
  unfold x0_remove
  refine x_aload_n (μ := mu_x0_remove) (pc := 0) 3 dX0_remove_0 rfl ?_
  refine x_iconst (μ := mu_x0_remove) (pc := 1) dX0_remove_1 ?_
  refine x_aload_n (μ := mu_x0_remove) (pc := 2) 0 dX0_remove_2 rfl ?_
  refine x_iload_n (μ := mu_x0_remove) (pc := 3) 1 dX0_remove_3 rfl ?_
  refine x_iload_n (μ := mu_x0_remove) (pc := 4) 2 dX0_remove_4 rfl ?_
  refine x_if (fun hT1 => ?_)
  refine x_callV_ti (μ := mu_x0_remove) (pc := 5) (ok_x1_remove (ω := ω) (l := l) (d := d - 1) hl (by omega) hv1 hv2) q2243 q2244 q2245 q221 q2246 dX0_remove_5 rfl hT1 hy_x1_remove (by omega) (Nat.le_of_ble_eq_true rfl) rfl (Nat.le_of_ble_eq_true rfl) (fun x2 s5 k4 hr3 => ?_) (fun E6 s7 k9 => ?_)
  · refine x_i2l (μ := mu_x0_remove) (pc := 8) dX0_remove_8 hr3 ?_
    refine x_if (fun hT10 => ?_)
    refine x_last (μ := mu_x0_remove) (pc := 9) dX0_remove_9 hT10 rfl (fun _ _ q => gE_wL q) ?_
    refine x_let (fun s11 e12 => ?_)
    refine x_goto (μ := mu_x0_remove) (pc := 10) (tgt := 25) dX0_remove_10 rfl ?_
    refine x_iconst (μ := mu_x0_remove) (pc := 25) dX0_remove_25 ?_
    exact x_iret (μ := mu_x0_remove) (pc := 26) dX0_remove_26 rfl rfl (gRel_E.1 _) (show g32 0 from (by decide))
  · refine x_eqE "java/lang/IllegalArgumentException" (fun _ => ?_) (fun _ => ?_)
    · refine x_catch0 (pc := 5) (tgt := 13) rfl  q1755 q2123 (by decide) (fun q13 => ?_)
      refine x_astore (μ := mu_x0_remove) (pc := 13) (lv' := [(4, vR q13), (0, vR v0), (1, vI v1), (2, vI v2), (3, vR v3)]) dX0_remove_13 (by decide) rfl ?_
      refine x_iconst (μ := mu_x0_remove) (pc := 15) dX0_remove_15 ?_
      exact x_iret (μ := mu_x0_remove) (pc := 16) dX0_remove_16 rfl rfl (gRel_E.1 _) (show g32 1 from (by decide))
    refine x_eqE "java/lang/IndexOutOfBoundsException" (fun _ => ?_) (fun _ => ?_)
    · refine x_catch1 (pc := 5) (tgt := 17) rfl q1755 (by decide) q1676 q1764 (by decide) (fun q14 => ?_)
      refine x_astore (μ := mu_x0_remove) (pc := 17) (lv' := [(4, vR q14), (0, vR v0), (1, vI v1), (2, vI v2), (3, vR v3)]) dX0_remove_17 (by decide) rfl ?_
      refine x_iconst (μ := mu_x0_remove) (pc := 19) dX0_remove_19 ?_
      exact x_iret (μ := mu_x0_remove) (pc := 20) dX0_remove_20 rfl rfl (gRel_E.1 _) (show g32 2 from (by decide))
    refine x_eqE "java/lang/IllegalStateException" (fun _ => ?_) (fun _ => ?_)
    · refine x_catch2 (pc := 5) (tgt := 21) rfl q1755 (by decide) q1676 (by decide) q2194 q2209 (by decide) (fun q15 => ?_)
      refine x_astore (μ := mu_x0_remove) (pc := 21) (lv' := [(4, vR q15), (0, vR v0), (1, vI v1), (2, vI v2), (3, vR v3)]) dX0_remove_21 (by decide) rfl ?_
      refine x_iconst (μ := mu_x0_remove) (pc := 23) dX0_remove_23 ?_
      exact x_iret (μ := mu_x0_remove) (pc := 24) dX0_remove_24 rfl rfl (gRel_E.1 _) (show g32 3 from (by decide))
    exact x_xnone
def x0_move (N : Nat) (v0 : Nat) (v1 : Int) (v2 : Int) (v3 : Int) (v4 : Nat) (σ : gMem) : Option (Int × gMem) := if mT σ v0 = 1 then (x1_move N v0 v1 v2 v3 σ).bind (fun p => gTryI p (fun x2 s5 => if mT s5 v4 = 101 then if 0 ≤ (0 : Int) ∧ (0 : Int) < (mN s5 v4 : Int) then gLet (wL s5 v4 (0 : Int).toNat x2) (fun s11 => some (0, s11)) else none else none) (fun E6 s7 => if E6 = "java/lang/IllegalArgumentException" then some (1, s7) else if E6 = "java/lang/IndexOutOfBoundsException" then some (2, s7) else none)) else none
set_option maxRecDepth 100000 in
theorem ok_x0_move {ω : gW} {l : Launch} {d : Nat} {N : Nat} {σ : gMem} {v0 : Nat} {v1 : Int} {v2 : Int} {v3 : Int} {v4 : Nat} (hl : l.stackTraces = false) (hdp : 10 ≤ d) (hv1 : g32 v1) (hv2 : g32 v2) (hv3 : g32 v3) : gK (fun p : Int × gMem => (.inl (some (vI p.1)), p.2)) gE ω l d mu_x0_move [vR v0, vI v1, vI v2, vI v3, vR v4] σ (x0_move N v0 v1 v2 v3 v4 σ) := by
  refine gK.ofH hp_X0 (Nat.le_of_ble_eq_true rfl) ?_
  unfold x0_move
  refine x_aload (μ := mu_x0_move) (pc := 0) 4 dX0_move_0 rfl ?_
  refine x_iconst (μ := mu_x0_move) (pc := 2) dX0_move_2 ?_
  refine x_aload_n (μ := mu_x0_move) (pc := 3) 0 dX0_move_3 rfl ?_
  refine x_iload_n (μ := mu_x0_move) (pc := 4) 1 dX0_move_4 rfl ?_
  refine x_iload_n (μ := mu_x0_move) (pc := 5) 2 dX0_move_5 rfl ?_
  refine x_iload_n (μ := mu_x0_move) (pc := 6) 3 dX0_move_6 rfl ?_
  refine x_if (fun hT1 => ?_)
  refine x_callV_ti (μ := mu_x0_move) (pc := 7) (ok_x1_move (ω := ω) (l := l) (d := d - 1) hl (by omega) hv1 hv2 hv3) q2253 q2254 q2255 q221 q2256 dX0_move_7 rfl hT1 hy_x1_move (by omega) (Nat.le_of_ble_eq_true rfl) rfl (Nat.le_of_ble_eq_true rfl) (fun x2 s5 k4 hr3 => ?_) (fun E6 s7 k9 => ?_)
  · refine x_i2l (μ := mu_x0_move) (pc := 10) dX0_move_10 hr3 ?_
    refine x_if (fun hT10 => ?_)
    refine x_last (μ := mu_x0_move) (pc := 11) dX0_move_11 hT10 rfl (fun _ _ q => gE_wL q) ?_
    refine x_let (fun s11 e12 => ?_)
    refine x_goto (μ := mu_x0_move) (pc := 12) (tgt := 23) dX0_move_12 rfl ?_
    refine x_iconst (μ := mu_x0_move) (pc := 23) dX0_move_23 ?_
    exact x_iret (μ := mu_x0_move) (pc := 24) dX0_move_24 rfl rfl (gRel_E.1 _) (show g32 0 from (by decide))
  · refine x_eqE "java/lang/IllegalArgumentException" (fun _ => ?_) (fun _ => ?_)
    · refine x_catch0 (pc := 7) (tgt := 15) rfl  q1755 q2123 (by decide) (fun q13 => ?_)
      refine x_astore (μ := mu_x0_move) (pc := 15) (lv' := [(5, vR q13), (0, vR v0), (1, vI v1), (2, vI v2), (3, vI v3), (4, vR v4)]) dX0_move_15 (by decide) rfl ?_
      refine x_iconst (μ := mu_x0_move) (pc := 17) dX0_move_17 ?_
      exact x_iret (μ := mu_x0_move) (pc := 18) dX0_move_18 rfl rfl (gRel_E.1 _) (show g32 1 from (by decide))
    refine x_eqE "java/lang/IndexOutOfBoundsException" (fun _ => ?_) (fun _ => ?_)
    · refine x_catch1 (pc := 7) (tgt := 19) rfl q1755 (by decide) q1676 q1764 (by decide) (fun q14 => ?_)
      refine x_astore (μ := mu_x0_move) (pc := 19) (lv' := [(5, vR q14), (0, vR v0), (1, vI v1), (2, vI v2), (3, vI v3), (4, vR v4)]) dX0_move_19 (by decide) rfl ?_
      refine x_iconst (μ := mu_x0_move) (pc := 21) dX0_move_21 ?_
      exact x_iret (μ := mu_x0_move) (pc := 22) dX0_move_22 rfl rfl (gRel_E.1 _) (show g32 2 from (by decide))
    exact x_xnone
def x0_go (N : Nat) (v0 : Nat) (v1 : Int) (v2 : Nat) (σ : gMem) : Option (Int × gMem) := if mT σ v0 = 1 then (x1_go N v0 v1 σ).bind (fun p => gTryI p (fun x2 s5 => if mT s5 v2 = 101 then if 0 ≤ (0 : Int) ∧ (0 : Int) < (mN s5 v2 : Int) then gLet (wL s5 v2 (0 : Int).toNat x2) (fun s11 => some (0, s11)) else none else none) (fun E6 s7 => if E6 = "java/lang/IndexOutOfBoundsException" then some (1, s7) else if E6 = "java/util/NoSuchElementException" then some (2, s7) else if E6 = "java/lang/IllegalStateException" then some (3, s7) else none)) else none
set_option maxRecDepth 100000 in
theorem ok_x0_go {ω : gW} {l : Launch} {d : Nat} {N : Nat} {σ : gMem} {v0 : Nat} {v1 : Int} {v2 : Nat} (hl : l.stackTraces = false) (hdp : 70 ≤ d) (hv1 : g32 v1) : gK (fun p : Int × gMem => (.inl (some (vI p.1)), p.2)) gE ω l d mu_x0_go [vR v0, vI v1, vR v2] σ (x0_go N v0 v1 v2 σ) := by
  refine gK.ofH hp_X0 (Nat.le_of_ble_eq_true rfl) ?_
  unfold x0_go
  refine x_aload_n (μ := mu_x0_go) (pc := 0) 2 dX0_go_0 rfl ?_
  refine x_iconst (μ := mu_x0_go) (pc := 1) dX0_go_1 ?_
  refine x_aload_n (μ := mu_x0_go) (pc := 2) 0 dX0_go_2 rfl ?_
  refine x_iload_n (μ := mu_x0_go) (pc := 3) 1 dX0_go_3 rfl ?_
  refine x_if (fun hT1 => ?_)
  refine x_callV_ti (μ := mu_x0_go) (pc := 4) (ok_x1_go (ω := ω) (l := l) (d := d - 1) hl (by omega) hv1) q2443 q2444 q2445 q221 q2446 dX0_go_4 rfl hT1 hy_x1_go (by omega) (Nat.le_of_ble_eq_true rfl) rfl (Nat.le_of_ble_eq_true rfl) (fun x2 s5 k4 hr3 => ?_) (fun E6 s7 k9 => ?_)
  · refine x_i2l (μ := mu_x0_go) (pc := 7) dX0_go_7 hr3 ?_
    refine x_if (fun hT10 => ?_)
    refine x_last (μ := mu_x0_go) (pc := 8) dX0_go_8 hT10 rfl (fun _ _ q => gE_wL q) ?_
    refine x_let (fun s11 e12 => ?_)
    refine x_goto (μ := mu_x0_go) (pc := 9) (tgt := 21) dX0_go_9 rfl ?_
    refine x_iconst (μ := mu_x0_go) (pc := 21) dX0_go_21 ?_
    exact x_iret (μ := mu_x0_go) (pc := 22) dX0_go_22 rfl rfl (gRel_E.1 _) (show g32 0 from (by decide))
  · refine x_eqE "java/lang/IndexOutOfBoundsException" (fun _ => ?_) (fun _ => ?_)
    · refine x_catch0 (pc := 4) (tgt := 12) rfl  q1676 q1764 (by decide) (fun q13 => ?_)
      refine x_astore_n (μ := mu_x0_go) (pc := 12) (lv' := [(3, vR q13), (0, vR v0), (1, vI v1), (2, vR v2)]) dX0_go_12 rfl (by decide) rfl ?_
      refine x_iconst (μ := mu_x0_go) (pc := 13) dX0_go_13 ?_
      exact x_iret (μ := mu_x0_go) (pc := 14) dX0_go_14 rfl rfl (gRel_E.1 _) (show g32 1 from (by decide))
    refine x_eqE "java/util/NoSuchElementException" (fun _ => ?_) (fun _ => ?_)
    · refine x_catch1 (pc := 4) (tgt := 15) rfl q1676 (by decide) q2392 q2399 (by decide) (fun q14 => ?_)
      refine x_astore_n (μ := mu_x0_go) (pc := 15) (lv' := [(3, vR q14), (0, vR v0), (1, vI v1), (2, vR v2)]) dX0_go_15 rfl (by decide) rfl ?_
      refine x_iconst (μ := mu_x0_go) (pc := 16) dX0_go_16 ?_
      exact x_iret (μ := mu_x0_go) (pc := 17) dX0_go_17 rfl rfl (gRel_E.1 _) (show g32 2 from (by decide))
    refine x_eqE "java/lang/IllegalStateException" (fun _ => ?_) (fun _ => ?_)
    · refine x_catch2 (pc := 4) (tgt := 18) rfl q1676 (by decide) q2392 (by decide) q2194 q2209 (by decide) (fun q15 => ?_)
      refine x_astore_n (μ := mu_x0_go) (pc := 18) (lv' := [(3, vR q15), (0, vR v0), (1, vI v1), (2, vR v2)]) dX0_go_18 rfl (by decide) rfl ?_
      refine x_iconst (μ := mu_x0_go) (pc := 19) dX0_go_19 ?_
      exact x_iret (μ := mu_x0_go) (pc := 20) dX0_go_20 rfl rfl (gRel_E.1 _) (show g32 3 from (by decide))
    exact x_xnone
def x0_choose (N : Nat) (v0 : Nat) (v1 : Int) (v2 : Int) (v3 : Nat) (σ : gMem) : Option (Int × gMem) := if mT σ v0 = 1 then (x1_choose N v0 v1 v2 σ).bind (fun p => gTryI p (fun x2 s5 => if mT s5 v3 = 101 then if 0 ≤ (0 : Int) ∧ (0 : Int) < (mN s5 v3 : Int) then gLet (wL s5 v3 (0 : Int).toNat x2) (fun s11 => some (0, s11)) else none else none) (fun E6 s7 => if E6 = "java/lang/IndexOutOfBoundsException" then some (1, s7) else none)) else none
set_option maxRecDepth 100000 in
theorem ok_x0_choose {ω : gW} {l : Launch} {d : Nat} {N : Nat} {σ : gMem} {v0 : Nat} {v1 : Int} {v2 : Int} {v3 : Nat} (hl : l.stackTraces = false) (hdp : 9 ≤ d) (hv1 : g32 v1) (hv2 : g32 v2) : gK (fun p : Int × gMem => (.inl (some (vI p.1)), p.2)) gE ω l d mu_x0_choose [vR v0, vI v1, vI v2, vR v3] σ (x0_choose N v0 v1 v2 v3 σ) := by
  refine gK.ofH hp_X0 (Nat.le_of_ble_eq_true rfl) ?_
  unfold x0_choose
  refine x_aload_n (μ := mu_x0_choose) (pc := 0) 3 dX0_choose_0 rfl ?_
  refine x_iconst (μ := mu_x0_choose) (pc := 1) dX0_choose_1 ?_
  refine x_aload_n (μ := mu_x0_choose) (pc := 2) 0 dX0_choose_2 rfl ?_
  refine x_iload_n (μ := mu_x0_choose) (pc := 3) 1 dX0_choose_3 rfl ?_
  refine x_iload_n (μ := mu_x0_choose) (pc := 4) 2 dX0_choose_4 rfl ?_
  refine x_if (fun hT1 => ?_)
  refine x_callV_ti (μ := mu_x0_choose) (pc := 5) (ok_x1_choose (ω := ω) (l := l) (d := d - 1) hl (by omega) hv1 hv2) q2585 q2586 q2587 q221 q2588 dX0_choose_5 rfl hT1 hy_x1_choose (by omega) (Nat.le_of_ble_eq_true rfl) rfl (Nat.le_of_ble_eq_true rfl) (fun x2 s5 k4 hr3 => ?_) (fun E6 s7 k9 => ?_)
  · refine x_i2l (μ := mu_x0_choose) (pc := 8) dX0_choose_8 hr3 ?_
    refine x_if (fun hT10 => ?_)
    refine x_last (μ := mu_x0_choose) (pc := 9) dX0_choose_9 hT10 rfl (fun _ _ q => gE_wL q) ?_
    refine x_let (fun s11 e12 => ?_)
    refine x_goto (μ := mu_x0_choose) (pc := 10) (tgt := 17) dX0_choose_10 rfl ?_
    refine x_iconst (μ := mu_x0_choose) (pc := 17) dX0_choose_17 ?_
    exact x_iret (μ := mu_x0_choose) (pc := 18) dX0_choose_18 rfl rfl (gRel_E.1 _) (show g32 0 from (by decide))
  · refine x_eqE "java/lang/IndexOutOfBoundsException" (fun _ => ?_) (fun _ => ?_)
    · refine x_catch0 (pc := 5) (tgt := 13) rfl  q1676 q1764 (by decide) (fun q13 => ?_)
      refine x_astore (μ := mu_x0_choose) (pc := 13) (lv' := [(4, vR q13), (0, vR v0), (1, vI v1), (2, vI v2), (3, vR v3)]) dX0_choose_13 (by decide) rfl ?_
      refine x_iconst (μ := mu_x0_choose) (pc := 15) dX0_choose_15 ?_
      exact x_iret (μ := mu_x0_choose) (pc := 16) dX0_choose_16 rfl rfl (gRel_E.1 _) (show g32 1 from (by decide))
    exact x_xnone
def x0_blame (N : Nat) (v0 : Nat) (v1 : Int) (v2 : Int) (v3 : Nat) (σ : gMem) : Option (Int × gMem) := if mT σ v0 = 1 then (x1_blame N v0 v1 v2 σ).bind (fun p => gTryI p (fun x2 s5 => if mT s5 v3 = 101 then if 0 ≤ (0 : Int) ∧ (0 : Int) < (mN s5 v3 : Int) then gLet (wL s5 v3 (0 : Int).toNat x2) (fun s11 => some (0, s11)) else none else none) (fun E6 s7 => if E6 = "java/lang/IndexOutOfBoundsException" then some (1, s7) else none)) else none
set_option maxRecDepth 100000 in
theorem ok_x0_blame {ω : gW} {l : Launch} {d : Nat} {N : Nat} {σ : gMem} {v0 : Nat} {v1 : Int} {v2 : Int} {v3 : Nat} (hl : l.stackTraces = false) (hdp : 70 ≤ d) (hv1 : g32 v1) (hv2 : g32 v2) : gK (fun p : Int × gMem => (.inl (some (vI p.1)), p.2)) gE ω l d mu_x0_blame [vR v0, vI v1, vI v2, vR v3] σ (x0_blame N v0 v1 v2 v3 σ) := by
  refine gK.ofH hp_X0 (Nat.le_of_ble_eq_true rfl) ?_
  unfold x0_blame
  refine x_aload_n (μ := mu_x0_blame) (pc := 0) 3 dX0_blame_0 rfl ?_
  refine x_iconst (μ := mu_x0_blame) (pc := 1) dX0_blame_1 ?_
  refine x_aload_n (μ := mu_x0_blame) (pc := 2) 0 dX0_blame_2 rfl ?_
  refine x_iload_n (μ := mu_x0_blame) (pc := 3) 1 dX0_blame_3 rfl ?_
  refine x_iload_n (μ := mu_x0_blame) (pc := 4) 2 dX0_blame_4 rfl ?_
  refine x_if (fun hT1 => ?_)
  refine x_callV_ti (μ := mu_x0_blame) (pc := 5) (ok_x1_blame (ω := ω) (l := l) (d := d - 1) hl (by omega) hv1 hv2) q2613 q2614 q2615 q221 q2616 dX0_blame_5 rfl hT1 hy_x1_blame (by omega) (Nat.le_of_ble_eq_true rfl) rfl (Nat.le_of_ble_eq_true rfl) (fun x2 s5 k4 hr3 => ?_) (fun E6 s7 k9 => ?_)
  · refine x_i2l (μ := mu_x0_blame) (pc := 8) dX0_blame_8 hr3 ?_
    refine x_if (fun hT10 => ?_)
    refine x_last (μ := mu_x0_blame) (pc := 9) dX0_blame_9 hT10 rfl (fun _ _ q => gE_wL q) ?_
    refine x_let (fun s11 e12 => ?_)
    refine x_goto (μ := mu_x0_blame) (pc := 10) (tgt := 17) dX0_blame_10 rfl ?_
    refine x_iconst (μ := mu_x0_blame) (pc := 17) dX0_blame_17 ?_
    exact x_iret (μ := mu_x0_blame) (pc := 18) dX0_blame_18 rfl rfl (gRel_E.1 _) (show g32 0 from (by decide))
  · refine x_eqE "java/lang/IndexOutOfBoundsException" (fun _ => ?_) (fun _ => ?_)
    · refine x_catch0 (pc := 5) (tgt := 13) rfl  q1676 q1764 (by decide) (fun q13 => ?_)
      refine x_astore (μ := mu_x0_blame) (pc := 13) (lv' := [(4, vR q13), (0, vR v0), (1, vI v1), (2, vI v2), (3, vR v3)]) dX0_blame_13 (by decide) rfl ?_
      refine x_iconst (μ := mu_x0_blame) (pc := 15) dX0_blame_15 ?_
      exact x_iret (μ := mu_x0_blame) (pc := 16) dX0_blame_16 rfl rfl (gRel_E.1 _) (show g32 1 from (by decide))
    exact x_xnone
def x1_written_j59 (N : Nat) (v0 : Nat) (v4 : Int) (s : gMem) : Option (Int × gMem) := if v4 < 0 then some ((-1), s) else if mT s v0 = 1 then if mT s (mR s v0 25) = 7 then if mI s (mR s v0 25) 1 ≤ v4 then some ((-1), s) else if mT s (mR s (mR s v0 25) 0) = 102 then if 0 ≤ v4 ∧ v4 < (mN s (mR s (mR s v0 25) 0) : Int) then some (mI s (mR s (mR s v0 25) 0) v4.toNat, s) else none else none else none else none
set_option maxRecDepth 100000 in
theorem okj_x1_written_j59 {ω : gW} {l : Launch} {d : Nat} {N : Nat} {σ0 : gMem} {s : gMem} {v0 : Nat} {v4 : Int} (hl : l.stackTraces = false) (hdp : 153 ≤ d) (hv4 : g32 v4) : GG (fun p : Int × gMem => (.inl (some (vI p.1)), p.2)) gE ω l d mu_x1_written σ0 59 [(0, vR v0), (4, vI v4)] [] s (x1_written_j59 N v0 v4 s) := by
  unfold x1_written_j59
  refine x_iload (μ := mu_x1_written) (pc := 59) 1 dX1_written_59 rfl ?_
  refine x_if_lt (μ := mu_x1_written) (pc := 61) (tgt := 89) dX1_written_61 rfl hv4 ?_ ?_
  · refine x_iconst (μ := mu_x1_written) (pc := 89) dX1_written_89 ?_
    exact x_iret (μ := mu_x1_written) (pc := 90) dX1_written_90 rfl rfl (gRel_E.1 _) (show g32 (-1) from (by decide))
  · refine x_iload (μ := mu_x1_written) (pc := 64) 1 dX1_written_64 rfl ?_
    refine x_aload_n (μ := mu_x1_written) (pc := 66) 0 dX1_written_66 rfl ?_
    refine x_if (fun hT11 => ?_)
    refine x_fgr (μ := mu_x1_written) (pc := 67) fX1_25 (by first | exact Or.inl ⟨_, rfl⟩ | exact Or.inr ⟨_, rfl⟩) q670 dX1_written_67 hT11 ?_
    refine x_if (fun hT12 => ?_)
    refine x_fgiN (μ := mu_x1_written) (pc := 70) fX8_1 q545 dX1_written_70 hT12 (fun hr13 => ?_)
    refine x_icmp_ge (μ := mu_x1_written) (pc := 73) (tgt := 89) dX1_written_73 rfl hv4 hr13 ?_ ?_
    · refine x_iconst (μ := mu_x1_written) (pc := 89) dX1_written_89 ?_
      exact x_iret (μ := mu_x1_written) (pc := 90) dX1_written_90 rfl rfl (gRel_E.1 _) (show g32 (-1) from (by decide))
    · refine x_aload_n (μ := mu_x1_written) (pc := 76) 0 dX1_written_76 rfl ?_
      refine x_fgr (μ := mu_x1_written) (pc := 77) fX1_25 (by first | exact Or.inl ⟨_, rfl⟩ | exact Or.inr ⟨_, rfl⟩) q670 dX1_written_77 hT11 ?_
      refine x_fgrN (μ := mu_x1_written) (pc := 80) fX8_0 (by first | exact Or.inl ⟨_, rfl⟩ | exact Or.inr ⟨_, rfl⟩) q543 dX1_written_80 hT12 ?_
      refine x_iload (μ := mu_x1_written) (pc := 83) 1 dX1_written_83 rfl ?_
      refine x_if (fun hT14 => ?_)
      refine x_bald (μ := mu_x1_written) (pc := 85) dX1_written_85 hT14 rfl (fun hr15 => ?_)
      refine x_goto (μ := mu_x1_written) (pc := 86) (tgt := 90) dX1_written_86 rfl ?_
      exact x_iret (μ := mu_x1_written) (pc := 90) dX1_written_90 rfl rfl (gRel_E.1 _) (show g32 (mI s (mR s (mR s v0 25) 0) v4.toNat) from hr15)
def x1_written (N : Nat) (v0 : Nat) (v1 : Int) (v2 : Int) (v3 : Int) (v4 : Int) (σ : gMem) : Option (Int × gMem) := if mT σ v0 = 1 then (x1_hasCell v0 v1 v2 v3 σ).bind (fun x2 => if x2 ≠ 0 then (x1_sheetOf v0 v1 σ).bind (fun x4 => if mT σ x4 = 8 then if mT σ (mR σ x4 2) = 111 then if 0 ≤ (v2 - 1) ∧ (v2 - 1) < (mN σ (mR σ x4 2) : Int) then if mT σ (mR σ (mR σ x4 2) (v2 - 1).toNat) = 110 then if 0 ≤ (v3 - 1) ∧ (v3 - 1) < (mN σ (mR σ (mR σ x4 2) (v2 - 1).toNat) : Int) then if mT σ (mR σ v0 25) = 7 then (x8_clear (mR σ v0 25) σ).bind (fun x9 => if mR σ (mR σ (mR σ x4 2) (v2 - 1).toNat) (v3 - 1).toNat = 0 then x1_written_j59 N v0 v4  x9 else (dp_Content_write N (mR σ (mR σ (mR σ x4 2) (v2 - 1).toNat) (v3 - 1).toNat) (mR x9 v0 25) x4 x9).bind (fun x16 => x1_written_j59 N v0 v4  x16)) else none else none else none else none else none else none) else some ((-1), σ)) else none
set_option maxRecDepth 100000 in
theorem ok_x1_written {ω : gW} {l : Launch} {d : Nat} {N : Nat} {σ : gMem} {v0 : Nat} {v1 : Int} {v2 : Int} {v3 : Int} {v4 : Int} (hl : l.stackTraces = false) (hdp : 153 ≤ d) (hv1 : g32 v1) (hv2 : g32 v2) (hv3 : g32 v3) (hv4 : g32 v4) : gK (fun p : Int × gMem => (.inl (some (vI p.1)), p.2)) gE ω l d mu_x1_written [vR v0, vI v1, vI v2, vI v3, vI v4] σ (x1_written N v0 v1 v2 v3 v4 σ) := by
  refine gK.of hp_X1 (Nat.le_of_ble_eq_true rfl) ?_
  unfold x1_written
  refine x_aload_n (μ := mu_x1_written) (pc := 0) 0 dX1_written_0 rfl ?_
  refine x_iload_n (μ := mu_x1_written) (pc := 1) 1 dX1_written_1 rfl ?_
  refine x_iload_n (μ := mu_x1_written) (pc := 2) 2 dX1_written_2 rfl ?_
  refine x_iload_n (μ := mu_x1_written) (pc := 3) 3 dX1_written_3 rfl ?_
  refine x_if (fun hT1 => ?_)
  refine x_callV_pi (μ := mu_x1_written) (pc := 4) (ok_x1_hasCell (ω := ω) (l := l) (d := d - 1) hl (by omega) hv1 hv2 hv3) gRel_E gRel_E (fun _ q => q) q816 q818 qs5 q221 q819 dX1_written_4 rfl hT1 hy_x1_hasCell (by omega) (Nat.le_of_ble_eq_true rfl) rfl (Nat.le_of_ble_eq_true rfl) (fun x2 hr3 => ?_)
  refine x_if_ne (μ := mu_x1_written) (pc := 7) (tgt := 12) dX1_written_7 rfl hr3 ?_ ?_
  · refine x_aload_n (μ := mu_x1_written) (pc := 12) 0 dX1_written_12 rfl ?_
    refine x_iload_n (μ := mu_x1_written) (pc := 13) 1 dX1_written_13 rfl ?_
    refine x_callV_pr (μ := mu_x1_written) (pc := 14) (ok_x1_sheetOf (ω := ω) (l := l) (d := d - 1) hl (by omega) hv1) gRel_E gRel_E (fun _ q => q) q808 q810 qs4 q221 q811 dX1_written_14 rfl hT1 hy_x1_sheetOf (by omega) (Nat.le_of_ble_eq_true rfl) rfl (Nat.le_of_ble_eq_true rfl) (fun x4 => ?_)
    refine x_astore (μ := mu_x1_written) (pc := 17) (lv' := [(5, vR x4), (0, vR v0), (1, vI v1), (2, vI v2), (3, vI v3), (4, vI v4)]) dX1_written_17 (by decide) rfl ?_
    refine x_aload (μ := mu_x1_written) (pc := 19) 0 dX1_written_19 rfl ?_
    refine x_if (fun hT5 => ?_)
    refine x_fgrN (μ := mu_x1_written) (pc := 21) fX9_2 (by first | exact Or.inl ⟨_, rfl⟩ | exact Or.inr ⟨_, rfl⟩) q582 dX1_written_21 hT5 ?_
    refine x_iload_n (μ := mu_x1_written) (pc := 24) 3 dX1_written_24 rfl ?_
    refine x_iconst (μ := mu_x1_written) (pc := 25) dX1_written_25 ?_
    refine x_isub (μ := mu_x1_written) (pc := 26) dX1_written_26 ?_
    refine x_if (fun hT6 => ?_)
    refine x_aald (μ := mu_x1_written) (pc := 27) 11 (fun _ => rfl) rfl rfl dX1_written_27 hT6 rfl ?_
    refine x_iload_n (μ := mu_x1_written) (pc := 28) 4 dX1_written_28 rfl ?_
    refine x_iconst (μ := mu_x1_written) (pc := 29) dX1_written_29 ?_
    refine x_isub (μ := mu_x1_written) (pc := 30) dX1_written_30 ?_
    refine x_if (fun hT7 => ?_)
    refine x_aald (μ := mu_x1_written) (pc := 31) 10 (fun _ => rfl) rfl rfl dX1_written_31 hT7 rfl ?_
    refine x_astore (μ := mu_x1_written) (pc := 32) (lv' := [(6, vR (mR σ (mR σ (mR σ x4 2) (v2 - 1).toNat) (v3 - 1).toNat)), (5, vR x4), (0, vR v0), (1, vI v1), (2, vI v2), (3, vI v3), (4, vI v4)]) dX1_written_32 (by decide) rfl ?_
    refine x_aload_n (μ := mu_x1_written) (pc := 34) 2 dX1_written_34 rfl ?_
    refine x_fgr (μ := mu_x1_written) (pc := 35) fX1_25 (by first | exact Or.inl ⟨_, rfl⟩ | exact Or.inr ⟨_, rfl⟩) q670 dX1_written_35 hT1 ?_
    refine x_if (fun hT8 => ?_)
    refine x_callV_mv (μ := mu_x1_written) (pc := 38) (ok_x8_clear (ω := ω) (l := l) (d := d - 1) hl (by omega) ) gRel_E gRel_E (fun _ q => q) q1347 q1348 q1349 q229 q1350 dX1_written_38 rfl hT8 hy_x8_clear (by omega) (Nat.le_of_ble_eq_true rfl) rfl (Nat.le_of_ble_eq_true rfl) (fun x9 k10 => ?_)
    refine x_aload (μ := mu_x1_written) (pc := 41) 0 dX1_written_41 rfl ?_
    refine x_ifnull (μ := mu_x1_written) (pc := 43) (tgt := 59) dX1_written_43 rfl ?_ ?_
    · refine x_loc (lv' := [(0, vR v0), (4, vI v4)]) [2, 6] rfl ?_
      exact okj_x1_written_j59 hl hdp hv4
    · refine x_aload (μ := mu_x1_written) (pc := 46) 0 dX1_written_46 rfl ?_
      refine x_aload_n (μ := mu_x1_written) (pc := 48) 2 dX1_written_48 rfl ?_
      refine x_fgr (μ := mu_x1_written) (pc := 49) fX1_25 (by first | exact Or.inl ⟨_, rfl⟩ | exact Or.inr ⟨_, rfl⟩) q670 dX1_written_49 (gT_E k10 hT1 (by decide)) ?_
      refine x_aload (μ := mu_x1_written) (pc := 52) 1 dX1_written_52 rfl ?_
      refine x_callF_mv (μ := mu_x1_written) (pc := 54) (ok_dp_Content_write (ω := ω) (l := l) (d := d - 1) hl (mR σ (mR σ (mR σ x4 2) (v2 - 1).toNat) (v3 - 1).toNat) (mR x9 v0 25) x4 x9 (by omega)) gRel_E gRel_E (fun _ q => q) q1352 dX1_written_54 iy_Content_write_hy (by omega) rfl (Nat.le_of_ble_eq_true rfl) (fun x16 k17 => ?_)
      refine x_loc (lv' := [(0, vR v0), (4, vI v4)]) [2, 6] rfl ?_
      exact okj_x1_written_j59 hl hdp hv4
  · refine x_iconst (μ := mu_x1_written) (pc := 10) dX1_written_10 ?_
    exact x_iret (μ := mu_x1_written) (pc := 11) dX1_written_11 rfl rfl (gRel_E.1 _) (show g32 (-1) from (by decide))
def tw_readTest (N : Nat) (W : gMem → Option gMem) (h : Nat) (σ : gMem) : Option gMem := (tw_readChain N W h σ).bind (fun x1 => (tw_isSignOf h 10 15 x1).bind (fun x4 => if x4 = 0 then some x1 else (tw_next N h x1).bind (fun x7 => (tw_readChain N W h x7).bind (fun x10 => (tw_part N h (mI x1 h 50) 2 x10).bind (fun x13 => some (x13.2))))))
set_option maxRecDepth 100000 in
theorem ok_tw_readTest {ω : gW} {l : Launch} {d : Nat} {N : Nat} {W : gMem → Option gMem} {dW : Nat} {h : Nat} {σ : gMem} (hW : ∀ (s : gMem), TM s h → gK (fun p : gMem => (.inl none, p)) gTw ω l dW mu_tw_readSign [vR h] s (W s)) (hdp : 10 ≤ d) (hdw : dW + 4 ≤ d) (hM : TM σ h) : gK (fun p : gMem => (.inl none, p)) gTw ω l d mu_tw_readTest [vR h] σ (tw_readTest N W h σ) := by
  refine gK.of hp_X11 (Nat.le_of_ble_eq_true rfl) ?_
  unfold tw_readTest
  refine x_aload_n (μ := mu_tw_readTest) (pc := 0) 0 dX11_readTest_0 rfl ?_
  refine x_callV_mv (μ := mu_tw_readTest) (pc := 1) (ok_tw_readChain (ω := ω) (l := l) (d := d - 1) hW (by omega) (by omega) hM ) gRel_Tw gRel_Tw (fun _ q => q) q3051 q3053 qs93 q232 q3054 dX11_readTest_1 rfl hM.1 hy_tw_readChain (by omega) (Nat.le_of_ble_eq_true rfl) rfl (Nat.le_of_ble_eq_true rfl) (fun x1 k2 => ?_)
  have hM3 : TM x1 h := hM.tw k2
  refine x_aload_n (μ := mu_tw_readTest) (pc := 4) 0 dX11_readTest_4 rfl ?_
  refine x_bipush (μ := mu_tw_readTest) (pc := 5) dX11_readTest_5 (by decide) ?_
  refine x_bipush (μ := mu_tw_readTest) (pc := 7) dX11_readTest_7 (by decide) ?_
  refine x_callV_pi (μ := mu_tw_readTest) (pc := 9) (ok_tw_isSignOf (ω := ω) (l := l) (d := d - 1) (by omega) hM3 (by decide) (by decide)) gRel_Tw gRel_Tw (fun _ q => q) q3067 q3069 qs97 q232 q3070 dX11_readTest_9 rfl hM3.1 hy_tw_isSignOf (by omega) (Nat.le_of_ble_eq_true rfl) rfl (Nat.le_of_ble_eq_true rfl) (fun x4 hr5 => ?_)
  refine x_if_eq (μ := mu_tw_readTest) (pc := 12) (tgt := 35) dX11_readTest_12 rfl hr5 ?_ ?_
  · exact x_vret (μ := mu_tw_readTest) (pc := 35) (a1 := x1) dX11_readTest_35 rfl rfl (gRel_Tw.1 _) trivial
  · refine x_aload_n (μ := mu_tw_readTest) (pc := 15) 0 dX11_readTest_15 rfl ?_
    refine x_fgi (μ := mu_tw_readTest) (pc := 16) fX11_50 q2686 dX11_readTest_16 hM3.1 (fun hr6 => ?_)
    refine x_istore_n (μ := mu_tw_readTest) (pc := 19) (lv' := [(1, vI (mI x1 h 50)), (0, vR h)]) dX11_readTest_19 rfl (by decide) rfl ?_
    refine x_aload_n (μ := mu_tw_readTest) (pc := 20) 1 dX11_readTest_20 rfl ?_
    refine x_callV_mv (μ := mu_tw_readTest) (pc := 21) (ok_tw_next (ω := ω) (l := l) (d := d - 1) (by omega) hM3 ) gRel_Tw gRel_Tw (fun _ q => q) q2995 q2997 qs82 q232 q2998 dX11_readTest_21 rfl hM3.1 hy_tw_next (by omega) (Nat.le_of_ble_eq_true rfl) rfl (Nat.le_of_ble_eq_true rfl) (fun x7 k8 => ?_)
    have hM9 : TM x7 h := hM3.tw k8
    refine x_aload_n (μ := mu_tw_readTest) (pc := 24) 1 dX11_readTest_24 rfl ?_
    refine x_callV_mv (μ := mu_tw_readTest) (pc := 25) (ok_tw_readChain (ω := ω) (l := l) (d := d - 1) hW (by omega) (by omega) hM9 ) gRel_Tw gRel_Tw (fun _ q => q) q3051 q3053 qs93 q232 q3054 dX11_readTest_25 rfl hM9.1 hy_tw_readChain (by omega) (Nat.le_of_ble_eq_true rfl) rfl (Nat.le_of_ble_eq_true rfl) (fun x10 k11 => ?_)
    have hM12 : TM x10 h := hM9.tw k11
    refine x_aload_n (μ := mu_tw_readTest) (pc := 28) 1 dX11_readTest_28 rfl ?_
    refine x_iload_n (μ := mu_tw_readTest) (pc := 29) 0 dX11_readTest_29 rfl ?_
    refine x_iconst (μ := mu_tw_readTest) (pc := 30) dX11_readTest_30 ?_
    refine x_callV_mi (μ := mu_tw_readTest) (pc := 31) (ok_tw_part (ω := ω) (l := l) (d := d - 1) (by omega) hM12 hr6 (by decide)) gRel_Tw gRel_Tw (fun _ q => q) q3083 q3085 qs101 q232 q3086 dX11_readTest_31 rfl hM12.1 hy_tw_part (by omega) (Nat.le_of_ble_eq_true rfl) rfl (Nat.le_of_ble_eq_true rfl) (fun x13 k15 hr14 => ?_)
    have hM16 : TM (x13.2) h := hM12.tw k15
    refine x_pop (μ := mu_tw_readTest) (pc := 34) dX11_readTest_34 rfl ?_
    exact x_vret (μ := mu_tw_readTest) (pc := 35) (a1 := x13.2) dX11_readTest_35 rfl rfl (gRel_Tw.1 _) trivial
def tw_readCall_l44_j148 (N : Nat) (W : gMem → Option gMem) (h : Nat) (v1 : Int) (v2 : Int) (v3 : Int) (v4 : Int) (t0 : Int) (Kh : Int → Int → Int → gMem → Option gMem) (K : Int → Int → gMem → Option gMem) (s : gMem) : Option gMem := Kh v3 v4 t0 s
set_option maxRecDepth 100000 in
theorem okj_tw_readCall_l44_j148 {ω : gW} {l : Launch} {d : Nat} {N : Nat} {W : gMem → Option gMem} {dW : Nat} {h : Nat} {σ0 : gMem} {s : gMem} {v1 : Int} {v2 : Int} {v3 : Int} {v4 : Int} {t0 : Int} {Kh : Int → Int → Int → gMem → Option gMem} {K : Int → Int → gMem → Option gMem} (hW : ∀ (s : gMem), TM s h → gK (fun p : gMem => (.inl none, p)) gTw ω l dW mu_tw_readSign [vR h] s (W s)) (hdp : 11 ≤ d) (hdw : dW + 5 ≤ d) (hM : TM s h) (hv1 : g32 v1) (hv2 : g32 v2) (hv3 : g32 v3) (hv4 : g32 v4) (ht0 : g32 t0) (hKh : ∀ (v3 : Int) (v4 : Int) (v5 : Int) (s : gMem) , g32 v3 → g32 v4 → g32 v5 → TM s h → GG (fun p : gMem => (.inl none, p)) gTw ω l d mu_tw_readCall σ0 44 [(0, vR h), (1, vI v1), (2, vI v2), (3, vI v3), (4, vI v4), (5, vI v5)] [] s (Kh v3 v4 v5 s)) (hK : ∀ (v3 : Int) (v4 : Int) (s : gMem) , g32 v3 → g32 v4 → TM s h → GG (fun p : gMem => (.inl none, p)) gTw ω l d mu_tw_readCall σ0 153 [(0, vR h), (1, vI v1), (2, vI v2), (3, vI v3), (4, vI v4)] [] s (K v3 v4 s)) : GG (fun p : gMem => (.inl none, p)) gTw ω l d mu_tw_readCall σ0 148 [(0, vR h), (1, vI v1), (2, vI v2), (3, vI v3), (4, vI v4)] [vI t0] s (tw_readCall_l44_j148 N W h v1 v2 v3 v4 t0 Kh K s) := by
  unfold tw_readCall_l44_j148
  refine x_istore (μ := mu_tw_readCall) (pc := 148) (lv' := [(5, vI t0), (0, vR h), (1, vI v1), (2, vI v2), (3, vI v3), (4, vI v4)]) dX11_readCall_148 (by decide) rfl ?_
  refine x_goto (μ := mu_tw_readCall) (pc := 150) (tgt := 44) dX11_readCall_150 rfl ?_
  refine x_loc (lv' := [(0, vR h), (1, vI v1), (2, vI v2), (3, vI v3), (4, vI v4), (5, vI t0)]) [1, 2, 3, 4, 5, 0] rfl ?_
  exact hKh v3 v4 t0 s hv3 hv4 ht0 hM
def tw_readCall_l44_j129 (N : Nat) (W : gMem → Option gMem) (h : Nat) (v1 : Int) (v2 : Int) (v3 : Int) (t0 : Int) (Kh : Int → Int → Int → gMem → Option gMem) (K : Int → Int → gMem → Option gMem) (s : gMem) : Option gMem := if mI s h 47 ≠ 8 then tw_readCall_l44_j148 N W h v1 v2 (w32 (v3 + 1)) t0 0 (Kh) K s else tw_readCall_l44_j148 N W h v1 v2 (w32 (v3 + 1)) t0 1 (Kh) K s
set_option maxRecDepth 100000 in
theorem okj_tw_readCall_l44_j129 {ω : gW} {l : Launch} {d : Nat} {N : Nat} {W : gMem → Option gMem} {dW : Nat} {h : Nat} {σ0 : gMem} {s : gMem} {v1 : Int} {v2 : Int} {v3 : Int} {t0 : Int} {Kh : Int → Int → Int → gMem → Option gMem} {K : Int → Int → gMem → Option gMem} (hW : ∀ (s : gMem), TM s h → gK (fun p : gMem => (.inl none, p)) gTw ω l dW mu_tw_readSign [vR h] s (W s)) (hdp : 11 ≤ d) (hdw : dW + 5 ≤ d) (hM : TM s h) (hv1 : g32 v1) (hv2 : g32 v2) (hv3 : g32 v3) (ht0 : g32 t0) (hKh : ∀ (v3 : Int) (v4 : Int) (v5 : Int) (s : gMem) , g32 v3 → g32 v4 → g32 v5 → TM s h → GG (fun p : gMem => (.inl none, p)) gTw ω l d mu_tw_readCall σ0 44 [(0, vR h), (1, vI v1), (2, vI v2), (3, vI v3), (4, vI v4), (5, vI v5)] [] s (Kh v3 v4 v5 s)) (hK : ∀ (v3 : Int) (v4 : Int) (s : gMem) , g32 v3 → g32 v4 → TM s h → GG (fun p : gMem => (.inl none, p)) gTw ω l d mu_tw_readCall σ0 153 [(0, vR h), (1, vI v1), (2, vI v2), (3, vI v3), (4, vI v4)] [] s (K v3 v4 s)) : GG (fun p : gMem => (.inl none, p)) gTw ω l d mu_tw_readCall σ0 129 [(0, vR h), (1, vI v1), (2, vI v2), (3, vI v3)] [vI t0] s (tw_readCall_l44_j129 N W h v1 v2 v3 t0 Kh K s) := by
  unfold tw_readCall_l44_j129
  refine x_istore (μ := mu_tw_readCall) (pc := 129) (lv' := [(4, vI t0), (0, vR h), (1, vI v1), (2, vI v2), (3, vI v3)]) dX11_readCall_129 (by decide) rfl ?_
  refine x_iincw (μ := mu_tw_readCall) (pc := 131) (lv' := [(3, vI (w32 (v3 + 1))), (4, vI t0), (0, vR h), (1, vI v1), (2, vI v2)]) 4 dX11_readCall_131 rfl (by decide) rfl ?_
  refine x_aload_n (μ := mu_tw_readCall) (pc := 134) 2 dX11_readCall_134 rfl ?_
  refine x_fgi (μ := mu_tw_readCall) (pc := 135) fX11_47 q2683 dX11_readCall_135 hM.1 (fun hr19 => ?_)
  refine x_bipush (μ := mu_tw_readCall) (pc := 138) dX11_readCall_138 (by decide) ?_
  refine x_icmp_ne (μ := mu_tw_readCall) (pc := 140) (tgt := 147) dX11_readCall_140 rfl hr19 (by decide) ?_ ?_
  · refine x_iconst (μ := mu_tw_readCall) (pc := 147) dX11_readCall_147 ?_
    refine x_loc (lv' := [(0, vR h), (1, vI v1), (2, vI v2), (3, vI (w32 (v3 + 1))), (4, vI t0)]) [2, 3, 4, 0, 1] rfl ?_
    exact okj_tw_readCall_l44_j148 hW hdp hdw hM hv1 hv2 (w32_rng _) ht0 (by decide) hKh hK
  · refine x_iconst (μ := mu_tw_readCall) (pc := 143) dX11_readCall_143 ?_
    refine x_goto (μ := mu_tw_readCall) (pc := 144) (tgt := 148) dX11_readCall_144 rfl ?_
    refine x_loc (lv' := [(0, vR h), (1, vI v1), (2, vI v2), (3, vI (w32 (v3 + 1))), (4, vI t0)]) [2, 3, 4, 0, 1] rfl ?_
    exact okj_tw_readCall_l44_j148 hW hdp hdw hM hv1 hv2 (w32_rng _) ht0 (by decide) hKh hK
def tw_readCall_l44_j128 (N : Nat) (W : gMem → Option gMem) (h : Nat) (v1 : Int) (v2 : Int) (v3 : Int) (Kh : Int → Int → Int → gMem → Option gMem) (K : Int → Int → gMem → Option gMem) (s : gMem) : Option gMem := tw_readCall_l44_j129 N W h v1 v2 v3 0 (Kh) K s
set_option maxRecDepth 100000 in
theorem okj_tw_readCall_l44_j128 {ω : gW} {l : Launch} {d : Nat} {N : Nat} {W : gMem → Option gMem} {dW : Nat} {h : Nat} {σ0 : gMem} {s : gMem} {v1 : Int} {v2 : Int} {v3 : Int} {Kh : Int → Int → Int → gMem → Option gMem} {K : Int → Int → gMem → Option gMem} (hW : ∀ (s : gMem), TM s h → gK (fun p : gMem => (.inl none, p)) gTw ω l dW mu_tw_readSign [vR h] s (W s)) (hdp : 11 ≤ d) (hdw : dW + 5 ≤ d) (hM : TM s h) (hv1 : g32 v1) (hv2 : g32 v2) (hv3 : g32 v3) (hKh : ∀ (v3 : Int) (v4 : Int) (v5 : Int) (s : gMem) , g32 v3 → g32 v4 → g32 v5 → TM s h → GG (fun p : gMem => (.inl none, p)) gTw ω l d mu_tw_readCall σ0 44 [(0, vR h), (1, vI v1), (2, vI v2), (3, vI v3), (4, vI v4), (5, vI v5)] [] s (Kh v3 v4 v5 s)) (hK : ∀ (v3 : Int) (v4 : Int) (s : gMem) , g32 v3 → g32 v4 → TM s h → GG (fun p : gMem => (.inl none, p)) gTw ω l d mu_tw_readCall σ0 153 [(0, vR h), (1, vI v1), (2, vI v2), (3, vI v3), (4, vI v4)] [] s (K v3 v4 s)) : GG (fun p : gMem => (.inl none, p)) gTw ω l d mu_tw_readCall σ0 128 [(0, vR h), (1, vI v1), (2, vI v2), (3, vI v3)] [] s (tw_readCall_l44_j128 N W h v1 v2 v3 Kh K s) := by
  unfold tw_readCall_l44_j128
  refine x_iconst (μ := mu_tw_readCall) (pc := 128) dX11_readCall_128 ?_
  exact okj_tw_readCall_l44_j129 hW hdp hdw hM hv1 hv2 hv3 (by decide) hKh hK
def tw_readCall_l44_j92 (N : Nat) (W : gMem → Option gMem) (h : Nat) (v1 : Int) (v2 : Int) (v3 : Int) (v4 : Int) (v5 : Int) (Kh : Int → Int → Int → gMem → Option gMem) (K : Int → Int → gMem → Option gMem) (s : gMem) : Option gMem := if mI s h 41 ≠ 0 then Kh v3 v4 v5 s else if v4 = 0 then tw_readCall_l44_j128 N W h v1 v2 v3  (Kh) K s else (tw_isArg h v1 v3 (w32 (((mI s h 25) + (mI s h 56)) - 1)) s).bind (fun x22 => if x22.1 = 0 then tw_readCall_l44_j128 N W h v1 v2 v3  (Kh) K (x22.2) else tw_readCall_l44_j129 N W h v1 v2 v3 1 (Kh) K (x22.2))
set_option maxRecDepth 100000 in
theorem okj_tw_readCall_l44_j92 {ω : gW} {l : Launch} {d : Nat} {N : Nat} {W : gMem → Option gMem} {dW : Nat} {h : Nat} {σ0 : gMem} {s : gMem} {v1 : Int} {v2 : Int} {v3 : Int} {v4 : Int} {v5 : Int} {Kh : Int → Int → Int → gMem → Option gMem} {K : Int → Int → gMem → Option gMem} (hW : ∀ (s : gMem), TM s h → gK (fun p : gMem => (.inl none, p)) gTw ω l dW mu_tw_readSign [vR h] s (W s)) (hdp : 11 ≤ d) (hdw : dW + 5 ≤ d) (hM : TM s h) (hv1 : g32 v1) (hv2 : g32 v2) (hv3 : g32 v3) (hv4 : g32 v4) (hv5 : g32 v5) (hKh : ∀ (v3 : Int) (v4 : Int) (v5 : Int) (s : gMem) , g32 v3 → g32 v4 → g32 v5 → TM s h → GG (fun p : gMem => (.inl none, p)) gTw ω l d mu_tw_readCall σ0 44 [(0, vR h), (1, vI v1), (2, vI v2), (3, vI v3), (4, vI v4), (5, vI v5)] [] s (Kh v3 v4 v5 s)) (hK : ∀ (v3 : Int) (v4 : Int) (s : gMem) , g32 v3 → g32 v4 → TM s h → GG (fun p : gMem => (.inl none, p)) gTw ω l d mu_tw_readCall σ0 153 [(0, vR h), (1, vI v1), (2, vI v2), (3, vI v3), (4, vI v4)] [] s (K v3 v4 s)) : GG (fun p : gMem => (.inl none, p)) gTw ω l d mu_tw_readCall σ0 92 [(0, vR h), (1, vI v1), (2, vI v2), (3, vI v3), (4, vI v4), (5, vI v5)] [] s (tw_readCall_l44_j92 N W h v1 v2 v3 v4 v5 Kh K s) := by
  unfold tw_readCall_l44_j92
  refine x_aload_n (μ := mu_tw_readCall) (pc := 92) 0 dX11_readCall_92 rfl ?_
  refine x_fgi (μ := mu_tw_readCall) (pc := 93) fX11_41 q2677 dX11_readCall_93 hM.1 (fun hr18 => ?_)
  refine x_if_ne (μ := mu_tw_readCall) (pc := 96) (tgt := 44) dX11_readCall_96 rfl hr18 ?_ ?_
  · exact hKh v3 v4 v5 s hv3 hv4 hv5 hM
  · refine x_iload (μ := mu_tw_readCall) (pc := 99) 4 dX11_readCall_99 rfl ?_
    refine x_if_eq (μ := mu_tw_readCall) (pc := 101) (tgt := 128) dX11_readCall_101 rfl hv4 ?_ ?_
    · refine x_loc (lv' := [(0, vR h), (1, vI v1), (2, vI v2), (3, vI v3)]) [0, 1, 2, 3] rfl ?_
      exact okj_tw_readCall_l44_j128 hW hdp hdw hM hv1 hv2 hv3 hKh hK
    · refine x_aload_n (μ := mu_tw_readCall) (pc := 104) 0 dX11_readCall_104 rfl ?_
      refine x_iload_n (μ := mu_tw_readCall) (pc := 105) 1 dX11_readCall_105 rfl ?_
      refine x_iload_n (μ := mu_tw_readCall) (pc := 106) 3 dX11_readCall_106 rfl ?_
      refine x_aload_n (μ := mu_tw_readCall) (pc := 107) 0 dX11_readCall_107 rfl ?_
      refine x_fgi (μ := mu_tw_readCall) (pc := 108) fX11_25 q2661 dX11_readCall_108 hM.1 (fun hr20 => ?_)
      refine x_aload_n (μ := mu_tw_readCall) (pc := 111) 0 dX11_readCall_111 rfl ?_
      refine x_fgi (μ := mu_tw_readCall) (pc := 112) fX11_56 q2692 dX11_readCall_112 hM.1 (fun hr21 => ?_)
      refine x_iadd (μ := mu_tw_readCall) (pc := 115) dX11_readCall_115 ?_
      refine x_iconst (μ := mu_tw_readCall) (pc := 116) dX11_readCall_116 ?_
      refine x_isub (μ := mu_tw_readCall) (pc := 117) dX11_readCall_117 ?_
      refine x_w1 ?_
      refine x_callV_mi (μ := mu_tw_readCall) (pc := 118) (ok_tw_isArg (ω := ω) (l := l) (d := d - 1) (by omega) hM hv1 hv3 (w32_rng _)) gRel_Tw gRel_Tw (fun _ q => q) q3156 q3158 qs113 q232 q3159 dX11_readCall_118 rfl hM.1 hy_tw_isArg (by omega) (Nat.le_of_ble_eq_true rfl) rfl (Nat.le_of_ble_eq_true rfl) (fun x22 k24 hr23 => ?_)
      have hM25 : TM (x22.2) h := hM.tw k24
      refine x_if_eq (μ := mu_tw_readCall) (pc := 121) (tgt := 128) dX11_readCall_121 rfl hr23 ?_ ?_
      · refine x_loc (lv' := [(0, vR h), (1, vI v1), (2, vI v2), (3, vI v3)]) [0, 1, 2, 3] rfl ?_
        exact okj_tw_readCall_l44_j128 hW hdp hdw hM25 hv1 hv2 hv3 hKh hK
      · refine x_iconst (μ := mu_tw_readCall) (pc := 124) dX11_readCall_124 ?_
        refine x_goto (μ := mu_tw_readCall) (pc := 125) (tgt := 129) dX11_readCall_125 rfl ?_
        refine x_loc (lv' := [(0, vR h), (1, vI v1), (2, vI v2), (3, vI v3)]) [0, 1, 2, 3] rfl ?_
        exact okj_tw_readCall_l44_j129 hW hdp hdw hM25 hv1 hv2 hv3 (by decide) hKh hK
def tw_readCall_l44_j88 (N : Nat) (W : gMem → Option gMem) (h : Nat) (v1 : Int) (v2 : Int) (v3 : Int) (v4 : Int) (v5 : Int) (Kh : Int → Int → Int → gMem → Option gMem) (K : Int → Int → gMem → Option gMem) (s : gMem) : Option gMem := (tw_readTest N W h s).bind (fun x15 => tw_readCall_l44_j92 N W h v1 v2 v3 v4 v5  (Kh) K x15)
set_option maxRecDepth 100000 in
theorem okj_tw_readCall_l44_j88 {ω : gW} {l : Launch} {d : Nat} {N : Nat} {W : gMem → Option gMem} {dW : Nat} {h : Nat} {σ0 : gMem} {s : gMem} {v1 : Int} {v2 : Int} {v3 : Int} {v4 : Int} {v5 : Int} {Kh : Int → Int → Int → gMem → Option gMem} {K : Int → Int → gMem → Option gMem} (hW : ∀ (s : gMem), TM s h → gK (fun p : gMem => (.inl none, p)) gTw ω l dW mu_tw_readSign [vR h] s (W s)) (hdp : 11 ≤ d) (hdw : dW + 5 ≤ d) (hM : TM s h) (hv1 : g32 v1) (hv2 : g32 v2) (hv3 : g32 v3) (hv4 : g32 v4) (hv5 : g32 v5) (hKh : ∀ (v3 : Int) (v4 : Int) (v5 : Int) (s : gMem) , g32 v3 → g32 v4 → g32 v5 → TM s h → GG (fun p : gMem => (.inl none, p)) gTw ω l d mu_tw_readCall σ0 44 [(0, vR h), (1, vI v1), (2, vI v2), (3, vI v3), (4, vI v4), (5, vI v5)] [] s (Kh v3 v4 v5 s)) (hK : ∀ (v3 : Int) (v4 : Int) (s : gMem) , g32 v3 → g32 v4 → TM s h → GG (fun p : gMem => (.inl none, p)) gTw ω l d mu_tw_readCall σ0 153 [(0, vR h), (1, vI v1), (2, vI v2), (3, vI v3), (4, vI v4)] [] s (K v3 v4 s)) : GG (fun p : gMem => (.inl none, p)) gTw ω l d mu_tw_readCall σ0 88 [(0, vR h), (1, vI v1), (2, vI v2), (3, vI v3), (4, vI v4), (5, vI v5)] [] s (tw_readCall_l44_j88 N W h v1 v2 v3 v4 v5 Kh K s) := by
  unfold tw_readCall_l44_j88
  refine x_aload_n (μ := mu_tw_readCall) (pc := 88) 0 dX11_readCall_88 rfl ?_
  refine x_callV_mv (μ := mu_tw_readCall) (pc := 89) (ok_tw_readTest (ω := ω) (l := l) (d := d - 1) hW (by omega) (by omega) hM ) gRel_Tw gRel_Tw (fun _ q => q) q3047 q3049 qs92 q232 q3050 dX11_readCall_89 rfl hM.1 hy_tw_readTest (by omega) (Nat.le_of_ble_eq_true rfl) rfl (Nat.le_of_ble_eq_true rfl) (fun x15 k16 => ?_)
  have hM17 : TM x15 h := hM.tw k16
  exact okj_tw_readCall_l44_j92 hW hdp hdw hM17 hv1 hv2 hv3 hv4 hv5 hKh hK
def tw_readCall_l44 (N : Nat) (W : gMem → Option gMem) (h : Nat) (v1 : Int) (v2 : Int) (K : Int → Int → gMem → Option gMem) : Nat → Int → Int → Int → gMem → Option gMem
  | 0, _, _, _, _ => none
  | n + 1, v3, v4, v5, s => if v5 = 0 then K v3 v4 s else if mI s h 41 ≠ 0 then K v3 v4 s else (tw_next N h s).bind (fun x11 => if mI x11 h 47 ≠ 3 then tw_readCall_l44_j88 N W h v1 v2 v3 v4 v5  (tw_readCall_l44 N W h v1 v2 K n) K x11 else (tw_byteAt h (mI x11 h 49) x11).bind (fun x27 => if x27 ≠ 58 then tw_readCall_l44_j88 N W h v1 v2 v3 v4 v5  (tw_readCall_l44 N W h v1 v2 K n) K x11 else (tw_readArea N h x11).bind (fun x29 => tw_readCall_l44_j92 N W h v1 v2 v3 v4 v5  (tw_readCall_l44 N W h v1 v2 K n) K x29)))
set_option maxRecDepth 100000 in
theorem okl_tw_readCall_l44 {ω : gW} {l : Launch} {d : Nat} {N : Nat} {W : gMem → Option gMem} {dW : Nat} {h : Nat} {σ0 : gMem} {v1 : Int} {v2 : Int} {K : Int → Int → gMem → Option gMem} (hW : ∀ (s : gMem), TM s h → gK (fun p : gMem => (.inl none, p)) gTw ω l dW mu_tw_readSign [vR h] s (W s)) (hdp : 11 ≤ d) (hdw : dW + 5 ≤ d) (hv1 : g32 v1) (hv2 : g32 v2) (hK : ∀ (v3 : Int) (v4 : Int) (s : gMem) , g32 v3 → g32 v4 → TM s h → GG (fun p : gMem => (.inl none, p)) gTw ω l d mu_tw_readCall σ0 153 [(0, vR h), (1, vI v1), (2, vI v2), (3, vI v3), (4, vI v4)] [] s (K v3 v4 s)) : ∀ (n : Nat) (v3 : Int) (v4 : Int) (v5 : Int) (s : gMem) , g32 v3 → g32 v4 → g32 v5 → TM s h → GG (fun p : gMem => (.inl none, p)) gTw ω l d mu_tw_readCall σ0 44 [(0, vR h), (1, vI v1), (2, vI v2), (3, vI v3), (4, vI v4), (5, vI v5)] [] s (tw_readCall_l44 N W h v1 v2 K n v3 v4 v5 s) := by
  intro n
  induction n with
  | zero => intros; exact x_none
  | succ n ih =>
    intro v3 v4 v5 s hv3 hv4 hv5 hM
    unfold tw_readCall_l44
    refine x_iload (μ := mu_tw_readCall) (pc := 44) 5 dX11_readCall_44 rfl ?_
    refine x_if_eq (μ := mu_tw_readCall) (pc := 46) (tgt := 153) dX11_readCall_46 rfl hv5 ?_ ?_
    · refine x_loc (lv' := [(0, vR h), (1, vI v1), (2, vI v2), (3, vI v3), (4, vI v4)]) [0, 1, 2, 3, 4] rfl ?_
      exact hK v3 v4 s hv3 hv4 hM
    · refine x_aload_n (μ := mu_tw_readCall) (pc := 49) 0 dX11_readCall_49 rfl ?_
      refine x_fgi (μ := mu_tw_readCall) (pc := 50) fX11_41 q2677 dX11_readCall_50 hM.1 (fun hr10 => ?_)
      refine x_if_ne (μ := mu_tw_readCall) (pc := 53) (tgt := 153) dX11_readCall_53 rfl hr10 ?_ ?_
      · refine x_loc (lv' := [(0, vR h), (1, vI v1), (2, vI v2), (3, vI v3), (4, vI v4)]) [0, 1, 2, 3, 4] rfl ?_
        exact hK v3 v4 s hv3 hv4 hM
      · refine x_aload_n (μ := mu_tw_readCall) (pc := 56) 0 dX11_readCall_56 rfl ?_
        refine x_callV_mv (μ := mu_tw_readCall) (pc := 57) (ok_tw_next (ω := ω) (l := l) (d := d - 1) (by omega) hM ) gRel_Tw gRel_Tw (fun _ q => q) q2995 q2997 qs82 q232 q2998 dX11_readCall_57 rfl hM.1 hy_tw_next (by omega) (Nat.le_of_ble_eq_true rfl) rfl (Nat.le_of_ble_eq_true rfl) (fun x11 k12 => ?_)
        have hM13 : TM x11 h := hM.tw k12
        refine x_aload_n (μ := mu_tw_readCall) (pc := 60) 0 dX11_readCall_60 rfl ?_
        refine x_fgi (μ := mu_tw_readCall) (pc := 61) fX11_47 q2683 dX11_readCall_61 hM13.1 (fun hr14 => ?_)
        refine x_iconst (μ := mu_tw_readCall) (pc := 64) dX11_readCall_64 ?_
        refine x_icmp_ne (μ := mu_tw_readCall) (pc := 65) (tgt := 88) dX11_readCall_65 rfl hr14 (by decide) ?_ ?_
        · exact okj_tw_readCall_l44_j88 hW hdp hdw hM13 hv1 hv2 hv3 hv4 hv5 ih hK
        · refine x_aload_n (μ := mu_tw_readCall) (pc := 68) 0 dX11_readCall_68 rfl ?_
          refine x_aload_n (μ := mu_tw_readCall) (pc := 69) 0 dX11_readCall_69 rfl ?_
          refine x_fgi (μ := mu_tw_readCall) (pc := 70) fX11_49 q2685 dX11_readCall_70 hM13.1 (fun hr26 => ?_)
          refine x_callV_pi (μ := mu_tw_readCall) (pc := 73) (ok_tw_byteAt (ω := ω) (l := l) (d := d - 1) (by omega) hM13 hr26) gRel_Tw gRel_Tw (fun _ q => q) q2999 q3001 qs83 q232 q3002 dX11_readCall_73 rfl hM13.1 hy_tw_byteAt (by omega) (Nat.le_of_ble_eq_true rfl) rfl (Nat.le_of_ble_eq_true rfl) (fun x27 hr28 => ?_)
          refine x_bipush (μ := mu_tw_readCall) (pc := 76) dX11_readCall_76 (by decide) ?_
          refine x_icmp_ne (μ := mu_tw_readCall) (pc := 78) (tgt := 88) dX11_readCall_78 rfl hr28 (by decide) ?_ ?_
          · exact okj_tw_readCall_l44_j88 hW hdp hdw hM13 hv1 hv2 hv3 hv4 hv5 ih hK
          · refine x_aload_n (μ := mu_tw_readCall) (pc := 81) 0 dX11_readCall_81 rfl ?_
            refine x_callV_mv (μ := mu_tw_readCall) (pc := 82) (ok_tw_readArea (ω := ω) (l := l) (d := d - 1) (by omega) hM13 ) gRel_Tw gRel_Tw (fun _ q => q) q3132 q3134 qs107 q232 q3135 dX11_readCall_82 rfl hM13.1 hy_tw_readArea (by omega) (Nat.le_of_ble_eq_true rfl) rfl (Nat.le_of_ble_eq_true rfl) (fun x29 k30 => ?_)
            have hM31 : TM x29 h := hM13.tw k30
            refine x_goto (μ := mu_tw_readCall) (pc := 85) (tgt := 92) dX11_readCall_85 rfl ?_
            exact okj_tw_readCall_l44_j92 hW hdp hdw hM31 hv1 hv2 hv3 hv4 hv5 ih hK
def tw_readCall_j153 (N : Nat) (W : gMem → Option gMem) (h : Nat) (v1 : Int) (v2 : Int) (v3 : Int) (v4 : Int) (s : gMem) : Option gMem := (tw_readShut N h s).bind (fun x36 => if mI x36 h 41 ≤ 0 then (tw_part N h v1 v3 x36).bind (fun x40 => if v4 = 0 then (tw_later h 4 v2 (x40.2)).bind (fun x44 => some x44) else (tw_leastArgs v1 (x40.2)).bind (fun x47 => (tw_mostArgs v1 (x40.2)).bind (fun x49 => (tw_in v3 x47 x49 (x40.2)).bind (fun x51 => if x51 ≠ 0 then some (x40.2) else (tw_later h 4 v2 (x40.2)).bind (fun x53 => some x53))))) else some x36)
set_option maxRecDepth 100000 in
theorem okj_tw_readCall_j153 {ω : gW} {l : Launch} {d : Nat} {N : Nat} {W : gMem → Option gMem} {dW : Nat} {h : Nat} {σ0 : gMem} {s : gMem} {v1 : Int} {v2 : Int} {v3 : Int} {v4 : Int} (hW : ∀ (s : gMem), TM s h → gK (fun p : gMem => (.inl none, p)) gTw ω l dW mu_tw_readSign [vR h] s (W s)) (hdp : 11 ≤ d) (hdw : dW + 5 ≤ d) (hM : TM s h) (hv1 : g32 v1) (hv2 : g32 v2) (hv3 : g32 v3) (hv4 : g32 v4) : GG (fun p : gMem => (.inl none, p)) gTw ω l d mu_tw_readCall σ0 153 [(0, vR h), (1, vI v1), (2, vI v2), (3, vI v3), (4, vI v4)] [] s (tw_readCall_j153 N W h v1 v2 v3 v4 s) := by
  unfold tw_readCall_j153
  refine x_aload_n (μ := mu_tw_readCall) (pc := 153) 0 dX11_readCall_153 rfl ?_
  refine x_callV_mv (μ := mu_tw_readCall) (pc := 154) (ok_tw_readShut (ω := ω) (l := l) (d := d - 1) (by omega) hM ) gRel_Tw gRel_Tw (fun _ q => q) q3163 q3165 qs114 q232 q3166 dX11_readCall_154 rfl hM.1 hy_tw_readShut (by omega) (Nat.le_of_ble_eq_true rfl) rfl (Nat.le_of_ble_eq_true rfl) (fun x36 k37 => ?_)
  have hM38 : TM x36 h := hM.tw k37
  refine x_aload_n (μ := mu_tw_readCall) (pc := 157) 0 dX11_readCall_157 rfl ?_
  refine x_fgi (μ := mu_tw_readCall) (pc := 158) fX11_41 q2677 dX11_readCall_158 hM38.1 (fun hr39 => ?_)
  refine x_if_le (μ := mu_tw_readCall) (pc := 161) (tgt := 165) dX11_readCall_161 rfl hr39 ?_ ?_
  · refine x_aload_n (μ := mu_tw_readCall) (pc := 165) 0 dX11_readCall_165 rfl ?_
    refine x_iload_n (μ := mu_tw_readCall) (pc := 166) 1 dX11_readCall_166 rfl ?_
    refine x_iload_n (μ := mu_tw_readCall) (pc := 167) 3 dX11_readCall_167 rfl ?_
    refine x_callV_mi (μ := mu_tw_readCall) (pc := 168) (ok_tw_part (ω := ω) (l := l) (d := d - 1) (by omega) hM38 hv1 hv3) gRel_Tw gRel_Tw (fun _ q => q) q3083 q3085 qs101 q232 q3086 dX11_readCall_168 rfl hM38.1 hy_tw_part (by omega) (Nat.le_of_ble_eq_true rfl) rfl (Nat.le_of_ble_eq_true rfl) (fun x40 k42 hr41 => ?_)
    have hM43 : TM (x40.2) h := hM38.tw k42
    refine x_pop (μ := mu_tw_readCall) (pc := 171) dX11_readCall_171 rfl ?_
    refine x_iload (μ := mu_tw_readCall) (pc := 172) 4 dX11_readCall_172 rfl ?_
    refine x_if_eq (μ := mu_tw_readCall) (pc := 174) (tgt := 192) dX11_readCall_174 rfl hv4 ?_ ?_
    · refine x_aload_n (μ := mu_tw_readCall) (pc := 192) 0 dX11_readCall_192 rfl ?_
      refine x_iconst (μ := mu_tw_readCall) (pc := 193) dX11_readCall_193 ?_
      refine x_iload_n (μ := mu_tw_readCall) (pc := 194) 2 dX11_readCall_194 rfl ?_
      refine x_callV_mv (μ := mu_tw_readCall) (pc := 195) (ok_tw_later (ω := ω) (l := l) (d := d - 1) (by omega) hM43 (by decide) hv2) gRel_Tw gRel_Tw (fun _ q => q) q3152 q3154 qs112 q232 q3155 dX11_readCall_195 rfl hM43.1 hy_tw_later (by omega) (Nat.le_of_ble_eq_true rfl) rfl (Nat.le_of_ble_eq_true rfl) (fun x44 k45 => ?_)
      have hM46 : TM x44 h := hM43.tw k45
      exact x_vret (μ := mu_tw_readCall) (pc := 198) (a1 := x44) dX11_readCall_198 rfl rfl (gRel_Tw.1 _) trivial
    · refine x_iload_n (μ := mu_tw_readCall) (pc := 177) 3 dX11_readCall_177 rfl ?_
      refine x_iload_n (μ := mu_tw_readCall) (pc := 178) 1 dX11_readCall_178 rfl ?_
      refine x_callS_pi (μ := mu_tw_readCall) (pc := 179) (ok_tw_leastArgs (ω := ω) (l := l) (d := d - 1) (by omega) hv1) gRel_Tw gRel_Tw (fun _ q => q) q3167 q3168 q232 q3169 dX11_readCall_179 hy_tw_leastArgs (by omega) (Nat.le_of_ble_eq_true rfl) rfl (Nat.le_of_ble_eq_true rfl) (fun x47 hr48 => ?_)
      refine x_iload_n (μ := mu_tw_readCall) (pc := 182) 1 dX11_readCall_182 rfl ?_
      refine x_callS_pi (μ := mu_tw_readCall) (pc := 183) (ok_tw_mostArgs (ω := ω) (l := l) (d := d - 1) (by omega) hv1) gRel_Tw gRel_Tw (fun _ q => q) q3170 q3171 q232 q3172 dX11_readCall_183 hy_tw_mostArgs (by omega) (Nat.le_of_ble_eq_true rfl) rfl (Nat.le_of_ble_eq_true rfl) (fun x49 hr50 => ?_)
      refine x_callS_pi (μ := mu_tw_readCall) (pc := 186) (ok_tw_in (ω := ω) (l := l) (d := d - 1) (by omega) hv3 hr48 hr50) gRel_Tw gRel_Tw (fun _ q => q) q2980 q2981 q232 q2982 dX11_readCall_186 hy_tw_in (by omega) (Nat.le_of_ble_eq_true rfl) rfl (Nat.le_of_ble_eq_true rfl) (fun x51 hr52 => ?_)
      refine x_if_ne (μ := mu_tw_readCall) (pc := 189) (tgt := 198) dX11_readCall_189 rfl hr52 ?_ ?_
      · exact x_vret (μ := mu_tw_readCall) (pc := 198) (a1 := x40.2) dX11_readCall_198 rfl rfl (gRel_Tw.1 _) trivial
      · refine x_aload_n (μ := mu_tw_readCall) (pc := 192) 0 dX11_readCall_192 rfl ?_
        refine x_iconst (μ := mu_tw_readCall) (pc := 193) dX11_readCall_193 ?_
        refine x_iload_n (μ := mu_tw_readCall) (pc := 194) 2 dX11_readCall_194 rfl ?_
        refine x_callV_mv (μ := mu_tw_readCall) (pc := 195) (ok_tw_later (ω := ω) (l := l) (d := d - 1) (by omega) hM43 (by decide) hv2) gRel_Tw gRel_Tw (fun _ q => q) q3152 q3154 qs112 q232 q3155 dX11_readCall_195 rfl hM43.1 hy_tw_later (by omega) (Nat.le_of_ble_eq_true rfl) rfl (Nat.le_of_ble_eq_true rfl) (fun x53 k54 => ?_)
        have hM55 : TM x53 h := hM43.tw k54
        exact x_vret (μ := mu_tw_readCall) (pc := 198) (a1 := x53) dX11_readCall_198 rfl rfl (gRel_Tw.1 _) trivial
  · exact x_vret (μ := mu_tw_readCall) (pc := 164) (a1 := x36) dX11_readCall_164 rfl rfl (gRel_Tw.1 _) trivial
def tw_readCall (N : Nat) (W : gMem → Option gMem) (h : Nat) (v1 : Int) (σ : gMem) : Option gMem := (tw_next N h σ).bind (fun x2 => if mI x2 h 47 = 6 then (tw_opens h x2).bind (fun x6 => if x6.1 ≠ 0 then tw_readCall_l44 N W h v1 (mI σ h 48) (fun y32 y33 s34 => tw_readCall_j153 N W h v1 (mI σ h 48) y32 y33  s34) N 0 1 1 (x6.2) else some (x6.2)) else (tw_fail h 1 (mI x2 h 48) x2).bind (fun x57 => some x57))
set_option maxRecDepth 100000 in
theorem ok_tw_readCall {ω : gW} {l : Launch} {d : Nat} {N : Nat} {W : gMem → Option gMem} {dW : Nat} {h : Nat} {σ : gMem} {v1 : Int} (hW : ∀ (s : gMem), TM s h → gK (fun p : gMem => (.inl none, p)) gTw ω l dW mu_tw_readSign [vR h] s (W s)) (hdp : 11 ≤ d) (hdw : dW + 5 ≤ d) (hM : TM σ h) (hv1 : g32 v1) : gK (fun p : gMem => (.inl none, p)) gTw ω l d mu_tw_readCall [vR h, vI v1] σ (tw_readCall N W h v1 σ) := by
  refine gK.of hp_X11 (Nat.le_of_ble_eq_true rfl) ?_
  unfold tw_readCall
  refine x_aload_n (μ := mu_tw_readCall) (pc := 0) 0 dX11_readCall_0 rfl ?_
  refine x_fgi (μ := mu_tw_readCall) (pc := 1) fX11_48 q2684 dX11_readCall_1 hM.1 (fun hr1 => ?_)
  refine x_istore_n (μ := mu_tw_readCall) (pc := 4) (lv' := [(2, vI (mI σ h 48)), (0, vR h), (1, vI v1)]) dX11_readCall_4 rfl (by decide) rfl ?_
  refine x_aload_n (μ := mu_tw_readCall) (pc := 5) 1 dX11_readCall_5 rfl ?_
  refine x_callV_mv (μ := mu_tw_readCall) (pc := 6) (ok_tw_next (ω := ω) (l := l) (d := d - 1) (by omega) hM ) gRel_Tw gRel_Tw (fun _ q => q) q2995 q2997 qs82 q232 q2998 dX11_readCall_6 rfl hM.1 hy_tw_next (by omega) (Nat.le_of_ble_eq_true rfl) rfl (Nat.le_of_ble_eq_true rfl) (fun x2 k3 => ?_)
  have hM4 : TM x2 h := hM.tw k3
  refine x_aload_n (μ := mu_tw_readCall) (pc := 9) 1 dX11_readCall_9 rfl ?_
  refine x_fgi (μ := mu_tw_readCall) (pc := 10) fX11_47 q2683 dX11_readCall_10 hM4.1 (fun hr5 => ?_)
  refine x_bipush (μ := mu_tw_readCall) (pc := 13) dX11_readCall_13 (by decide) ?_
  refine x_icmp_eq (μ := mu_tw_readCall) (pc := 15) (tgt := 28) dX11_readCall_15 rfl hr5 (by decide) ?_ ?_
  · refine x_aload_n (μ := mu_tw_readCall) (pc := 28) 1 dX11_readCall_28 rfl ?_
    refine x_callV_mi (μ := mu_tw_readCall) (pc := 29) (ok_tw_opens (ω := ω) (l := l) (d := d - 1) (by omega) hM4 ) gRel_Tw gRel_Tw (fun _ q => q) q3128 q3130 qs106 q232 q3131 dX11_readCall_29 rfl hM4.1 hy_tw_opens (by omega) (Nat.le_of_ble_eq_true rfl) rfl (Nat.le_of_ble_eq_true rfl) (fun x6 k8 hr7 => ?_)
    have hM9 : TM (x6.2) h := hM4.tw k8
    refine x_if_ne (μ := mu_tw_readCall) (pc := 32) (tgt := 36) dX11_readCall_32 rfl hr7 ?_ ?_
    · refine x_iconst (μ := mu_tw_readCall) (pc := 36) dX11_readCall_36 ?_
      refine x_istore_n (μ := mu_tw_readCall) (pc := 37) (lv' := [(3, vI 0), (2, vI (mI σ h 48)), (0, vR h), (1, vI v1)]) dX11_readCall_37 rfl (by decide) rfl ?_
      refine x_iconst (μ := mu_tw_readCall) (pc := 38) dX11_readCall_38 ?_
      refine x_istore (μ := mu_tw_readCall) (pc := 39) (lv' := [(4, vI 1), (3, vI 0), (2, vI (mI σ h 48)), (0, vR h), (1, vI v1)]) dX11_readCall_39 (by decide) rfl ?_
      refine x_iconst (μ := mu_tw_readCall) (pc := 41) dX11_readCall_41 ?_
      refine x_istore (μ := mu_tw_readCall) (pc := 42) (lv' := [(5, vI 1), (4, vI 1), (3, vI 0), (2, vI (mI σ h 48)), (0, vR h), (1, vI v1)]) dX11_readCall_42 (by decide) rfl ?_
      refine x_loc (lv' := [(0, vR h), (1, vI v1), (2, vI (mI σ h 48)), (3, vI 0), (4, vI 1), (5, vI 1)]) [4, 5, 3, 2, 1, 0] rfl ?_
      refine okl_tw_readCall_l44 hW hdp hdw hv1 hr1 (fun y32 y33 s34 hy32 hy33 hM35 => ?_) N 0 1 1 (x6.2) (by decide) (by decide) (by decide) hM9
      exact okj_tw_readCall_j153 hW hdp hdw hM35 hv1 hr1 hy32 hy33
    · exact x_vret (μ := mu_tw_readCall) (pc := 35) (a1 := x6.2) dX11_readCall_35 rfl rfl (gRel_Tw.1 _) trivial
  · refine x_aload_n (μ := mu_tw_readCall) (pc := 18) 1 dX11_readCall_18 rfl ?_
    refine x_iconst (μ := mu_tw_readCall) (pc := 19) dX11_readCall_19 ?_
    refine x_aload_n (μ := mu_tw_readCall) (pc := 20) 1 dX11_readCall_20 rfl ?_
    refine x_fgi (μ := mu_tw_readCall) (pc := 21) fX11_48 q2684 dX11_readCall_21 hM4.1 (fun hr56 => ?_)
    refine x_callV_mv (μ := mu_tw_readCall) (pc := 24) (ok_tw_fail (ω := ω) (l := l) (d := d - 1) (by omega) hM4 (by decide) hr56) gRel_Tw gRel_Tw (fun _ q => q) q3079 q3081 qs100 q232 q3082 dX11_readCall_24 rfl hM4.1 hy_tw_fail (by omega) (Nat.le_of_ble_eq_true rfl) rfl (Nat.le_of_ble_eq_true rfl) (fun x57 k58 => ?_)
    have hM59 : TM x57 h := hM4.tw k58
    exact x_vret (μ := mu_tw_readCall) (pc := 27) (a1 := x57) dX11_readCall_27 rfl rfl (gRel_Tw.1 _) trivial
def tw_workCall_j84 (N : Nat) (W : Int → Int → Int → gMem → Option gMem) (h : Nat) (v3 : Int) (v4 : Int) (t0 : Int) (s : gMem) : Option gMem := if 0 ≤ t0 then if v4 ≠ 41 then (tw_number h v3 (w32 ((Int.tmod (w32 (Int.tmod t0 320)) 10) + 1)) s).bind (fun x5 => some x5) else (tw_number h v3 (w32 ((Int.tdiv (w32 (Int.tmod t0 320)) 10) + 1)) s).bind (fun x8 => some x8) else (tw_error h v3 1 s).bind (fun x11 => some x11)
set_option maxRecDepth 100000 in
theorem okj_tw_workCall_j84 {ω : gW} {l : Launch} {d : Nat} {N : Nat} {W : Int → Int → Int → gMem → Option gMem} {dW : Nat} {h : Nat} {σ0 : gMem} {s : gMem} {v3 : Int} {v4 : Int} {t0 : Int} (hW : ∀ (a1 : Int) (a2 : Int) (a3 : Int) (s : gMem), TM s h → g32 a1 → g32 a2 → g32 a3 → gK (fun p : gMem => (.inl none, p)) gTw ω l dW mu_tw_work [vR h, vI a1, vI a2, vI a3] s (W a1 a2 a3 s)) (hdp : 9 ≤ d) (hdw : dW + 2 ≤ d) (hM : TM s h) (hv3 : g32 v3) (hv4 : g32 v4) (ht0 : g32 t0) : GG (fun p : gMem => (.inl none, p)) gTw ω l d mu_tw_workCall σ0 84 [(0, vR h), (3, vI v3), (4, vI v4)] [vI t0] s (tw_workCall_j84 N W h v3 v4 t0 s) := by
  unfold tw_workCall_j84
  refine x_istore (μ := mu_tw_workCall) (pc := 84) (lv' := [(6, vI t0), (0, vR h), (3, vI v3), (4, vI v4)]) dX11_workCall_84 (by decide) rfl ?_
  refine x_iload (μ := mu_tw_workCall) (pc := 86) 0 dX11_workCall_86 rfl ?_
  refine x_if_ge (μ := mu_tw_workCall) (pc := 88) (tgt := 100) dX11_workCall_88 rfl ht0 ?_ ?_
  · refine x_iload (μ := mu_tw_workCall) (pc := 100) 0 dX11_workCall_100 rfl ?_
    refine x_sipush (μ := mu_tw_workCall) (pc := 102) dX11_workCall_102 (by decide) ?_
    refine x_iremc (μ := mu_tw_workCall) (pc := 105) dX11_workCall_105 ht0 (by decide) (by decide) ?_
    refine x_w1 ?_
    refine x_istore (μ := mu_tw_workCall) (pc := 106) (lv' := [(7, vI (w32 (Int.tmod t0 320))), (6, vI t0), (0, vR h), (3, vI v3), (4, vI v4)]) dX11_workCall_106 (by decide) rfl ?_
    refine x_aload_n (μ := mu_tw_workCall) (pc := 108) 2 dX11_workCall_108 rfl ?_
    refine x_iload_n (μ := mu_tw_workCall) (pc := 109) 3 dX11_workCall_109 rfl ?_
    refine x_iload (μ := mu_tw_workCall) (pc := 110) 4 dX11_workCall_110 rfl ?_
    refine x_bipush (μ := mu_tw_workCall) (pc := 112) dX11_workCall_112 (by decide) ?_
    refine x_icmp_ne (μ := mu_tw_workCall) (pc := 114) (tgt := 128) dX11_workCall_114 rfl hv4 (by decide) ?_ ?_
    · refine x_iload (μ := mu_tw_workCall) (pc := 128) 0 dX11_workCall_128 rfl ?_
      refine x_bipush (μ := mu_tw_workCall) (pc := 130) dX11_workCall_130 (by decide) ?_
      refine x_iremc (μ := mu_tw_workCall) (pc := 132) dX11_workCall_132 (w32_rng _) (by decide) (by decide) ?_
      refine x_iconst (μ := mu_tw_workCall) (pc := 133) dX11_workCall_133 ?_
      refine x_iadd (μ := mu_tw_workCall) (pc := 134) dX11_workCall_134 ?_
      refine x_w1 ?_
      refine x_i2l (μ := mu_tw_workCall) (pc := 135) dX11_workCall_135 (w32_rng _) ?_
      refine x_callV_mv (μ := mu_tw_workCall) (pc := 136) (ok_tw_number (ω := ω) (l := l) (d := d - 1) (by omega) hM hv3 (g32_64 (w32_rng _))) gRel_Tw gRel_Tw (fun _ q => q) q3315 q3317 qs144 q232 q3318 dX11_workCall_136 rfl hM.1 hy_tw_number (by omega) (Nat.le_of_ble_eq_true rfl) rfl (Nat.le_of_ble_eq_true rfl) (fun x5 k6 => ?_)
      have hM7 : TM x5 h := hM.tw k6
      refine x_goto (μ := mu_tw_workCall) (pc := 139) (tgt := 195) dX11_workCall_139 rfl ?_
      exact x_vret (μ := mu_tw_workCall) (pc := 195) (a1 := x5) dX11_workCall_195 rfl rfl (gRel_Tw.1 _) trivial
    · refine x_iload (μ := mu_tw_workCall) (pc := 117) 0 dX11_workCall_117 rfl ?_
      refine x_bipush (μ := mu_tw_workCall) (pc := 119) dX11_workCall_119 (by decide) ?_
      refine x_idivc (μ := mu_tw_workCall) (pc := 121) dX11_workCall_121 (w32_rng _) (by decide) (by decide) ?_
      refine x_iconst (μ := mu_tw_workCall) (pc := 122) dX11_workCall_122 ?_
      refine x_iadd (μ := mu_tw_workCall) (pc := 123) dX11_workCall_123 ?_
      refine x_w1 ?_
      refine x_i2l (μ := mu_tw_workCall) (pc := 124) dX11_workCall_124 (w32_rng _) ?_
      refine x_goto (μ := mu_tw_workCall) (pc := 125) (tgt := 136) dX11_workCall_125 rfl ?_
      refine x_callV_mv (μ := mu_tw_workCall) (pc := 136) (ok_tw_number (ω := ω) (l := l) (d := d - 1) (by omega) hM hv3 (g32_64 (w32_rng _))) gRel_Tw gRel_Tw (fun _ q => q) q3315 q3317 qs144 q232 q3318 dX11_workCall_136 rfl hM.1 hy_tw_number (by omega) (Nat.le_of_ble_eq_true rfl) rfl (Nat.le_of_ble_eq_true rfl) (fun x8 k9 => ?_)
      have hM10 : TM x8 h := hM.tw k9
      refine x_goto (μ := mu_tw_workCall) (pc := 139) (tgt := 195) dX11_workCall_139 rfl ?_
      exact x_vret (μ := mu_tw_workCall) (pc := 195) (a1 := x8) dX11_workCall_195 rfl rfl (gRel_Tw.1 _) trivial
  · refine x_aload_n (μ := mu_tw_workCall) (pc := 91) 1 dX11_workCall_91 rfl ?_
    refine x_iload_n (μ := mu_tw_workCall) (pc := 92) 2 dX11_workCall_92 rfl ?_
    refine x_iconst (μ := mu_tw_workCall) (pc := 93) dX11_workCall_93 ?_
    refine x_callV_mv (μ := mu_tw_workCall) (pc := 94) (ok_tw_error (ω := ω) (l := l) (d := d - 1) (by omega) hM hv3 (by decide)) gRel_Tw gRel_Tw (fun _ q => q) q3294 q3296 qs139 q232 q3297 dX11_workCall_94 rfl hM.1 hy_tw_error (by omega) (Nat.le_of_ble_eq_true rfl) rfl (Nat.le_of_ble_eq_true rfl) (fun x11 k12 => ?_)
    have hM13 : TM x11 h := hM.tw k12
    refine x_goto (μ := mu_tw_workCall) (pc := 97) (tgt := 139) dX11_workCall_97 rfl ?_
    refine x_goto (μ := mu_tw_workCall) (pc := 139) (tgt := 195) dX11_workCall_139 rfl ?_
    exact x_vret (μ := mu_tw_workCall) (pc := 195) (a1 := x11) dX11_workCall_195 rfl rfl (gRel_Tw.1 _) trivial
def tw_workCall_j57 (N : Nat) (W : Int → Int → Int → gMem → Option gMem) (h : Nat) (v1 : Int) (v2 : Int) (v3 : Int) (v4 : Int) (s : gMem) : Option gMem := if 0 ≤ (w32 (v1 - 1)) ∧ (w32 (v1 - 1)) < ((60420 : Nat) : Int) then if mI s (h + 14) (w32 (v1 - 1)).toNat ≠ 5 then tw_workCall_j84 N W h v3 v4 (-1) s else (tw_spotCell N h (w32 (v1 - 1)) v2 s).bind (fun x14 => tw_workCall_j84 N W h v3 v4 x14 s) else none
set_option maxRecDepth 100000 in
theorem okj_tw_workCall_j57 {ω : gW} {l : Launch} {d : Nat} {N : Nat} {W : Int → Int → Int → gMem → Option gMem} {dW : Nat} {h : Nat} {σ0 : gMem} {s : gMem} {v1 : Int} {v2 : Int} {v3 : Int} {v4 : Int} (hW : ∀ (a1 : Int) (a2 : Int) (a3 : Int) (s : gMem), TM s h → g32 a1 → g32 a2 → g32 a3 → gK (fun p : gMem => (.inl none, p)) gTw ω l dW mu_tw_work [vR h, vI a1, vI a2, vI a3] s (W a1 a2 a3 s)) (hdp : 9 ≤ d) (hdw : dW + 2 ≤ d) (hM : TM s h) (hv1 : g32 v1) (hv2 : g32 v2) (hv3 : g32 v3) (hv4 : g32 v4) : GG (fun p : gMem => (.inl none, p)) gTw ω l d mu_tw_workCall σ0 57 [(0, vR h), (1, vI v1), (2, vI v2), (3, vI v3), (4, vI v4)] [] s (tw_workCall_j57 N W h v1 v2 v3 v4 s) := by
  unfold tw_workCall_j57
  refine x_iload_n (μ := mu_tw_workCall) (pc := 57) 1 dX11_workCall_57 rfl ?_
  refine x_iconst (μ := mu_tw_workCall) (pc := 58) dX11_workCall_58 ?_
  refine x_isub (μ := mu_tw_workCall) (pc := 59) dX11_workCall_59 ?_
  refine x_w1 ?_
  refine x_istore (μ := mu_tw_workCall) (pc := 60) (lv' := [(5, vI (w32 (v1 - 1))), (0, vR h), (1, vI v1), (2, vI v2), (3, vI v3), (4, vI v4)]) dX11_workCall_60 (by decide) rfl ?_
  refine x_aload_n (μ := mu_tw_workCall) (pc := 62) 1 dX11_workCall_62 rfl ?_
  refine x_fgrE (μ := mu_tw_workCall) (pc := 63) fX11_26 (Or.inr ⟨_, rfl⟩) q2662 (hM.a26).1 dX11_workCall_63 hM.1 ?_
  refine x_iload (μ := mu_tw_workCall) (pc := 66) 0 dX11_workCall_66 rfl ?_
  refine x_iald (μ := mu_tw_workCall) (pc := 68) dX11_workCall_68 (hM.a26).2.1 (hM.a26).2.2 (fun hr4 => ?_)
  refine x_iconst (μ := mu_tw_workCall) (pc := 69) dX11_workCall_69 ?_
  refine x_icmp_ne (μ := mu_tw_workCall) (pc := 70) (tgt := 83) dX11_workCall_70 rfl hr4 (by decide) ?_ ?_
  · refine x_iconst (μ := mu_tw_workCall) (pc := 83) dX11_workCall_83 ?_
    refine x_loc (lv' := [(0, vR h), (3, vI v3), (4, vI v4)]) [1, 4, 5] rfl ?_
    exact okj_tw_workCall_j84 hW hdp hdw hM hv3 hv4 (by decide)
  · refine x_aload_n (μ := mu_tw_workCall) (pc := 73) 1 dX11_workCall_73 rfl ?_
    refine x_iload (μ := mu_tw_workCall) (pc := 74) 0 dX11_workCall_74 rfl ?_
    refine x_iload_n (μ := mu_tw_workCall) (pc := 76) 3 dX11_workCall_76 rfl ?_
    refine x_callV_pi (μ := mu_tw_workCall) (pc := 77) (ok_tw_spotCell (ω := ω) (l := l) (d := d - 1) (by omega) hM (w32_rng _) hv2) gRel_Tw gRel_Tw (fun _ q => q) q3233 q3235 qs126 q232 q3236 dX11_workCall_77 rfl hM.1 hy_tw_spotCell (by omega) (Nat.le_of_ble_eq_true rfl) rfl (Nat.le_of_ble_eq_true rfl) (fun x14 hr15 => ?_)
    refine x_goto (μ := mu_tw_workCall) (pc := 80) (tgt := 84) dX11_workCall_80 rfl ?_
    refine x_loc (lv' := [(0, vR h), (3, vI v3), (4, vI v4)]) [1, 4, 5] rfl ?_
    exact okj_tw_workCall_j84 hW hdp hdw hM hv3 hv4 hr15
def tw_workCall_j178 (N : Nat) (W : Int → Int → Int → gMem → Option gMem) (h : Nat) (v1 : Int) (v2 : Int) (v3 : Int) (s : gMem) : Option gMem := (tw_workEnd N W h v1 v2 v3 s).bind (fun x18 => some x18)
set_option maxRecDepth 100000 in
theorem okj_tw_workCall_j178 {ω : gW} {l : Launch} {d : Nat} {N : Nat} {W : Int → Int → Int → gMem → Option gMem} {dW : Nat} {h : Nat} {σ0 : gMem} {s : gMem} {v1 : Int} {v2 : Int} {v3 : Int} (hW : ∀ (a1 : Int) (a2 : Int) (a3 : Int) (s : gMem), TM s h → g32 a1 → g32 a2 → g32 a3 → gK (fun p : gMem => (.inl none, p)) gTw ω l dW mu_tw_work [vR h, vI a1, vI a2, vI a3] s (W a1 a2 a3 s)) (hdp : 9 ≤ d) (hdw : dW + 2 ≤ d) (hM : TM s h) (hv1 : g32 v1) (hv2 : g32 v2) (hv3 : g32 v3) : GG (fun p : gMem => (.inl none, p)) gTw ω l d mu_tw_workCall σ0 178 [(0, vR h), (1, vI v1), (2, vI v2), (3, vI v3)] [] s (tw_workCall_j178 N W h v1 v2 v3 s) := by
  unfold tw_workCall_j178
  refine x_aload_n (μ := mu_tw_workCall) (pc := 178) 0 dX11_workCall_178 rfl ?_
  refine x_iload_n (μ := mu_tw_workCall) (pc := 179) 1 dX11_workCall_179 rfl ?_
  refine x_iload_n (μ := mu_tw_workCall) (pc := 180) 2 dX11_workCall_180 rfl ?_
  refine x_iload_n (μ := mu_tw_workCall) (pc := 181) 3 dX11_workCall_181 rfl ?_
  refine x_callV_mv (μ := mu_tw_workCall) (pc := 182) (ok_tw_workEnd (ω := ω) (l := l) (d := d - 1) hW (by omega) (by omega) hM hv1 hv2 hv3) gRel_Tw gRel_Tw (fun _ q => q) q3429 q3431 qs170 q232 q3432 dX11_workCall_182 rfl hM.1 hy_tw_workEnd (by omega) (Nat.le_of_ble_eq_true rfl) rfl (Nat.le_of_ble_eq_true rfl) (fun x18 k19 => ?_)
  have hM20 : TM x18 h := hM.tw k19
  refine x_goto (μ := mu_tw_workCall) (pc := 185) (tgt := 195) dX11_workCall_185 rfl ?_
  exact x_vret (μ := mu_tw_workCall) (pc := 195) (a1 := x18) dX11_workCall_195 rfl rfl (gRel_Tw.1 _) trivial
def tw_workCall (N : Nat) (W : Int → Int → Int → gMem → Option gMem) (h : Nat) (v1 : Int) (v2 : Int) (v3 : Int) (σ : gMem) : Option gMem := if 0 ≤ v1 ∧ v1 < ((60420 : Nat) : Int) then if mI σ (h + 14) v1.toNat ≠ 30 then (tw_isMany (mI σ (h + 14) v1.toNat) σ).bind (fun x2 => if x2 = 0 then if mI σ (h + 14) v1.toNat = 41 then tw_workCall_j57 N W h v1 v2 v3 (mI σ (h + 14) v1.toNat)  σ else if mI σ (h + 14) v1.toNat ≠ 42 then (tw_in (mI σ (h + 14) v1.toNat) 37 40 σ).bind (fun x16 => if x16 = 0 then if mI σ (h + 14) v1.toNat = 43 then tw_workCall_j178 N W h v1 v2 v3  σ else if mI σ (h + 14) v1.toNat ≠ 44 then (tw_workLook N W h v1 v2 v3 σ).bind (fun x21 => some x21) else tw_workCall_j178 N W h v1 v2 v3  σ else (tw_workOne N W h v1 v2 v3 σ).bind (fun x24 => some x24)) else tw_workCall_j57 N W h v1 v2 v3 (mI σ (h + 14) v1.toNat)  σ else (tw_workMany N W h v1 v2 v3 σ).bind (fun x27 => some x27)) else (tw_workIf N W h v1 v2 v3 σ).bind (fun x30 => some x30) else none
set_option maxRecDepth 100000 in
theorem ok_tw_workCall {ω : gW} {l : Launch} {d : Nat} {N : Nat} {W : Int → Int → Int → gMem → Option gMem} {dW : Nat} {h : Nat} {σ : gMem} {v1 : Int} {v2 : Int} {v3 : Int} (hW : ∀ (a1 : Int) (a2 : Int) (a3 : Int) (s : gMem), TM s h → g32 a1 → g32 a2 → g32 a3 → gK (fun p : gMem => (.inl none, p)) gTw ω l dW mu_tw_work [vR h, vI a1, vI a2, vI a3] s (W a1 a2 a3 s)) (hdp : 9 ≤ d) (hdw : dW + 2 ≤ d) (hM : TM σ h) (hv1 : g32 v1) (hv2 : g32 v2) (hv3 : g32 v3) : gK (fun p : gMem => (.inl none, p)) gTw ω l d mu_tw_workCall [vR h, vI v1, vI v2, vI v3] σ (tw_workCall N W h v1 v2 v3 σ) := by
  refine gK.of hp_X11 (Nat.le_of_ble_eq_true rfl) ?_
  unfold tw_workCall
  refine x_aload_n (μ := mu_tw_workCall) (pc := 0) 0 dX11_workCall_0 rfl ?_
  refine x_fgrE (μ := mu_tw_workCall) (pc := 1) fX11_26 (Or.inr ⟨_, rfl⟩) q2662 (hM.a26).1 dX11_workCall_1 hM.1 ?_
  refine x_iload_n (μ := mu_tw_workCall) (pc := 4) 1 dX11_workCall_4 rfl ?_
  refine x_iald (μ := mu_tw_workCall) (pc := 5) dX11_workCall_5 (hM.a26).2.1 (hM.a26).2.2 (fun hr1 => ?_)
  refine x_istore (μ := mu_tw_workCall) (pc := 6) (lv' := [(4, vI (mI σ (h + 14) v1.toNat)), (0, vR h), (1, vI v1), (2, vI v2), (3, vI v3)]) dX11_workCall_6 (by decide) rfl ?_
  refine x_iload (μ := mu_tw_workCall) (pc := 8) 0 dX11_workCall_8 rfl ?_
  refine x_bipush (μ := mu_tw_workCall) (pc := 10) dX11_workCall_10 (by decide) ?_
  refine x_icmp_ne (μ := mu_tw_workCall) (pc := 12) (tgt := 25) dX11_workCall_12 rfl hr1 (by decide) ?_ ?_
  · refine x_iload (μ := mu_tw_workCall) (pc := 25) 0 dX11_workCall_25 rfl ?_
    refine x_callS_pi (μ := mu_tw_workCall) (pc := 27) (ok_tw_isMany (ω := ω) (l := l) (d := d - 1) (by omega) hr1) gRel_Tw gRel_Tw (fun _ q => q) q3160 q3161 q232 q3162 dX11_workCall_27 hy_tw_isMany (by omega) (Nat.le_of_ble_eq_true rfl) rfl (Nat.le_of_ble_eq_true rfl) (fun x2 hr3 => ?_)
    refine x_if_eq (μ := mu_tw_workCall) (pc := 30) (tgt := 43) dX11_workCall_30 rfl hr3 ?_ ?_
    · refine x_iload (μ := mu_tw_workCall) (pc := 43) 0 dX11_workCall_43 rfl ?_
      refine x_bipush (μ := mu_tw_workCall) (pc := 45) dX11_workCall_45 (by decide) ?_
      refine x_icmp_eq (μ := mu_tw_workCall) (pc := 47) (tgt := 57) dX11_workCall_47 rfl hr1 (by decide) ?_ ?_
      · refine x_loc (lv' := [(0, vR h), (1, vI v1), (2, vI v2), (3, vI v3), (4, vI (mI σ (h + 14) v1.toNat))]) [1, 2, 3, 4, 0] rfl ?_
        exact okj_tw_workCall_j57 hW hdp hdw hM hv1 hv2 hv3 hr1
      · refine x_iload (μ := mu_tw_workCall) (pc := 50) 0 dX11_workCall_50 rfl ?_
        refine x_bipush (μ := mu_tw_workCall) (pc := 52) dX11_workCall_52 (by decide) ?_
        refine x_icmp_ne (μ := mu_tw_workCall) (pc := 54) (tgt := 142) dX11_workCall_54 rfl hr1 (by decide) ?_ ?_
        · refine x_iload (μ := mu_tw_workCall) (pc := 142) 0 dX11_workCall_142 rfl ?_
          refine x_bipush (μ := mu_tw_workCall) (pc := 144) dX11_workCall_144 (by decide) ?_
          refine x_bipush (μ := mu_tw_workCall) (pc := 146) dX11_workCall_146 (by decide) ?_
          refine x_callS_pi (μ := mu_tw_workCall) (pc := 148) (ok_tw_in (ω := ω) (l := l) (d := d - 1) (by omega) hr1 (by decide) (by decide)) gRel_Tw gRel_Tw (fun _ q => q) q2980 q2981 q232 q2982 dX11_workCall_148 hy_tw_in (by omega) (Nat.le_of_ble_eq_true rfl) rfl (Nat.le_of_ble_eq_true rfl) (fun x16 hr17 => ?_)
          refine x_if_eq (μ := mu_tw_workCall) (pc := 151) (tgt := 164) dX11_workCall_151 rfl hr17 ?_ ?_
          · refine x_iload (μ := mu_tw_workCall) (pc := 164) 0 dX11_workCall_164 rfl ?_
            refine x_bipush (μ := mu_tw_workCall) (pc := 166) dX11_workCall_166 (by decide) ?_
            refine x_icmp_eq (μ := mu_tw_workCall) (pc := 168) (tgt := 178) dX11_workCall_168 rfl hr1 (by decide) ?_ ?_
            · refine x_loc (lv' := [(0, vR h), (1, vI v1), (2, vI v2), (3, vI v3)]) [1, 2, 3, 4] rfl ?_
              exact okj_tw_workCall_j178 hW hdp hdw hM hv1 hv2 hv3
            · refine x_iload (μ := mu_tw_workCall) (pc := 171) 0 dX11_workCall_171 rfl ?_
              refine x_bipush (μ := mu_tw_workCall) (pc := 173) dX11_workCall_173 (by decide) ?_
              refine x_icmp_ne (μ := mu_tw_workCall) (pc := 175) (tgt := 188) dX11_workCall_175 rfl hr1 (by decide) ?_ ?_
              · refine x_aload_n (μ := mu_tw_workCall) (pc := 188) 1 dX11_workCall_188 rfl ?_
                refine x_iload_n (μ := mu_tw_workCall) (pc := 189) 2 dX11_workCall_189 rfl ?_
                refine x_iload_n (μ := mu_tw_workCall) (pc := 190) 3 dX11_workCall_190 rfl ?_
                refine x_iload_n (μ := mu_tw_workCall) (pc := 191) 4 dX11_workCall_191 rfl ?_
                refine x_callV_mv (μ := mu_tw_workCall) (pc := 192) (ok_tw_workLook (ω := ω) (l := l) (d := d - 1) hW (by omega) (by omega) hM hv1 hv2 hv3) gRel_Tw gRel_Tw (fun _ q => q) q3433 q3435 qs171 q232 q3436 dX11_workCall_192 rfl hM.1 hy_tw_workLook (by omega) (Nat.le_of_ble_eq_true rfl) rfl (Nat.le_of_ble_eq_true rfl) (fun x21 k22 => ?_)
                have hM23 : TM x21 h := hM.tw k22
                exact x_vret (μ := mu_tw_workCall) (pc := 195) (a1 := x21) dX11_workCall_195 rfl rfl (gRel_Tw.1 _) trivial
              · refine x_loc (lv' := [(0, vR h), (1, vI v1), (2, vI v2), (3, vI v3)]) [1, 2, 3, 4] rfl ?_
                exact okj_tw_workCall_j178 hW hdp hdw hM hv1 hv2 hv3
          · refine x_aload_n (μ := mu_tw_workCall) (pc := 154) 1 dX11_workCall_154 rfl ?_
            refine x_iload_n (μ := mu_tw_workCall) (pc := 155) 2 dX11_workCall_155 rfl ?_
            refine x_iload_n (μ := mu_tw_workCall) (pc := 156) 3 dX11_workCall_156 rfl ?_
            refine x_iload_n (μ := mu_tw_workCall) (pc := 157) 4 dX11_workCall_157 rfl ?_
            refine x_callV_mv (μ := mu_tw_workCall) (pc := 158) (ok_tw_workOne (ω := ω) (l := l) (d := d - 1) hW (by omega) (by omega) hM hv1 hv2 hv3) gRel_Tw gRel_Tw (fun _ q => q) q3425 q3427 qs169 q232 q3428 dX11_workCall_158 rfl hM.1 hy_tw_workOne (by omega) (Nat.le_of_ble_eq_true rfl) rfl (Nat.le_of_ble_eq_true rfl) (fun x24 k25 => ?_)
            have hM26 : TM x24 h := hM.tw k25
            refine x_goto (μ := mu_tw_workCall) (pc := 161) (tgt := 195) dX11_workCall_161 rfl ?_
            exact x_vret (μ := mu_tw_workCall) (pc := 195) (a1 := x24) dX11_workCall_195 rfl rfl (gRel_Tw.1 _) trivial
        · refine x_loc (lv' := [(0, vR h), (1, vI v1), (2, vI v2), (3, vI v3), (4, vI (mI σ (h + 14) v1.toNat))]) [1, 2, 3, 4, 0] rfl ?_
          exact okj_tw_workCall_j57 hW hdp hdw hM hv1 hv2 hv3 hr1
    · refine x_aload_n (μ := mu_tw_workCall) (pc := 33) 1 dX11_workCall_33 rfl ?_
      refine x_iload_n (μ := mu_tw_workCall) (pc := 34) 2 dX11_workCall_34 rfl ?_
      refine x_iload_n (μ := mu_tw_workCall) (pc := 35) 3 dX11_workCall_35 rfl ?_
      refine x_iload_n (μ := mu_tw_workCall) (pc := 36) 4 dX11_workCall_36 rfl ?_
      refine x_callV_mv (μ := mu_tw_workCall) (pc := 37) (ok_tw_workMany (ω := ω) (l := l) (d := d - 1) hW (by omega) (by omega) hM hv1 hv2 hv3) gRel_Tw gRel_Tw (fun _ q => q) q3398 q3400 qs163 q232 q3401 dX11_workCall_37 rfl hM.1 hy_tw_workMany (by omega) (Nat.le_of_ble_eq_true rfl) rfl (Nat.le_of_ble_eq_true rfl) (fun x27 k28 => ?_)
      have hM29 : TM x27 h := hM.tw k28
      refine x_goto (μ := mu_tw_workCall) (pc := 40) (tgt := 195) dX11_workCall_40 rfl ?_
      exact x_vret (μ := mu_tw_workCall) (pc := 195) (a1 := x27) dX11_workCall_195 rfl rfl (gRel_Tw.1 _) trivial
  · refine x_aload_n (μ := mu_tw_workCall) (pc := 15) 1 dX11_workCall_15 rfl ?_
    refine x_iload_n (μ := mu_tw_workCall) (pc := 16) 2 dX11_workCall_16 rfl ?_
    refine x_iload_n (μ := mu_tw_workCall) (pc := 17) 3 dX11_workCall_17 rfl ?_
    refine x_iload_n (μ := mu_tw_workCall) (pc := 18) 4 dX11_workCall_18 rfl ?_
    refine x_callV_mv (μ := mu_tw_workCall) (pc := 19) (ok_tw_workIf (ω := ω) (l := l) (d := d - 1) hW (by omega) (by omega) hM hv1 hv2 hv3) gRel_Tw gRel_Tw (fun _ q => q) q3390 q3392 qs161 q232 q3393 dX11_workCall_19 rfl hM.1 hy_tw_workIf (by omega) (Nat.le_of_ble_eq_true rfl) rfl (Nat.le_of_ble_eq_true rfl) (fun x30 k31 => ?_)
    have hM32 : TM x30 h := hM.tw k31
    refine x_goto (μ := mu_tw_workCall) (pc := 22) (tgt := 195) dX11_workCall_22 rfl ?_
    exact x_vret (μ := mu_tw_workCall) (pc := 195) (a1 := x30) dX11_workCall_195 rfl rfl (gRel_Tw.1 _) trivial
def tw_newLines_l45 (N : Nat) (h : Nat) (v3 : Int) (K : gMem → Option (Int × gMem)) : Nat → Int → gMem → Option (Int × gMem)
  | 0, _, _ => none
  | n + 1, v4, s => if mI s h 100 ≤ v4 then K s else if 0 ≤ v4 ∧ v4 < ((64 : Nat) : Int) then (tw_setLine h 121 v3 v4 (mI s (h + 53) v4.toNat) s).bind (fun x13 => tw_newLines_l45 N h v3 K n (w32 (v4 + 1)) x13) else none
set_option maxRecDepth 100000 in
theorem okl_tw_newLines_l45 {ω : gW} {l : Launch} {d : Nat} {N : Nat} {h : Nat} {σ0 : gMem} {v3 : Int} {K : gMem → Option (Int × gMem)} (hdp : 6 ≤ d) (hv3 : g32 v3) (hK : ∀ (s : gMem) , TM s h → GG (fun p : Int × gMem => (.inl (some (vI p.1)), p.2)) gTw ω l d mu_tw_newLines σ0 76 [] [] s (K s)) : ∀ (n : Nat) (v4 : Int) (s : gMem) , g32 v4 → TM s h → GG (fun p : Int × gMem => (.inl (some (vI p.1)), p.2)) gTw ω l d mu_tw_newLines σ0 45 [(0, vR h), (3, vI v3), (4, vI v4)] [] s (tw_newLines_l45 N h v3 K n v4 s) := by
  intro n
  induction n with
  | zero => intros; exact x_none
  | succ n ih =>
    intro v4 s hv4 hM
    unfold tw_newLines_l45
    refine x_iload (μ := mu_tw_newLines) (pc := 45) 2 dX11_newLines_45 rfl ?_
    refine x_aload_n (μ := mu_tw_newLines) (pc := 47) 0 dX11_newLines_47 rfl ?_
    refine x_fgi (μ := mu_tw_newLines) (pc := 48) fX11_100 q2736 dX11_newLines_48 hM.1 (fun hr11 => ?_)
    refine x_icmp_ge (μ := mu_tw_newLines) (pc := 51) (tgt := 76) dX11_newLines_51 rfl hv4 hr11 ?_ ?_
    · refine x_loc (lv' := []) [] rfl ?_
      exact hK s hM
    · refine x_aload_n (μ := mu_tw_newLines) (pc := 54) 0 dX11_newLines_54 rfl ?_
      refine x_bipush (μ := mu_tw_newLines) (pc := 55) dX11_newLines_55 (by decide) ?_
      refine x_iload_n (μ := mu_tw_newLines) (pc := 57) 1 dX11_newLines_57 rfl ?_
      refine x_iload (μ := mu_tw_newLines) (pc := 58) 2 dX11_newLines_58 rfl ?_
      refine x_aload_n (μ := mu_tw_newLines) (pc := 60) 0 dX11_newLines_60 rfl ?_
      refine x_fgrE (μ := mu_tw_newLines) (pc := 61) fX11_99 (Or.inr ⟨_, rfl⟩) q2735 (hM.a99).1 dX11_newLines_61 hM.1 ?_
      refine x_iload (μ := mu_tw_newLines) (pc := 64) 2 dX11_newLines_64 rfl ?_
      refine x_iald (μ := mu_tw_newLines) (pc := 66) dX11_newLines_66 (hM.a99).2.1 (hM.a99).2.2 (fun hr12 => ?_)
      refine x_callV_mv (μ := mu_tw_newLines) (pc := 67) (ok_tw_setLine (ω := ω) (l := l) (d := d - 1) (by omega) hM (by decide) hv3 hv4 hr12) gRel_Tw gRel_Tw (fun _ q => q) q3535 q3537 qs187 q232 q3538 dX11_newLines_67 rfl hM.1 hy_tw_setLine (by omega) (Nat.le_of_ble_eq_true rfl) rfl (Nat.le_of_ble_eq_true rfl) (fun x13 k14 => ?_)
      have hM15 : TM x13 h := hM.tw k14
      refine x_iincw (μ := mu_tw_newLines) (pc := 70) (lv' := [(4, vI (w32 (v4 + 1))), (0, vR h), (3, vI v3)]) 2 dX11_newLines_70 rfl (by decide) rfl ?_
      refine x_goto (μ := mu_tw_newLines) (pc := 73) (tgt := 45) dX11_newLines_73 rfl ?_
      refine x_loc (lv' := [(0, vR h), (3, vI v3), (4, vI (w32 (v4 + 1)))]) [1, 2, 0] rfl ?_
      exact ih (w32 (v4 + 1)) x13 (w32_rng _) hM15
def tw_newLines_j23 (N : Nat) (h : Nat) (v3 : Int) (t0 : Int) (t1 : Int) (t2 : Int) (s : gMem) : Option (Int × gMem) := (tw_in t2 t1 t0 s).bind (fun x5 => if x5 ≠ 0 then (tw_setLines h 121 v3 (mI s h 100) s).bind (fun x8 => tw_newLines_l45 N h v3 (fun s16 => some (1, s16)) N 0 x8) else some (0, s))
set_option maxRecDepth 100000 in
theorem okj_tw_newLines_j23 {ω : gW} {l : Launch} {d : Nat} {N : Nat} {h : Nat} {σ0 : gMem} {s : gMem} {v3 : Int} {t0 : Int} {t1 : Int} {t2 : Int} (hdp : 6 ≤ d) (hM : TM s h) (hv3 : g32 v3) (ht0 : g32 t0) (ht1 : g32 t1) (ht2 : g32 t2) : GG (fun p : Int × gMem => (.inl (some (vI p.1)), p.2)) gTw ω l d mu_tw_newLines σ0 23 [(0, vR h), (3, vI v3)] [vI t0, vI t1, vI t2] s (tw_newLines_j23 N h v3 t0 t1 t2 s) := by
  unfold tw_newLines_j23
  refine x_callS_pi (μ := mu_tw_newLines) (pc := 23) (ok_tw_in (ω := ω) (l := l) (d := d - 1) (by omega) ht2 ht1 ht0) gRel_Tw gRel_Tw (fun _ q => q) q2980 q2981 q232 q2982 dX11_newLines_23 hy_tw_in (by omega) (Nat.le_of_ble_eq_true rfl) rfl (Nat.le_of_ble_eq_true rfl) (fun x5 hr6 => ?_)
  refine x_if_ne (μ := mu_tw_newLines) (pc := 26) (tgt := 31) dX11_newLines_26 rfl hr6 ?_ ?_
  · refine x_aload_n (μ := mu_tw_newLines) (pc := 31) 0 dX11_newLines_31 rfl ?_
    refine x_bipush (μ := mu_tw_newLines) (pc := 32) dX11_newLines_32 (by decide) ?_
    refine x_iload_n (μ := mu_tw_newLines) (pc := 34) 1 dX11_newLines_34 rfl ?_
    refine x_aload_n (μ := mu_tw_newLines) (pc := 35) 0 dX11_newLines_35 rfl ?_
    refine x_fgi (μ := mu_tw_newLines) (pc := 36) fX11_100 q2736 dX11_newLines_36 hM.1 (fun hr7 => ?_)
    refine x_callV_mv (μ := mu_tw_newLines) (pc := 39) (ok_tw_setLines (ω := ω) (l := l) (d := d - 1) (by omega) hM (by decide) hv3 hr7) gRel_Tw gRel_Tw (fun _ q => q) q3527 q3529 qs185 q232 q3530 dX11_newLines_39 rfl hM.1 hy_tw_setLines (by omega) (Nat.le_of_ble_eq_true rfl) rfl (Nat.le_of_ble_eq_true rfl) (fun x8 k9 => ?_)
    have hM10 : TM x8 h := hM.tw k9
    refine x_iconst (μ := mu_tw_newLines) (pc := 42) dX11_newLines_42 ?_
    refine x_istore (μ := mu_tw_newLines) (pc := 43) (lv' := [(4, vI 0), (0, vR h), (3, vI v3)]) dX11_newLines_43 (by decide) rfl ?_
    refine x_loc (lv' := [(0, vR h), (3, vI v3), (4, vI 0)]) [1, 2, 0] rfl ?_
    refine okl_tw_newLines_l45 hdp hv3 (fun s16 hM17 => ?_) N 0 x8 (by decide) hM10
    refine x_iconst (μ := mu_tw_newLines) (pc := 76) dX11_newLines_76 ?_
    exact x_zret (μ := mu_tw_newLines) (pc := 77) dX11_newLines_77 rfl (by decide) rfl (gRel_Tw.1 _) (show g32 1 from (by decide))
  · refine x_iconst (μ := mu_tw_newLines) (pc := 29) dX11_newLines_29 ?_
    exact x_zret (μ := mu_tw_newLines) (pc := 30) dX11_newLines_30 rfl (by decide) rfl (gRel_Tw.1 _) (show g32 0 from (by decide))
def tw_newLines (N : Nat) (h : Nat) (v1 : Int) (v2 : Int) (v3 : Int) (σ : gMem) : Option (Int × gMem) := (tw_comeTogether N h v1 v2 v3 σ).bind (fun x1 => if v3 ≠ 0 then tw_newLines_j23 N h v3 10 1 (mI x1 h 100) x1 else tw_newLines_j23 N h v3 32 1 (mI x1 h 100) x1)
set_option maxRecDepth 100000 in
theorem ok_tw_newLines {ω : gW} {l : Launch} {d : Nat} {N : Nat} {h : Nat} {σ : gMem} {v1 : Int} {v2 : Int} {v3 : Int} (hdp : 6 ≤ d) (hM : TM σ h) (hv1 : g32 v1) (hv2 : g32 v2) (hv3 : g32 v3) : gK (fun p : Int × gMem => (.inl (some (vI p.1)), p.2)) gTw ω l d mu_tw_newLines [vR h, vI v1, vI v2, vI v3] σ (tw_newLines N h v1 v2 v3 σ) := by
  refine gK.of hp_X11 (Nat.le_of_ble_eq_true rfl) ?_
  unfold tw_newLines
  refine x_aload_n (μ := mu_tw_newLines) (pc := 0) 0 dX11_newLines_0 rfl ?_
  refine x_iload_n (μ := mu_tw_newLines) (pc := 1) 1 dX11_newLines_1 rfl ?_
  refine x_iload_n (μ := mu_tw_newLines) (pc := 2) 2 dX11_newLines_2 rfl ?_
  refine x_iload_n (μ := mu_tw_newLines) (pc := 3) 3 dX11_newLines_3 rfl ?_
  refine x_callV_mv (μ := mu_tw_newLines) (pc := 4) (ok_tw_comeTogether (ω := ω) (l := l) (d := d - 1) (by omega) hM hv1 hv2 hv3) gRel_Tw gRel_Tw (fun _ q => q) q3665 q3667 qs207 q232 q3668 dX11_newLines_4 rfl hM.1 hy_tw_comeTogether (by omega) (Nat.le_of_ble_eq_true rfl) rfl (Nat.le_of_ble_eq_true rfl) (fun x1 k2 => ?_)
  have hM3 : TM x1 h := hM.tw k2
  refine x_aload_n (μ := mu_tw_newLines) (pc := 7) 0 dX11_newLines_7 rfl ?_
  refine x_fgi (μ := mu_tw_newLines) (pc := 8) fX11_100 q2736 dX11_newLines_8 hM3.1 (fun hr4 => ?_)
  refine x_iconst (μ := mu_tw_newLines) (pc := 11) dX11_newLines_11 ?_
  refine x_iload_n (μ := mu_tw_newLines) (pc := 12) 3 dX11_newLines_12 rfl ?_
  refine x_if_ne (μ := mu_tw_newLines) (pc := 13) (tgt := 21) dX11_newLines_13 rfl hv3 ?_ ?_
  · refine x_bipush (μ := mu_tw_newLines) (pc := 21) dX11_newLines_21 (by decide) ?_
    refine x_loc (lv' := [(0, vR h), (3, vI v3)]) [0, 3] rfl ?_
    exact okj_tw_newLines_j23 hdp hM3 hv3 (by decide) (by decide) hr4
  · refine x_bipush (μ := mu_tw_newLines) (pc := 16) dX11_newLines_16 (by decide) ?_
    refine x_goto (μ := mu_tw_newLines) (pc := 18) (tgt := 23) dX11_newLines_18 rfl ?_
    refine x_loc (lv' := [(0, vR h), (3, vI v3)]) [0, 3] rfl ?_
    exact okj_tw_newLines_j23 hdp hM3 hv3 (by decide) (by decide) hr4
def x25_marks_l71_j108 (N : Nat) (v0 : Nat) (v1 : Int) (v2 : Nat) (v4 : Nat) (v5 : Nat) (v6 : Nat) (v7 : Int) (v8 : Int) (Kh : Int → Int → gMem → Option (Nat × gMem)) (K : Int → gMem → Option (Nat × gMem)) (s : gMem) : Option (Nat × gMem) := Kh v7 (w32 (v8 + 1)) s
set_option maxRecDepth 100000 in
theorem okj_x25_marks_l71_j108 {ω : gW} {l : Launch} {d : Nat} {N : Nat} {σ0 : gMem} {s : gMem} {v0 : Nat} {v1 : Int} {v2 : Nat} {v4 : Nat} {v5 : Nat} {v6 : Nat} {v7 : Int} {v8 : Int} {Kh : Int → Int → gMem → Option (Nat × gMem)} {K : Int → gMem → Option (Nat × gMem)} (hl : l.stackTraces = false) (hdp : 70 ≤ d) (hv1 : g32 v1) (hv7 : g32 v7) (hv8 : g32 v8) (hKh : ∀ (v7 : Int) (v8 : Int) (s : gMem) , g32 v7 → g32 v8 → GG (fun p : Nat × gMem => (.inl (some (vR p.1)), p.2)) gE ω l d mu_x25_marks σ0 71 [(0, vR v0), (1, vI v1), (2, vR v2), (4, vR v4), (5, vR v5), (6, vR v6), (7, vI v7), (8, vI v8)] [] s (Kh v7 v8 s)) (hK : ∀ (v7 : Int) (s : gMem) , g32 v7 → GG (fun p : Nat × gMem => (.inl (some (vR p.1)), p.2)) gE ω l d mu_x25_marks σ0 114 [(0, vR v0), (1, vI v1), (2, vR v2), (5, vR v5), (6, vR v6), (7, vI v7)] [] s (K v7 s)) : GG (fun p : Nat × gMem => (.inl (some (vR p.1)), p.2)) gE ω l d mu_x25_marks σ0 108 [(0, vR v0), (1, vI v1), (2, vR v2), (4, vR v4), (5, vR v5), (6, vR v6), (7, vI v7), (8, vI v8)] [] s (x25_marks_l71_j108 N v0 v1 v2 v4 v5 v6 v7 v8 Kh K s) := by
  unfold x25_marks_l71_j108
  refine x_iincw (μ := mu_x25_marks) (pc := 108) (lv' := [(8, vI (w32 (v8 + 1))), (0, vR v0), (1, vI v1), (2, vR v2), (4, vR v4), (5, vR v5), (6, vR v6), (7, vI v7)]) 7 dX25_marks_108 rfl (by decide) rfl ?_
  refine x_goto (μ := mu_x25_marks) (pc := 111) (tgt := 71) dX25_marks_111 rfl ?_
  refine x_loc (lv' := [(0, vR v0), (1, vI v1), (2, vR v2), (4, vR v4), (5, vR v5), (6, vR v6), (7, vI v7), (8, vI (w32 (v8 + 1)))]) [1, 2, 3, 4, 5, 6, 7, 0] rfl ?_
  exact hKh v7 (w32 (v8 + 1)) s hv7 (w32_rng _)
def x25_marks_l71 (N : Nat) (v0 : Nat) (v1 : Int) (v2 : Nat) (v4 : Nat) (v5 : Nat) (v6 : Nat) (K : Int → gMem → Option (Nat × gMem)) : Nat → Int → Int → gMem → Option (Nat × gMem)
  | 0, _, _, _ => none
  | n + 1, v7, v8, s => if mT s v4 = 100 then if w32 (mN s v4 : Int) ≤ v8 then K v7 s else if 0 ≤ v8 ∧ v8 < (mN s v4 : Int) then if mT s v0 = 23 then (x25_isIn N v0 v1 (mI s v4 v8.toNat) s).bind (fun x18 => if x18 ≠ 0 then if 0 ≤ v8 ∧ v8 < (mN s v4 : Int) then if mT s v6 = 100 then if 0 ≤ v7 ∧ v7 < (mN s v6 : Int) then gLet (wI s v6 v7.toNat (mI s v4 v8.toNat)) (fun s22 => x25_marks_l71_j108 N v0 v1 v2 v4 v5 v6 (w32 (v7 + 1)) v8  (x25_marks_l71 N v0 v1 v2 v4 v5 v6 K n) K s22) else none else none else none else x25_marks_l71_j108 N v0 v1 v2 v4 v5 v6 v7 v8  (x25_marks_l71 N v0 v1 v2 v4 v5 v6 K n) K s) else none else none else none
set_option maxRecDepth 100000 in
theorem okl_x25_marks_l71 {ω : gW} {l : Launch} {d : Nat} {N : Nat} {σ0 : gMem} {v0 : Nat} {v1 : Int} {v2 : Nat} {v4 : Nat} {v5 : Nat} {v6 : Nat} {K : Int → gMem → Option (Nat × gMem)} (hl : l.stackTraces = false) (hdp : 70 ≤ d) (hv1 : g32 v1) (hK : ∀ (v7 : Int) (s : gMem) , g32 v7 → GG (fun p : Nat × gMem => (.inl (some (vR p.1)), p.2)) gE ω l d mu_x25_marks σ0 114 [(0, vR v0), (1, vI v1), (2, vR v2), (5, vR v5), (6, vR v6), (7, vI v7)] [] s (K v7 s)) : ∀ (n : Nat) (v7 : Int) (v8 : Int) (s : gMem) , g32 v7 → g32 v8 → GG (fun p : Nat × gMem => (.inl (some (vR p.1)), p.2)) gE ω l d mu_x25_marks σ0 71 [(0, vR v0), (1, vI v1), (2, vR v2), (4, vR v4), (5, vR v5), (6, vR v6), (7, vI v7), (8, vI v8)] [] s (x25_marks_l71 N v0 v1 v2 v4 v5 v6 K n v7 v8 s) := by
  intro n
  induction n with
  | zero => intros; exact x_none
  | succ n ih =>
    intro v7 v8 s hv7 hv8
    unfold x25_marks_l71
    refine x_iload (μ := mu_x25_marks) (pc := 71) 7 dX25_marks_71 rfl ?_
    refine x_aload (μ := mu_x25_marks) (pc := 73) 3 dX25_marks_73 rfl ?_
    refine x_if (fun hT15 => ?_)
    refine x_len (μ := mu_x25_marks) (pc := 75) 0 (fun _ => rfl) dX25_marks_75 hT15 ?_
    refine x_w1 ?_
    refine x_icmp_ge (μ := mu_x25_marks) (pc := 76) (tgt := 114) dX25_marks_76 rfl hv8 (w32_rng _) ?_ ?_
    · refine x_loc (lv' := [(0, vR v0), (1, vI v1), (2, vR v2), (5, vR v5), (6, vR v6), (7, vI v7)]) [0, 1, 2, 4, 5, 6] rfl ?_
      exact hK v7 s hv7
    · refine x_aload_n (μ := mu_x25_marks) (pc := 79) 0 dX25_marks_79 rfl ?_
      refine x_iload_n (μ := mu_x25_marks) (pc := 80) 1 dX25_marks_80 rfl ?_
      refine x_aload (μ := mu_x25_marks) (pc := 81) 3 dX25_marks_81 rfl ?_
      refine x_iload (μ := mu_x25_marks) (pc := 83) 7 dX25_marks_83 rfl ?_
      refine x_iald (μ := mu_x25_marks) (pc := 85) dX25_marks_85 hT15 rfl (fun hr16 => ?_)
      refine x_if (fun hT17 => ?_)
      refine x_callV_pi (μ := mu_x25_marks) (pc := 86) (ok_x25_isIn (ω := ω) (l := l) (d := d - 1) hl (by omega) hv1 hr16) gRel_E gRel_E (fun _ q => q) q2509 q2511 qs68 q266 q2512 dX25_marks_86 rfl hT17 hy_x25_isIn (by omega) (Nat.le_of_ble_eq_true rfl) rfl (Nat.le_of_ble_eq_true rfl) (fun x18 hr19 => ?_)
      refine x_if_ne (μ := mu_x25_marks) (pc := 89) (tgt := 95) dX25_marks_89 rfl hr19 ?_ ?_
      · refine x_aload (μ := mu_x25_marks) (pc := 95) 5 dX25_marks_95 rfl ?_
        refine x_iload (μ := mu_x25_marks) (pc := 97) 6 dX25_marks_97 rfl ?_
        refine x_aload (μ := mu_x25_marks) (pc := 99) 3 dX25_marks_99 rfl ?_
        refine x_iload (μ := mu_x25_marks) (pc := 101) 7 dX25_marks_101 rfl ?_
        refine x_iald (μ := mu_x25_marks) (pc := 103) dX25_marks_103 hT15 rfl (fun hr20 => ?_)
        refine x_if (fun hT21 => ?_)
        refine x_iast (μ := mu_x25_marks) (pc := 104) dX25_marks_104 hT21 rfl (fun _ _ q => gE_wI q) ?_
        refine x_let (fun s22 e23 => ?_)
        refine x_iincw (μ := mu_x25_marks) (pc := 105) (lv' := [(7, vI (w32 (v7 + 1))), (0, vR v0), (1, vI v1), (2, vR v2), (4, vR v4), (5, vR v5), (6, vR v6), (8, vI v8)]) 6 dX25_marks_105 rfl (by decide) rfl ?_
        refine x_loc (lv' := [(0, vR v0), (1, vI v1), (2, vR v2), (4, vR v4), (5, vR v5), (6, vR v6), (7, vI (w32 (v7 + 1))), (8, vI v8)]) [1, 2, 3, 4, 5, 6, 0, 7] rfl ?_
        exact okj_x25_marks_l71_j108 hl hdp hv1 (w32_rng _) hv8 ih hK
      · refine x_goto (μ := mu_x25_marks) (pc := 92) (tgt := 108) dX25_marks_92 rfl ?_
        exact okj_x25_marks_l71_j108 hl hdp hv1 hv7 hv8 ih hK
def x25_marks_l117_j209 (N : Nat) (v0 : Nat) (v1 : Int) (v2 : Nat) (v5 : Nat) (v6 : Nat) (v7 : Int) (v8 : Int) (Kh : Int → Int → gMem → Option (Nat × gMem)) (K : Int → gMem → Option (Nat × gMem)) (s : gMem) : Option (Nat × gMem) := Kh v7 (w32 (v8 + 1)) s
set_option maxRecDepth 100000 in
theorem okj_x25_marks_l117_j209 {ω : gW} {l : Launch} {d : Nat} {N : Nat} {σ0 : gMem} {s : gMem} {v0 : Nat} {v1 : Int} {v2 : Nat} {v5 : Nat} {v6 : Nat} {v7 : Int} {v8 : Int} {Kh : Int → Int → gMem → Option (Nat × gMem)} {K : Int → gMem → Option (Nat × gMem)} (hl : l.stackTraces = false) (hdp : 70 ≤ d) (hv1 : g32 v1) (hv7 : g32 v7) (hv8 : g32 v8) (hKh : ∀ (v7 : Int) (v8 : Int) (s : gMem) , g32 v7 → g32 v8 → GG (fun p : Nat × gMem => (.inl (some (vR p.1)), p.2)) gE ω l d mu_x25_marks σ0 117 [(0, vR v0), (1, vI v1), (2, vR v2), (5, vR v5), (6, vR v6), (7, vI v7), (8, vI v8)] [] s (Kh v7 v8 s)) (hK : ∀ (v7 : Int) (s : gMem) , g32 v7 → GG (fun p : Nat × gMem => (.inl (some (vR p.1)), p.2)) gE ω l d mu_x25_marks σ0 215 [(6, vR v6), (7, vI v7)] [] s (K v7 s)) : GG (fun p : Nat × gMem => (.inl (some (vR p.1)), p.2)) gE ω l d mu_x25_marks σ0 209 [(0, vR v0), (1, vI v1), (2, vR v2), (5, vR v5), (6, vR v6), (7, vI v7), (8, vI v8)] [] s (x25_marks_l117_j209 N v0 v1 v2 v5 v6 v7 v8 Kh K s) := by
  unfold x25_marks_l117_j209
  refine x_iincw (μ := mu_x25_marks) (pc := 209) (lv' := [(8, vI (w32 (v8 + 1))), (0, vR v0), (1, vI v1), (2, vR v2), (5, vR v5), (6, vR v6), (7, vI v7)]) 6 dX25_marks_209 rfl (by decide) rfl ?_
  refine x_goto (μ := mu_x25_marks) (pc := 212) (tgt := 117) dX25_marks_212 rfl ?_
  refine x_loc (lv' := [(0, vR v0), (1, vI v1), (2, vR v2), (5, vR v5), (6, vR v6), (7, vI v7), (8, vI (w32 (v8 + 1)))]) [1, 2, 3, 4, 5, 6, 0] rfl ?_
  exact hKh v7 (w32 (v8 + 1)) s hv7 (w32_rng _)
def x25_marks_l171 (N : Nat) (v0 : Nat) (v1 : Int) (v2 : Nat) (v5 : Nat) (v6 : Nat) (v7 : Int) (v8 : Int) (v9 : Int) (K : gMem → Option (Nat × gMem)) : Nat → Int → gMem → Option (Nat × gMem)
  | 0, _, _ => none
  | n + 1, v10, s => if v10 ≤ v9 then K s else if mT s v6 = 100 then if 0 ≤ (v10 - 1) ∧ (v10 - 1) < (mN s v6 : Int) then if 0 ≤ v10 ∧ v10 < (mN s v6 : Int) then gLet (wI s v6 v10.toNat (mI s v6 (v10 - 1).toNat)) (fun s38 => x25_marks_l171 N v0 v1 v2 v5 v6 v7 v8 v9 K n (w32 (v10 + (-1))) s38) else none else none else none
set_option maxRecDepth 100000 in
theorem okl_x25_marks_l171 {ω : gW} {l : Launch} {d : Nat} {N : Nat} {σ0 : gMem} {v0 : Nat} {v1 : Int} {v2 : Nat} {v5 : Nat} {v6 : Nat} {v7 : Int} {v8 : Int} {v9 : Int} {K : gMem → Option (Nat × gMem)} (hl : l.stackTraces = false) (hdp : 70 ≤ d) (hv1 : g32 v1) (hv7 : g32 v7) (hv8 : g32 v8) (hv9 : g32 v9) (hK : ∀ (s : gMem) , GG (fun p : Nat × gMem => (.inl (some (vR p.1)), p.2)) gE ω l d mu_x25_marks σ0 196 [(0, vR v0), (1, vI v1), (2, vR v2), (5, vR v5), (6, vR v6), (7, vI v7), (8, vI v8), (9, vI v9)] [] s (K s)) : ∀ (n : Nat) (v10 : Int) (s : gMem) , g32 v10 → GG (fun p : Nat × gMem => (.inl (some (vR p.1)), p.2)) gE ω l d mu_x25_marks σ0 171 [(0, vR v0), (1, vI v1), (2, vR v2), (5, vR v5), (6, vR v6), (7, vI v7), (8, vI v8), (9, vI v9), (10, vI v10)] [] s (x25_marks_l171 N v0 v1 v2 v5 v6 v7 v8 v9 K n v10 s) := by
  intro n
  induction n with
  | zero => intros; exact x_none
  | succ n ih =>
    intro v10 s hv10
    unfold x25_marks_l171
    refine x_iload (μ := mu_x25_marks) (pc := 171) 8 dX25_marks_171 rfl ?_
    refine x_iload (μ := mu_x25_marks) (pc := 173) 7 dX25_marks_173 rfl ?_
    refine x_icmp_le (μ := mu_x25_marks) (pc := 175) (tgt := 196) dX25_marks_175 rfl hv10 hv9 ?_ ?_
    · refine x_loc (lv' := [(0, vR v0), (1, vI v1), (2, vR v2), (5, vR v5), (6, vR v6), (7, vI v7), (8, vI v8), (9, vI v9)]) [0, 1, 2, 3, 4, 5, 6, 7] rfl ?_
      exact hK s
    · refine x_aload (μ := mu_x25_marks) (pc := 178) 4 dX25_marks_178 rfl ?_
      refine x_iload (μ := mu_x25_marks) (pc := 180) 8 dX25_marks_180 rfl ?_
      refine x_aload (μ := mu_x25_marks) (pc := 182) 4 dX25_marks_182 rfl ?_
      refine x_iload (μ := mu_x25_marks) (pc := 184) 8 dX25_marks_184 rfl ?_
      refine x_iconst (μ := mu_x25_marks) (pc := 186) dX25_marks_186 ?_
      refine x_isub (μ := mu_x25_marks) (pc := 187) dX25_marks_187 ?_
      refine x_if (fun hT36 => ?_)
      refine x_iald (μ := mu_x25_marks) (pc := 188) dX25_marks_188 hT36 rfl (fun hr37 => ?_)
      refine x_iast (μ := mu_x25_marks) (pc := 189) dX25_marks_189 hT36 rfl (fun _ _ q => gE_wI q) ?_
      refine x_let (fun s38 e39 => ?_)
      refine x_iincw (μ := mu_x25_marks) (pc := 190) (lv' := [(10, vI (w32 (v10 + (-1)))), (0, vR v0), (1, vI v1), (2, vR v2), (5, vR v5), (6, vR v6), (7, vI v7), (8, vI v8), (9, vI v9)]) 8 dX25_marks_190 rfl (by decide) rfl ?_
      refine x_goto (μ := mu_x25_marks) (pc := 193) (tgt := 171) dX25_marks_193 rfl ?_
      refine x_loc (lv' := [(0, vR v0), (1, vI v1), (2, vR v2), (5, vR v5), (6, vR v6), (7, vI v7), (8, vI v8), (9, vI v9), (10, vI (w32 (v10 + (-1))))]) [1, 2, 3, 4, 5, 6, 7, 8, 0] rfl ?_
      exact ih (w32 (v10 + (-1))) s38 (w32_rng _)
def x25_marks_l117 (N : Nat) (v0 : Nat) (v1 : Int) (v2 : Nat) (v5 : Nat) (v6 : Nat) (K : Int → gMem → Option (Nat × gMem)) : Nat → Int → Int → gMem → Option (Nat × gMem)
  | 0, _, _, _ => none
  | n + 1, v7, v8, s => if mT s v5 = 100 then if w32 (mN s v5 : Int) ≤ v8 then K v7 s else if 0 ≤ v8 ∧ v8 < (mN s v5 : Int) then (x25_has N v2 v1 (mI s v5 v8.toNat) s).bind (fun x28 => if x28 ≠ 0 then x25_marks_l117_j209 N v0 v1 v2 v5 v6 v7 v8  (x25_marks_l117 N v0 v1 v2 v5 v6 K n) K s else if 0 ≤ v8 ∧ v8 < (mN s v5 : Int) then if mT s v0 = 23 then (x25_isIn N v0 v1 (mI s v5 v8.toNat) s).bind (fun x32 => if x32 ≠ 0 then (x25_behind N v6 v7 v5 v8 s).bind (fun x34 => x25_marks_l171 N v0 v1 v2 v5 v6 v7 v8 x34 (fun s40 => if mT s40 v5 = 100 then if 0 ≤ v8 ∧ v8 < (mN s40 v5 : Int) then if mT s40 v6 = 100 then if 0 ≤ x34 ∧ x34 < (mN s40 v6 : Int) then gLet (wI s40 v6 x34.toNat (mI s40 v5 v8.toNat)) (fun s44 => x25_marks_l117_j209 N v0 v1 v2 v5 v6 (w32 (v7 + 1)) v8  (x25_marks_l117 N v0 v1 v2 v5 v6 K n) K s44) else none else none else none else none) N v7 s) else x25_marks_l117_j209 N v0 v1 v2 v5 v6 v7 v8  (x25_marks_l117 N v0 v1 v2 v5 v6 K n) K s) else none else none) else none else none
set_option maxRecDepth 100000 in
theorem okl_x25_marks_l117 {ω : gW} {l : Launch} {d : Nat} {N : Nat} {σ0 : gMem} {v0 : Nat} {v1 : Int} {v2 : Nat} {v5 : Nat} {v6 : Nat} {K : Int → gMem → Option (Nat × gMem)} (hl : l.stackTraces = false) (hdp : 70 ≤ d) (hv1 : g32 v1) (hK : ∀ (v7 : Int) (s : gMem) , g32 v7 → GG (fun p : Nat × gMem => (.inl (some (vR p.1)), p.2)) gE ω l d mu_x25_marks σ0 215 [(6, vR v6), (7, vI v7)] [] s (K v7 s)) : ∀ (n : Nat) (v7 : Int) (v8 : Int) (s : gMem) , g32 v7 → g32 v8 → GG (fun p : Nat × gMem => (.inl (some (vR p.1)), p.2)) gE ω l d mu_x25_marks σ0 117 [(0, vR v0), (1, vI v1), (2, vR v2), (5, vR v5), (6, vR v6), (7, vI v7), (8, vI v8)] [] s (x25_marks_l117 N v0 v1 v2 v5 v6 K n v7 v8 s) := by
  intro n
  induction n with
  | zero => intros; exact x_none
  | succ n ih =>
    intro v7 v8 s hv7 hv8
    unfold x25_marks_l117
    refine x_iload (μ := mu_x25_marks) (pc := 117) 6 dX25_marks_117 rfl ?_
    refine x_aload (μ := mu_x25_marks) (pc := 119) 3 dX25_marks_119 rfl ?_
    refine x_if (fun hT26 => ?_)
    refine x_len (μ := mu_x25_marks) (pc := 121) 0 (fun _ => rfl) dX25_marks_121 hT26 ?_
    refine x_w1 ?_
    refine x_icmp_ge (μ := mu_x25_marks) (pc := 122) (tgt := 215) dX25_marks_122 rfl hv8 (w32_rng _) ?_ ?_
    · refine x_loc (lv' := [(6, vR v6), (7, vI v7)]) [4, 5] rfl ?_
      exact hK v7 s hv7
    · refine x_aload_n (μ := mu_x25_marks) (pc := 125) 2 dX25_marks_125 rfl ?_
      refine x_iload_n (μ := mu_x25_marks) (pc := 126) 1 dX25_marks_126 rfl ?_
      refine x_aload (μ := mu_x25_marks) (pc := 127) 3 dX25_marks_127 rfl ?_
      refine x_iload (μ := mu_x25_marks) (pc := 129) 6 dX25_marks_129 rfl ?_
      refine x_iald (μ := mu_x25_marks) (pc := 131) dX25_marks_131 hT26 rfl (fun hr27 => ?_)
      refine x_callS_pi (μ := mu_x25_marks) (pc := 132) (ok_x25_has (ω := ω) (l := l) (d := d - 1) hl (by omega) hv1 hr27) gRel_E gRel_E (fun _ q => q) q2506 q2507 q266 q2508 dX25_marks_132 hy_x25_has (by omega) (Nat.le_of_ble_eq_true rfl) rfl (Nat.le_of_ble_eq_true rfl) (fun x28 hr29 => ?_)
      refine x_if_ne (μ := mu_x25_marks) (pc := 135) (tgt := 209) dX25_marks_135 rfl hr29 ?_ ?_
      · exact okj_x25_marks_l117_j209 hl hdp hv1 hv7 hv8 ih hK
      · refine x_aload_n (μ := mu_x25_marks) (pc := 138) 0 dX25_marks_138 rfl ?_
        refine x_iload_n (μ := mu_x25_marks) (pc := 139) 1 dX25_marks_139 rfl ?_
        refine x_aload (μ := mu_x25_marks) (pc := 140) 3 dX25_marks_140 rfl ?_
        refine x_iload (μ := mu_x25_marks) (pc := 142) 6 dX25_marks_142 rfl ?_
        refine x_iald (μ := mu_x25_marks) (pc := 144) dX25_marks_144 hT26 rfl (fun hr30 => ?_)
        refine x_if (fun hT31 => ?_)
        refine x_callV_pi (μ := mu_x25_marks) (pc := 145) (ok_x25_isIn (ω := ω) (l := l) (d := d - 1) hl (by omega) hv1 hr30) gRel_E gRel_E (fun _ q => q) q2509 q2511 qs68 q266 q2512 dX25_marks_145 rfl hT31 hy_x25_isIn (by omega) (Nat.le_of_ble_eq_true rfl) rfl (Nat.le_of_ble_eq_true rfl) (fun x32 hr33 => ?_)
        refine x_if_ne (μ := mu_x25_marks) (pc := 148) (tgt := 154) dX25_marks_148 rfl hr33 ?_ ?_
        · refine x_aload (μ := mu_x25_marks) (pc := 154) 4 dX25_marks_154 rfl ?_
          refine x_iload (μ := mu_x25_marks) (pc := 156) 5 dX25_marks_156 rfl ?_
          refine x_aload (μ := mu_x25_marks) (pc := 158) 3 dX25_marks_158 rfl ?_
          refine x_iload (μ := mu_x25_marks) (pc := 160) 6 dX25_marks_160 rfl ?_
          refine x_callS_pi (μ := mu_x25_marks) (pc := 162) (ok_x25_behind (ω := ω) (l := l) (d := d - 1) hl (by omega) hv7 hv8) gRel_E gRel_E (fun _ q => q) q2522 q2523 q266 q2524 dX25_marks_162 hy_x25_behind (by omega) (Nat.le_of_ble_eq_true rfl) rfl (Nat.le_of_ble_eq_true rfl) (fun x34 hr35 => ?_)
          refine x_istore (μ := mu_x25_marks) (pc := 165) (lv' := [(9, vI x34), (0, vR v0), (1, vI v1), (2, vR v2), (5, vR v5), (6, vR v6), (7, vI v7), (8, vI v8)]) dX25_marks_165 (by decide) rfl ?_
          refine x_iload (μ := mu_x25_marks) (pc := 167) 6 dX25_marks_167 rfl ?_
          refine x_istore (μ := mu_x25_marks) (pc := 169) (lv' := [(10, vI v7), (9, vI x34), (0, vR v0), (1, vI v1), (2, vR v2), (5, vR v5), (6, vR v6), (7, vI v7), (8, vI v8)]) dX25_marks_169 (by decide) rfl ?_
          refine x_loc (lv' := [(0, vR v0), (1, vI v1), (2, vR v2), (5, vR v5), (6, vR v6), (7, vI v7), (8, vI v8), (9, vI x34), (10, vI v7)]) [2, 3, 4, 5, 6, 7, 8, 1, 0] rfl ?_
          refine okl_x25_marks_l171 hl hdp hv1 hv7 hv8 hr35 (fun s40 => ?_) N v7 s hv7
          refine x_aload (μ := mu_x25_marks) (pc := 196) 4 dX25_marks_196 rfl ?_
          refine x_iload (μ := mu_x25_marks) (pc := 198) 7 dX25_marks_198 rfl ?_
          refine x_aload (μ := mu_x25_marks) (pc := 200) 3 dX25_marks_200 rfl ?_
          refine x_iload (μ := mu_x25_marks) (pc := 202) 6 dX25_marks_202 rfl ?_
          refine x_if (fun hT41 => ?_)
          refine x_iald (μ := mu_x25_marks) (pc := 204) dX25_marks_204 hT41 rfl (fun hr42 => ?_)
          refine x_if (fun hT43 => ?_)
          refine x_iast (μ := mu_x25_marks) (pc := 205) dX25_marks_205 hT43 rfl (fun _ _ q => gE_wI q) ?_
          refine x_let (fun s44 e45 => ?_)
          refine x_iincw (μ := mu_x25_marks) (pc := 206) (lv' := [(7, vI (w32 (v7 + 1))), (0, vR v0), (1, vI v1), (2, vR v2), (5, vR v5), (6, vR v6), (8, vI v8), (9, vI x34)]) 5 dX25_marks_206 rfl (by decide) rfl ?_
          refine x_loc (lv' := [(0, vR v0), (1, vI v1), (2, vR v2), (5, vR v5), (6, vR v6), (7, vI (w32 (v7 + 1))), (8, vI v8)]) [1, 2, 3, 4, 5, 0, 6] rfl ?_
          exact okj_x25_marks_l117_j209 hl hdp hv1 (w32_rng _) hv8 ih hK
        · refine x_goto (μ := mu_x25_marks) (pc := 151) (tgt := 209) dX25_marks_151 rfl ?_
          exact okj_x25_marks_l117_j209 hl hdp hv1 hv7 hv8 ih hK
def x25_marks_j39 (N : Nat) (v0 : Nat) (v1 : Int) (v2 : Nat) (t0 : Nat) (s : gMem) : Option (Nat × gMem) := if mT s v2 = 8 then (x9_marks v2 v1 s).bind (fun x6 => if mT s t0 = 8 then (x9_marks t0 v1 s).bind (fun x8 => if mT s x6 = 100 then if mT s x8 = 100 then if 0 ≤ (w32 ((mN s x6 : Int) + (mN s x8 : Int))) ∧ (w32 ((mN s x6 : Int) + (mN s x8 : Int))) < 1000000 then gLet (wN s 100 (w32 ((mN s x6 : Int) + (mN s x8 : Int))).toNat) (fun s13 => x25_marks_l71 N v0 v1 v2 x6 x8 (mZ s) (fun y24 s25 => x25_marks_l117 N v0 v1 v2 x8 (mZ s) (fun y46 s47 => if 0 ≤ y46 ∧ y46 < 1000000 then gLet (wN s47 100 y46.toNat) (fun s50 => if mT s50 (mZ s) = 100 then if (0 ≤ (0 : Int) ∧ 0 ≤ (0 : Int) ∧ 0 ≤ y46) ∧ (0 : Int) + y46 ≤ (mN s50 (mZ s) : Int) ∧ (0 : Int) + y46 ≤ (mN s50 (mZ s47) : Int) then gLet (wCI s50 (mZ s) (0 : Int).toNat (mZ s47) (0 : Int).toNat y46.toNat) (fun s54 => some (mZ s47, s54)) else none else none) else none) N y24 0 s25) N 0 0 s13) else none else none else none) else none) else none
set_option maxRecDepth 100000 in
theorem okj_x25_marks_j39 {ω : gW} {l : Launch} {d : Nat} {N : Nat} {σ0 : gMem} {s : gMem} {v0 : Nat} {v1 : Int} {v2 : Nat} {t0 : Nat} (hl : l.stackTraces = false) (hdp : 70 ≤ d) (hv1 : g32 v1) : GG (fun p : Nat × gMem => (.inl (some (vR p.1)), p.2)) gE ω l d mu_x25_marks σ0 39 [(0, vR v0), (1, vI v1), (2, vR v2)] [vR t0] s (x25_marks_j39 N v0 v1 v2 t0 s) := by
  unfold x25_marks_j39
  refine x_astore_n (μ := mu_x25_marks) (pc := 39) (lv' := [(3, vR t0), (0, vR v0), (1, vI v1), (2, vR v2)]) dX25_marks_39 rfl (by decide) rfl ?_
  refine x_aload_n (μ := mu_x25_marks) (pc := 40) 3 dX25_marks_40 rfl ?_
  refine x_iload_n (μ := mu_x25_marks) (pc := 41) 2 dX25_marks_41 rfl ?_
  refine x_if (fun hT5 => ?_)
  refine x_callV_pr (μ := mu_x25_marks) (pc := 42) (ok_x9_marks (ω := ω) (l := l) (d := d - 1) hl (by omega) hv1) gRel_E gRel_E (fun _ q => q) q2504 q2204 q2205 q230 q2206 dX25_marks_42 rfl hT5 hy_x9_marks (by omega) (Nat.le_of_ble_eq_true rfl) rfl (Nat.le_of_ble_eq_true rfl) (fun x6 => ?_)
  refine x_astore (μ := mu_x25_marks) (pc := 45) (lv' := [(4, vR x6), (3, vR t0), (0, vR v0), (1, vI v1), (2, vR v2)]) dX25_marks_45 (by decide) rfl ?_
  refine x_aload_n (μ := mu_x25_marks) (pc := 47) 1 dX25_marks_47 rfl ?_
  refine x_iload_n (μ := mu_x25_marks) (pc := 48) 3 dX25_marks_48 rfl ?_
  refine x_if (fun hT7 => ?_)
  refine x_callV_pr (μ := mu_x25_marks) (pc := 49) (ok_x9_marks (ω := ω) (l := l) (d := d - 1) hl (by omega) hv1) gRel_E gRel_E (fun _ q => q) q2504 q2204 q2205 q230 q2206 dX25_marks_49 rfl hT7 hy_x9_marks (by omega) (Nat.le_of_ble_eq_true rfl) rfl (Nat.le_of_ble_eq_true rfl) (fun x8 => ?_)
  refine x_astore (μ := mu_x25_marks) (pc := 52) (lv' := [(5, vR x8), (4, vR x6), (3, vR t0), (0, vR v0), (1, vI v1), (2, vR v2)]) dX25_marks_52 (by decide) rfl ?_
  refine x_aload (μ := mu_x25_marks) (pc := 54) 1 dX25_marks_54 rfl ?_
  refine x_if (fun hT9 => ?_)
  refine x_len (μ := mu_x25_marks) (pc := 56) 0 (fun _ => rfl) dX25_marks_56 hT9 ?_
  refine x_aload (μ := mu_x25_marks) (pc := 57) 0 dX25_marks_57 rfl ?_
  refine x_if (fun hT10 => ?_)
  refine x_len (μ := mu_x25_marks) (pc := 59) 0 (fun _ => rfl) dX25_marks_59 hT10 ?_
  refine x_iadd (μ := mu_x25_marks) (pc := 60) dX25_marks_60 ?_
  refine x_w1 ?_
  refine x_if (fun hg11 => ?_)
  refine x_ok (fun ok12 => ?_)
  refine x_newai (μ := mu_x25_marks) (pc := 61) dX25_marks_61 hg11 ?_
  refine x_let (fun s13 e14 => ?_)
  refine x_astore (μ := mu_x25_marks) (pc := 63) (lv' := [(6, vR (mZ s)), (5, vR x8), (4, vR x6), (3, vR t0), (0, vR v0), (1, vI v1), (2, vR v2)]) dX25_marks_63 (by decide) rfl ?_
  refine x_iconst (μ := mu_x25_marks) (pc := 65) dX25_marks_65 ?_
  refine x_istore (μ := mu_x25_marks) (pc := 66) (lv' := [(7, vI 0), (6, vR (mZ s)), (5, vR x8), (4, vR x6), (3, vR t0), (0, vR v0), (1, vI v1), (2, vR v2)]) dX25_marks_66 (by decide) rfl ?_
  refine x_iconst (μ := mu_x25_marks) (pc := 68) dX25_marks_68 ?_
  refine x_istore (μ := mu_x25_marks) (pc := 69) (lv' := [(8, vI 0), (7, vI 0), (6, vR (mZ s)), (5, vR x8), (4, vR x6), (3, vR t0), (0, vR v0), (1, vI v1), (2, vR v2)]) dX25_marks_69 (by decide) rfl ?_
  refine x_loc (lv' := [(0, vR v0), (1, vI v1), (2, vR v2), (4, vR x6), (5, vR x8), (6, vR (mZ s)), (7, vI 0), (8, vI 0)]) [6, 7, 8, 4, 3, 2, 1, 0] rfl ?_
  refine okl_x25_marks_l71 hl hdp hv1 (fun y24 s25 hy24 => ?_) N 0 0 s13 (by decide) (by decide)
  refine x_iconst (μ := mu_x25_marks) (pc := 114) dX25_marks_114 ?_
  refine x_istore (μ := mu_x25_marks) (pc := 115) (lv' := [(8, vI 0), (0, vR v0), (1, vI v1), (2, vR v2), (5, vR x8), (6, vR (mZ s)), (7, vI y24)]) dX25_marks_115 (by decide) rfl ?_
  refine x_loc (lv' := [(0, vR v0), (1, vI v1), (2, vR v2), (5, vR x8), (6, vR (mZ s)), (7, vI y24), (8, vI 0)]) [1, 2, 3, 4, 5, 6, 0] rfl ?_
  refine okl_x25_marks_l117 hl hdp hv1 (fun y46 s47 hy46 => ?_) N y24 0 s25 hy24 (by decide)
  refine x_iload (μ := mu_x25_marks) (pc := 215) 1 dX25_marks_215 rfl ?_
  refine x_if (fun hg48 => ?_)
  refine x_ok (fun ok49 => ?_)
  refine x_newai (μ := mu_x25_marks) (pc := 217) dX25_marks_217 hg48 ?_
  refine x_let (fun s50 e51 => ?_)
  refine x_astore (μ := mu_x25_marks) (pc := 219) (lv' := [(8, vR (mZ s47)), (6, vR (mZ s)), (7, vI y46)]) dX25_marks_219 (by decide) rfl ?_
  refine x_aload (μ := mu_x25_marks) (pc := 221) 1 dX25_marks_221 rfl ?_
  refine x_iconst (μ := mu_x25_marks) (pc := 223) dX25_marks_223 ?_
  refine x_aload (μ := mu_x25_marks) (pc := 224) 0 dX25_marks_224 rfl ?_
  refine x_iconst (μ := mu_x25_marks) (pc := 226) dX25_marks_226 ?_
  refine x_iload (μ := mu_x25_marks) (pc := 227) 2 dX25_marks_227 rfl ?_
  refine x_if (fun hT52 => ?_)
  refine x_if (fun hg53 => ?_)
  refine x_copyI (μ := mu_x25_marks) (pc := 229) q2525 dX25_marks_229 hT52 (gT_new e51) hg53 (by omega) (Nat.le_of_ble_eq_true rfl) (fun _ q => gE_wCI q) ?_
  refine x_let (fun s54 e55 => ?_)
  refine x_aload (μ := mu_x25_marks) (pc := 232) 0 dX25_marks_232 rfl ?_
  exact x_aret (μ := mu_x25_marks) (pc := 234) dX25_marks_234 rfl (by first | exact Or.inl ⟨_, rfl⟩ | exact Or.inr ⟨_, rfl⟩) rfl (gRel_E.1 _) trivial
def x25_marks_j19 (N : Nat) (v0 : Nat) (v1 : Int) (t0 : Nat) (s : gMem) : Option (Nat × gMem) := if mT s v0 = 23 then if t0 ≠ mR s v0 1 then x25_marks_j39 N v0 v1 t0 (mR s v0 1) s else x25_marks_j39 N v0 v1 t0 (mR s v0 2) s else none
set_option maxRecDepth 100000 in
theorem okj_x25_marks_j19 {ω : gW} {l : Launch} {d : Nat} {N : Nat} {σ0 : gMem} {s : gMem} {v0 : Nat} {v1 : Int} {t0 : Nat} (hl : l.stackTraces = false) (hdp : 70 ≤ d) (hv1 : g32 v1) : GG (fun p : Nat × gMem => (.inl (some (vR p.1)), p.2)) gE ω l d mu_x25_marks σ0 19 [(0, vR v0), (1, vI v1)] [vR t0] s (x25_marks_j19 N v0 v1 t0 s) := by
  unfold x25_marks_j19
  refine x_astore_n (μ := mu_x25_marks) (pc := 19) (lv' := [(2, vR t0), (0, vR v0), (1, vI v1)]) dX25_marks_19 rfl (by decide) rfl ?_
  refine x_aload_n (μ := mu_x25_marks) (pc := 20) 0 dX25_marks_20 rfl ?_
  refine x_aload_n (μ := mu_x25_marks) (pc := 21) 1 dX25_marks_21 rfl ?_
  refine x_if (fun hT4 => ?_)
  refine x_fgr (μ := mu_x25_marks) (pc := 22) fX25_1 (by first | exact Or.inl ⟨_, rfl⟩ | exact Or.inr ⟨_, rfl⟩) q2471 dX25_marks_22 hT4 ?_
  refine x_acmp_ne (μ := mu_x25_marks) (pc := 25) (tgt := 35) dX25_marks_25 rfl ?_ ?_
  · refine x_aload_n (μ := mu_x25_marks) (pc := 35) 1 dX25_marks_35 rfl ?_
    refine x_fgr (μ := mu_x25_marks) (pc := 36) fX25_1 (by first | exact Or.inl ⟨_, rfl⟩ | exact Or.inr ⟨_, rfl⟩) q2471 dX25_marks_36 hT4 ?_
    refine x_loc (lv' := [(0, vR v0), (1, vI v1), (2, vR t0)]) [1, 2, 0] rfl ?_
    exact okj_x25_marks_j39 hl hdp hv1
  · refine x_aload_n (μ := mu_x25_marks) (pc := 28) 1 dX25_marks_28 rfl ?_
    refine x_fgr (μ := mu_x25_marks) (pc := 29) fX25_2 (by first | exact Or.inl ⟨_, rfl⟩ | exact Or.inr ⟨_, rfl⟩) q2472 dX25_marks_29 hT4 ?_
    refine x_goto (μ := mu_x25_marks) (pc := 32) (tgt := 39) dX25_marks_32 rfl ?_
    refine x_loc (lv' := [(0, vR v0), (1, vI v1), (2, vR t0)]) [1, 2, 0] rfl ?_
    exact okj_x25_marks_j39 hl hdp hv1
def x25_marks (N : Nat) (v0 : Nat) (v1 : Int) (σ : gMem) : Option (Nat × gMem) := if mT σ v0 = 23 then (x25_isInOrder N v0 v1 σ).bind (fun x2 => if x2 = 0 then x25_marks_j19 N v0 v1 (mR σ v0 1) σ else x25_marks_j19 N v0 v1 (mR σ v0 2) σ) else none
set_option maxRecDepth 100000 in
theorem ok_x25_marks {ω : gW} {l : Launch} {d : Nat} {N : Nat} {σ : gMem} {v0 : Nat} {v1 : Int} (hl : l.stackTraces = false) (hdp : 70 ≤ d) (hv1 : g32 v1) : gK (fun p : Nat × gMem => (.inl (some (vR p.1)), p.2)) gE ω l d mu_x25_marks [vR v0, vI v1] σ (x25_marks N v0 v1 σ) := by
  refine gK.of hp_X25 (Nat.le_of_ble_eq_true rfl) ?_
  unfold x25_marks
  refine x_aload_n (μ := mu_x25_marks) (pc := 0) 0 dX25_marks_0 rfl ?_
  refine x_iload_n (μ := mu_x25_marks) (pc := 1) 1 dX25_marks_1 rfl ?_
  refine x_if (fun hT1 => ?_)
  refine x_callV_pi (μ := mu_x25_marks) (pc := 2) (ok_x25_isInOrder (ω := ω) (l := l) (d := d - 1) hl (by omega) hv1) gRel_E gRel_E (fun _ q => q) q2500 q2502 qs67 q266 q2503 dX25_marks_2 rfl hT1 hy_x25_isInOrder (by omega) (Nat.le_of_ble_eq_true rfl) rfl (Nat.le_of_ble_eq_true rfl) (fun x2 hr3 => ?_)
  refine x_if_eq (μ := mu_x25_marks) (pc := 5) (tgt := 15) dX25_marks_5 rfl hr3 ?_ ?_
  · refine x_aload_n (μ := mu_x25_marks) (pc := 15) 0 dX25_marks_15 rfl ?_
    refine x_fgr (μ := mu_x25_marks) (pc := 16) fX25_1 (by first | exact Or.inl ⟨_, rfl⟩ | exact Or.inr ⟨_, rfl⟩) q2471 dX25_marks_16 hT1 ?_
    exact okj_x25_marks_j19 hl hdp hv1
  · refine x_aload_n (μ := mu_x25_marks) (pc := 8) 0 dX25_marks_8 rfl ?_
    refine x_fgr (μ := mu_x25_marks) (pc := 9) fX25_2 (by first | exact Or.inl ⟨_, rfl⟩ | exact Or.inr ⟨_, rfl⟩) q2472 dX25_marks_9 hT1 ?_
    refine x_goto (μ := mu_x25_marks) (pc := 12) (tgt := 19) dX25_marks_12 rfl ?_
    exact okj_x25_marks_j19 hl hdp hv1
