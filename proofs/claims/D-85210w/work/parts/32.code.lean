def x26_init (v0 : Nat) (v1 : Int) (v2 : Int) (v3 : Int) (v4 : Int) (v5 : Nat) (v6 : Nat) (σ : gMem) : Option gMem := if mT σ v0 = 24 then gLet (wI σ v0 0 v1) (fun s2 => gLet (wI s2 v0 1 v2) (fun s4 => gLet (wI s4 v0 2 v3) (fun s6 => if v4 = 0 ∨ v4 = 1 then gLet (wI s6 v0 3 v4) (fun s9 => gLet (wR s9 v0 4 v5) (fun s11 => gLet (wR s11 v0 5 v6) (fun s13 => some s13))) else none))) else none
set_option maxRecDepth 100000 in
theorem ok_x26_init {ω : gW} {l : Launch} {d : Nat} {σ : gMem} {v0 : Nat} {v1 : Int} {v2 : Int} {v3 : Int} {v4 : Int} {v5 : Nat} {v6 : Nat} (hl : l.stackTraces = false) (hdp : 2 ≤ d) (hv1 : g32 v1) (hv2 : g32 v2) (hv3 : g32 v3) (hv4 : g32 v4) : gK (fun p : gMem => (.inl none, p)) gE ω l d mu_x26_init [vR v0, vI v1, vI v2, vI v3, vI v4, vR v5, vR v6] σ (x26_init v0 v1 v2 v3 v4 v5 v6 σ) := by
  refine gK.of hp_X26 (Nat.le_of_ble_eq_true rfl) ?_
  unfold x26_init
  refine x_aload_n (μ := mu_x26_init) (pc := 0) 0 dX26_init_0 rfl ?_
  refine x_if (fun hT1 => ?_)
  refine x_recI (μ := mu_x26_init) (pc := 1) (ci := 23) rfl q2540 dX26_init_1 hT1 (by omega) (Nat.le_of_ble_eq_true rfl) ?_
  refine x_aload_n (μ := mu_x26_init) (pc := 4) 0 dX26_init_4 rfl ?_
  refine x_iload_n (μ := mu_x26_init) (pc := 5) 1 dX26_init_5 rfl ?_
  refine x_fpiF (μ := mu_x26_init) (pc := 6) fX26_0 q2541 rfl rfl dX26_init_6 hT1 (fun _ q => gE_wI q) ?_
  refine x_let (fun s2 e3 => ?_)
  refine x_aload_n (μ := mu_x26_init) (pc := 9) 0 dX26_init_9 rfl ?_
  refine x_iload_n (μ := mu_x26_init) (pc := 10) 2 dX26_init_10 rfl ?_
  refine x_fpiF (μ := mu_x26_init) (pc := 11) fX26_1 q2543 rfl rfl dX26_init_11 (gT_I e3 hT1) (fun _ q => gE_wI q) ?_
  refine x_let (fun s4 e5 => ?_)
  refine x_aload_n (μ := mu_x26_init) (pc := 14) 0 dX26_init_14 rfl ?_
  refine x_iload_n (μ := mu_x26_init) (pc := 15) 3 dX26_init_15 rfl ?_
  refine x_fpiF (μ := mu_x26_init) (pc := 16) fX26_2 q2545 rfl rfl dX26_init_16 (gT_I e5 (gT_I e3 hT1)) (fun _ q => gE_wI q) ?_
  refine x_let (fun s6 e7 => ?_)
  refine x_aload_n (μ := mu_x26_init) (pc := 19) 0 dX26_init_19 rfl ?_
  refine x_iload (μ := mu_x26_init) (pc := 20) 4 dX26_init_20 rfl ?_
  refine x_if (fun hz8 => ?_)
  refine x_fpzF (μ := mu_x26_init) (pc := 22) fX26_3 q2547 rfl rfl hz8 dX26_init_22 (gT_I e7 (gT_I e5 (gT_I e3 hT1))) (fun _ q => gE_wI q) ?_
  refine x_let (fun s9 e10 => ?_)
  refine x_aload_n (μ := mu_x26_init) (pc := 25) 0 dX26_init_25 rfl ?_
  refine x_aload (μ := mu_x26_init) (pc := 26) 5 dX26_init_26 rfl ?_
  refine x_fprF (μ := mu_x26_init) (pc := 28) fX26_4 q2549 rfl rfl (by first | exact Or.inl ⟨_, rfl⟩ | exact Or.inr ⟨_, rfl⟩) dX26_init_28 (gT_I e10 (gT_I e7 (gT_I e5 (gT_I e3 hT1)))) (fun _ q => gE_wR q) ?_
  refine x_let (fun s11 e12 => ?_)
  refine x_aload_n (μ := mu_x26_init) (pc := 31) 0 dX26_init_31 rfl ?_
  refine x_aload (μ := mu_x26_init) (pc := 32) 6 dX26_init_32 rfl ?_
  refine x_fprF (μ := mu_x26_init) (pc := 34) fX26_5 q2551 rfl rfl (by first | exact Or.inl ⟨_, rfl⟩ | exact Or.inr ⟨_, rfl⟩) dX26_init_34 (gT_R e12 (gT_I e10 (gT_I e7 (gT_I e5 (gT_I e3 hT1))))) (fun _ q => gE_wR q) ?_
  refine x_let (fun s13 e14 => ?_)
  exact x_vret (μ := mu_x26_init) (pc := 37) (a1 := s13) dX26_init_37 rfl rfl (gRel_E.1 _) trivial
def x3_sheetOf (v0 : Nat) (v1 : Int) (σ : gMem) : Option Nat := if v1 ≠ (-1) then if mT σ v0 = 3 then if mT σ (mR σ v0 0) = 104 then if 0 ≤ v1 ∧ v1 < (mN σ (mR σ v0 0) : Int) then if mT σ (mR σ (mR σ v0 0) v1.toNat) = 9 then some (mR σ (mR σ (mR σ v0 0) v1.toNat) 0) else none else none else none else none else if mT σ v0 = 3 then some (mR σ v0 6) else none
set_option maxRecDepth 100000 in
theorem ok_x3_sheetOf {ω : gW} {l : Launch} {d : Nat} {σ : gMem} {v0 : Nat} {v1 : Int} (hl : l.stackTraces = false) (hdp : 0 ≤ d) (hv1 : g32 v1) : gK (fun x : Nat => (.inl (some (vR x)), σ)) gE ω l d mu_x3_sheetOf [vR v0, vI v1] σ (x3_sheetOf v0 v1 σ) := by
  refine gK.of hp_X3 (Nat.le_of_ble_eq_true rfl) ?_
  unfold x3_sheetOf
  refine x_iload_n (μ := mu_x3_sheetOf) (pc := 0) 1 dX3_sheetOf_0 rfl ?_
  refine x_iconst (μ := mu_x3_sheetOf) (pc := 1) dX3_sheetOf_1 ?_
  refine x_icmp_ne (μ := mu_x3_sheetOf) (pc := 2) (tgt := 12) dX3_sheetOf_2 rfl hv1 (by decide) ?_ ?_
  · refine x_aload_n (μ := mu_x3_sheetOf) (pc := 12) 0 dX3_sheetOf_12 rfl ?_
    refine x_if (fun hT1 => ?_)
    refine x_fgr (μ := mu_x3_sheetOf) (pc := 13) fX3_0 (by first | exact Or.inl ⟨_, rfl⟩ | exact Or.inr ⟨_, rfl⟩) q395 dX3_sheetOf_13 hT1 ?_
    refine x_iload_n (μ := mu_x3_sheetOf) (pc := 16) 1 dX3_sheetOf_16 rfl ?_
    refine x_if (fun hT2 => ?_)
    refine x_aald (μ := mu_x3_sheetOf) (pc := 17) 4 (fun _ => rfl) rfl rfl dX3_sheetOf_17 hT2 rfl ?_
    refine x_if (fun hT3 => ?_)
    refine x_fgrN (μ := mu_x3_sheetOf) (pc := 18) fX10_0 (by first | exact Or.inl ⟨_, rfl⟩ | exact Or.inr ⟨_, rfl⟩) q599 dX3_sheetOf_18 hT3 ?_
    exact x_aret (μ := mu_x3_sheetOf) (pc := 21) dX3_sheetOf_21 rfl (by first | exact Or.inl ⟨_, rfl⟩ | exact Or.inr ⟨_, rfl⟩) rfl (gRel_E.1 _) trivial
  · refine x_aload_n (μ := mu_x3_sheetOf) (pc := 5) 0 dX3_sheetOf_5 rfl ?_
    refine x_if (fun hT4 => ?_)
    refine x_fgr (μ := mu_x3_sheetOf) (pc := 6) fX3_6 (by first | exact Or.inl ⟨_, rfl⟩ | exact Or.inr ⟨_, rfl⟩) q404 dX3_sheetOf_6 hT4 ?_
    refine x_goto (μ := mu_x3_sheetOf) (pc := 9) (tgt := 21) dX3_sheetOf_9 rfl ?_
    exact x_aret (μ := mu_x3_sheetOf) (pc := 21) dX3_sheetOf_21 rfl (by first | exact Or.inl ⟨_, rfl⟩ | exact Or.inr ⟨_, rfl⟩) rfl (gRel_E.1 _) trivial
def x3_valuesOf (v0 : Nat) (v1 : Int) (σ : gMem) : Option Nat := if v1 ≠ (-1) then if mT σ v0 = 3 then if mT σ (mR σ v0 0) = 104 then if 0 ≤ v1 ∧ v1 < (mN σ (mR σ v0 0) : Int) then if mT σ (mR σ (mR σ v0 0) v1.toNat) = 9 then some (mR σ (mR σ (mR σ v0 0) v1.toNat) 1) else none else none else none else none else if mT σ v0 = 3 then some (mR σ v0 7) else none
set_option maxRecDepth 100000 in
theorem ok_x3_valuesOf {ω : gW} {l : Launch} {d : Nat} {σ : gMem} {v0 : Nat} {v1 : Int} (hl : l.stackTraces = false) (hdp : 0 ≤ d) (hv1 : g32 v1) : gK (fun x : Nat => (.inl (some (vR x)), σ)) gE ω l d mu_x3_valuesOf [vR v0, vI v1] σ (x3_valuesOf v0 v1 σ) := by
  refine gK.of hp_X3 (Nat.le_of_ble_eq_true rfl) ?_
  unfold x3_valuesOf
  refine x_iload_n (μ := mu_x3_valuesOf) (pc := 0) 1 dX3_valuesOf_0 rfl ?_
  refine x_iconst (μ := mu_x3_valuesOf) (pc := 1) dX3_valuesOf_1 ?_
  refine x_icmp_ne (μ := mu_x3_valuesOf) (pc := 2) (tgt := 12) dX3_valuesOf_2 rfl hv1 (by decide) ?_ ?_
  · refine x_aload_n (μ := mu_x3_valuesOf) (pc := 12) 0 dX3_valuesOf_12 rfl ?_
    refine x_if (fun hT1 => ?_)
    refine x_fgr (μ := mu_x3_valuesOf) (pc := 13) fX3_0 (by first | exact Or.inl ⟨_, rfl⟩ | exact Or.inr ⟨_, rfl⟩) q395 dX3_valuesOf_13 hT1 ?_
    refine x_iload_n (μ := mu_x3_valuesOf) (pc := 16) 1 dX3_valuesOf_16 rfl ?_
    refine x_if (fun hT2 => ?_)
    refine x_aald (μ := mu_x3_valuesOf) (pc := 17) 4 (fun _ => rfl) rfl rfl dX3_valuesOf_17 hT2 rfl ?_
    refine x_if (fun hT3 => ?_)
    refine x_fgrN (μ := mu_x3_valuesOf) (pc := 18) fX10_1 (by first | exact Or.inl ⟨_, rfl⟩ | exact Or.inr ⟨_, rfl⟩) q604 dX3_valuesOf_18 hT3 ?_
    exact x_aret (μ := mu_x3_valuesOf) (pc := 21) dX3_valuesOf_21 rfl (by first | exact Or.inl ⟨_, rfl⟩ | exact Or.inr ⟨_, rfl⟩) rfl (gRel_E.1 _) trivial
  · refine x_aload_n (μ := mu_x3_valuesOf) (pc := 5) 0 dX3_valuesOf_5 rfl ?_
    refine x_if (fun hT4 => ?_)
    refine x_fgr (μ := mu_x3_valuesOf) (pc := 6) fX3_7 (by first | exact Or.inl ⟨_, rfl⟩ | exact Or.inr ⟨_, rfl⟩) q405 dX3_valuesOf_6 hT4 ?_
    refine x_goto (μ := mu_x3_valuesOf) (pc := 9) (tgt := 21) dX3_valuesOf_9 rfl ?_
    exact x_aret (μ := mu_x3_valuesOf) (pc := 21) dX3_valuesOf_21 rfl (by first | exact Or.inl ⟨_, rfl⟩ | exact Or.inr ⟨_, rfl⟩) rfl (gRel_E.1 _) trivial
def x3_give (v0 : Nat) (σ : gMem) : Option gMem := if mT σ v0 = 3 then gLet (wI σ v0 3 (w32 ((mI σ v0 3) - 1))) (fun s3 => some s3) else none
set_option maxRecDepth 100000 in
theorem ok_x3_give {ω : gW} {l : Launch} {d : Nat} {σ : gMem} {v0 : Nat} (hl : l.stackTraces = false) (hdp : 0 ≤ d) : gK (fun p : gMem => (.inl none, p)) gE ω l d mu_x3_give [vR v0] σ (x3_give v0 σ) := by
  refine gK.of hp_X3 (Nat.le_of_ble_eq_true rfl) ?_
  unfold x3_give
  refine x_aload_n (μ := mu_x3_give) (pc := 0) 0 dX3_give_0 rfl ?_
  refine x_dup (μ := mu_x3_give) (pc := 1) dX3_give_1 rfl ?_
  refine x_if (fun hT1 => ?_)
  refine x_fgi (μ := mu_x3_give) (pc := 2) fX3_3 q399 dX3_give_2 hT1 (fun hr2 => ?_)
  refine x_iconst (μ := mu_x3_give) (pc := 5) dX3_give_5 ?_
  refine x_isub (μ := mu_x3_give) (pc := 6) dX3_give_6 ?_
  refine x_w1 ?_
  refine x_fpi (μ := mu_x3_give) (pc := 7) fX3_3 q399 dX3_give_7 hT1 (fun _ q => gE_wI q) ?_
  refine x_let (fun s3 e4 => ?_)
  exact x_vret (μ := mu_x3_give) (pc := 10) (a1 := s3) dX3_give_10 rfl rfl (gRel_E.1 _) trivial
def x3_next (v0 : Nat) (σ : gMem) : Option (Int × gMem) := if mT σ v0 = 3 then if mI σ v0 13 ≤ mI σ v0 11 then if mT σ (mR σ v0 8) = 2 then (x2_give (mR σ v0 8) (w32 ((10 * (mI σ v0 13)) + (mI σ v0 14))) (mR σ v0 4) σ).bind (fun x7 => gLet (wI x7 v0 14 (w32 ((mI x7 v0 14) + 1))) (fun s10 => if mI s10 v0 14 ≤ mI s10 v0 12 then some (1, s10) else gLet (wI s10 v0 14 (mI s10 v0 10)) (fun s15 => gLet (wI s15 v0 13 (w32 ((mI s15 v0 13) + 1))) (fun s18 => some (1, s18))))) else none else some (0, σ) else none
set_option maxRecDepth 100000 in
theorem ok_x3_next {ω : gW} {l : Launch} {d : Nat} {σ : gMem} {v0 : Nat} (hl : l.stackTraces = false) (hdp : 2 ≤ d) : gK (fun p : Int × gMem => (.inl (some (vI p.1)), p.2)) gE ω l d mu_x3_next [vR v0] σ (x3_next v0 σ) := by
  refine gK.of hp_X3 (Nat.le_of_ble_eq_true rfl) ?_
  unfold x3_next
  refine x_aload_n (μ := mu_x3_next) (pc := 0) 0 dX3_next_0 rfl ?_
  refine x_if (fun hT1 => ?_)
  refine x_fgi (μ := mu_x3_next) (pc := 1) fX3_13 q411 dX3_next_1 hT1 (fun hr2 => ?_)
  refine x_aload_n (μ := mu_x3_next) (pc := 4) 0 dX3_next_4 rfl ?_
  refine x_fgi (μ := mu_x3_next) (pc := 5) fX3_11 q409 dX3_next_5 hT1 (fun hr3 => ?_)
  refine x_icmp_le (μ := mu_x3_next) (pc := 8) (tgt := 13) dX3_next_8 rfl hr2 hr3 ?_ ?_
  · refine x_aload_n (μ := mu_x3_next) (pc := 13) 0 dX3_next_13 rfl ?_
    refine x_fgr (μ := mu_x3_next) (pc := 14) fX3_8 (by first | exact Or.inl ⟨_, rfl⟩ | exact Or.inr ⟨_, rfl⟩) q406 dX3_next_14 hT1 ?_
    refine x_bipush (μ := mu_x3_next) (pc := 17) dX3_next_17 (by decide) ?_
    refine x_aload_n (μ := mu_x3_next) (pc := 19) 0 dX3_next_19 rfl ?_
    refine x_fgi (μ := mu_x3_next) (pc := 20) fX3_13 q411 dX3_next_20 hT1 (fun hr4 => ?_)
    refine x_imul (μ := mu_x3_next) (pc := 23) dX3_next_23 ?_
    refine x_aload_n (μ := mu_x3_next) (pc := 24) 0 dX3_next_24 rfl ?_
    refine x_fgi (μ := mu_x3_next) (pc := 25) fX3_14 q412 dX3_next_25 hT1 (fun hr5 => ?_)
    refine x_iadd (μ := mu_x3_next) (pc := 28) dX3_next_28 ?_
    refine x_aload_n (μ := mu_x3_next) (pc := 29) 0 dX3_next_29 rfl ?_
    refine x_fgr (μ := mu_x3_next) (pc := 30) fX3_4 (by first | exact Or.inl ⟨_, rfl⟩ | exact Or.inr ⟨_, rfl⟩) q401 dX3_next_30 hT1 ?_
    refine x_w2 ?_
    refine x_if (fun hT6 => ?_)
    refine x_callV_mv (μ := mu_x3_next) (pc := 33) (ok_x2_give (ω := ω) (l := l) (d := d - 1) hl (by omega) (w32_rng _)) gRel_E gRel_E (fun _ q => q) q1234 q1024 q1025 q222 q1026 dX3_next_33 rfl hT6 hy_x2_give (by omega) (Nat.le_of_ble_eq_true rfl) rfl (Nat.le_of_ble_eq_true rfl) (fun x7 k8 => ?_)
    refine x_aload_n (μ := mu_x3_next) (pc := 36) 0 dX3_next_36 rfl ?_
    refine x_dup (μ := mu_x3_next) (pc := 37) dX3_next_37 rfl ?_
    refine x_fgi (μ := mu_x3_next) (pc := 38) fX3_14 q412 dX3_next_38 (gT_E k8 hT1 (by decide)) (fun hr9 => ?_)
    refine x_iconst (μ := mu_x3_next) (pc := 41) dX3_next_41 ?_
    refine x_iadd (μ := mu_x3_next) (pc := 42) dX3_next_42 ?_
    refine x_w1 ?_
    refine x_fpi (μ := mu_x3_next) (pc := 43) fX3_14 q412 dX3_next_43 (gT_E k8 hT1 (by decide)) (fun _ q => gE_wI q) ?_
    refine x_let (fun s10 e11 => ?_)
    refine x_aload_n (μ := mu_x3_next) (pc := 46) 0 dX3_next_46 rfl ?_
    refine x_fgi (μ := mu_x3_next) (pc := 47) fX3_14 q412 dX3_next_47 (gT_I e11 (gT_E k8 hT1 (by decide))) (fun hr12 => ?_)
    refine x_aload_n (μ := mu_x3_next) (pc := 50) 0 dX3_next_50 rfl ?_
    refine x_fgi (μ := mu_x3_next) (pc := 51) fX3_12 q410 dX3_next_51 (gT_I e11 (gT_E k8 hT1 (by decide))) (fun hr13 => ?_)
    refine x_icmp_le (μ := mu_x3_next) (pc := 54) (tgt := 75) dX3_next_54 rfl hr12 hr13 ?_ ?_
    · refine x_iconst (μ := mu_x3_next) (pc := 75) dX3_next_75 ?_
      exact x_zret (μ := mu_x3_next) (pc := 76) dX3_next_76 rfl (by decide) rfl (gRel_E.1 _) (show g32 1 from (by decide))
    · refine x_aload_n (μ := mu_x3_next) (pc := 57) 0 dX3_next_57 rfl ?_
      refine x_aload_n (μ := mu_x3_next) (pc := 58) 0 dX3_next_58 rfl ?_
      refine x_fgi (μ := mu_x3_next) (pc := 59) fX3_10 q408 dX3_next_59 (gT_I e11 (gT_E k8 hT1 (by decide))) (fun hr14 => ?_)
      refine x_fpi (μ := mu_x3_next) (pc := 62) fX3_14 q412 dX3_next_62 (gT_I e11 (gT_E k8 hT1 (by decide))) (fun _ q => gE_wI q) ?_
      refine x_let (fun s15 e16 => ?_)
      refine x_aload_n (μ := mu_x3_next) (pc := 65) 0 dX3_next_65 rfl ?_
      refine x_dup (μ := mu_x3_next) (pc := 66) dX3_next_66 rfl ?_
      refine x_fgi (μ := mu_x3_next) (pc := 67) fX3_13 q411 dX3_next_67 (gT_I e16 (gT_I e11 (gT_E k8 hT1 (by decide)))) (fun hr17 => ?_)
      refine x_iconst (μ := mu_x3_next) (pc := 70) dX3_next_70 ?_
      refine x_iadd (μ := mu_x3_next) (pc := 71) dX3_next_71 ?_
      refine x_w1 ?_
      refine x_fpi (μ := mu_x3_next) (pc := 72) fX3_13 q411 dX3_next_72 (gT_I e16 (gT_I e11 (gT_E k8 hT1 (by decide)))) (fun _ q => gE_wI q) ?_
      refine x_let (fun s18 e19 => ?_)
      refine x_iconst (μ := mu_x3_next) (pc := 75) dX3_next_75 ?_
      exact x_zret (μ := mu_x3_next) (pc := 76) dX3_next_76 rfl (by decide) rfl (gRel_E.1 _) (show g32 1 from (by decide))
  · refine x_iconst (μ := mu_x3_next) (pc := 11) dX3_next_11 ?_
    exact x_zret (μ := mu_x3_next) (pc := 12) dX3_next_12 rfl (by decide) rfl (gRel_E.1 _) (show g32 0 from (by decide))
def x3_clear (v0 : Nat) (σ : gMem) : Option gMem := if mT σ v0 = 3 then gLet (wL σ v0 15 (((0 : Fin 2) : Nat) : Int)) (fun s2 => gLet (wI s2 v0 18 0) (fun s4 => some s4)) else none
set_option maxRecDepth 100000 in
theorem ok_x3_clear {ω : gW} {l : Launch} {d : Nat} {σ : gMem} {v0 : Nat} (hl : l.stackTraces = false) (hdp : 0 ≤ d) : gK (fun p : gMem => (.inl none, p)) gE ω l d mu_x3_clear [vR v0] σ (x3_clear v0 σ) := by
  refine gK.of hp_X3 (Nat.le_of_ble_eq_true rfl) ?_
  unfold x3_clear
  refine x_aload_n (μ := mu_x3_clear) (pc := 0) 0 dX3_clear_0 rfl ?_
  refine x_lconst (μ := mu_x3_clear) (pc := 1) dX3_clear_1 ?_
  refine x_if (fun hT1 => ?_)
  refine x_fpl (μ := mu_x3_clear) (pc := 2) fX3_15 q413 dX3_clear_2 hT1 (fun _ q => gE_wL q) ?_
  refine x_let (fun s2 e3 => ?_)
  refine x_aload_n (μ := mu_x3_clear) (pc := 5) 0 dX3_clear_5 rfl ?_
  refine x_iconst (μ := mu_x3_clear) (pc := 6) dX3_clear_6 ?_
  refine x_fpi (μ := mu_x3_clear) (pc := 7) fX3_18 q419 dX3_clear_7 (gT_L e3 hT1) (fun _ q => gE_wI q) ?_
  refine x_let (fun s4 e5 => ?_)
  exact x_vret (μ := mu_x3_clear) (pc := 10) (a1 := s4) dX3_clear_10 rfl rfl (gRel_E.1 _) trivial
def x3_tally_j53 (v0 : Nat) (t0 : Int) (t1 : Nat) (s : gMem) : Option gMem := if mT s t1 = 3 then gLet (wL s t1 17 t0) (fun s14 => if mT s14 v0 = 3 then gLet (wI s14 v0 18 (w32 ((mI s14 v0 18) + 1))) (fun s18 => some s18) else none) else none
set_option maxRecDepth 100000 in
theorem okj_x3_tally_j53 {ω : gW} {l : Launch} {d : Nat} {σ0 : gMem} {s : gMem} {v0 : Nat} {t0 : Int} {t1 : Nat} (hl : l.stackTraces = false) (hdp : 1 ≤ d) (ht0 : g64 t0) : GG (fun p : gMem => (.inl none, p)) gE ω l d mu_x3_tally σ0 53 [(0, vR v0)] [vL t0, vR t1] s (x3_tally_j53 v0 t0 t1 s) := by
  unfold x3_tally_j53
  refine x_if (fun hT13 => ?_)
  refine x_fpl (μ := mu_x3_tally) (pc := 53) fX3_17 q417 dX3_tally_53 hT13 (fun _ q => gE_wL q) ?_
  refine x_let (fun s14 e15 => ?_)
  refine x_aload_n (μ := mu_x3_tally) (pc := 56) 0 dX3_tally_56 rfl ?_
  refine x_dup (μ := mu_x3_tally) (pc := 57) dX3_tally_57 rfl ?_
  refine x_if (fun hT16 => ?_)
  refine x_fgi (μ := mu_x3_tally) (pc := 58) fX3_18 q419 dX3_tally_58 hT16 (fun hr17 => ?_)
  refine x_iconst (μ := mu_x3_tally) (pc := 61) dX3_tally_61 ?_
  refine x_iadd (μ := mu_x3_tally) (pc := 62) dX3_tally_62 ?_
  refine x_w1 ?_
  refine x_fpi (μ := mu_x3_tally) (pc := 63) fX3_18 q419 dX3_tally_63 hT16 (fun _ q => gE_wI q) ?_
  refine x_let (fun s18 e19 => ?_)
  exact x_vret (μ := mu_x3_tally) (pc := 66) (a1 := s18) dX3_tally_66 rfl rfl (gRel_E.1 _) trivial
def x3_tally_j30 (v0 : Nat) (v1 : Int) (t0 : Int) (t1 : Nat) (s : gMem) : Option gMem := if mT s t1 = 3 then gLet (wL s t1 16 t0) (fun s8 => if mT s8 v0 = 3 then if mI s8 v0 18 ≠ 0 then x3_tally_j53 v0 (w64 (if v1 < (mL s8 v0 17) then (mL s8 v0 17) else v1)) v0 s8 else x3_tally_j53 v0 v1 v0 s8 else none) else none
set_option maxRecDepth 100000 in
theorem okj_x3_tally_j30 {ω : gW} {l : Launch} {d : Nat} {σ0 : gMem} {s : gMem} {v0 : Nat} {v1 : Int} {t0 : Int} {t1 : Nat} (hl : l.stackTraces = false) (hdp : 1 ≤ d) (hv1 : g64 v1) (ht0 : g64 t0) : GG (fun p : gMem => (.inl none, p)) gE ω l d mu_x3_tally σ0 30 [(0, vR v0), (1, vL v1)] [vL t0, vR t1] s (x3_tally_j30 v0 v1 t0 t1 s) := by
  unfold x3_tally_j30
  refine x_if (fun hT7 => ?_)
  refine x_fpl (μ := mu_x3_tally) (pc := 30) fX3_16 q415 dX3_tally_30 hT7 (fun _ q => gE_wL q) ?_
  refine x_let (fun s8 e9 => ?_)
  refine x_aload_n (μ := mu_x3_tally) (pc := 33) 0 dX3_tally_33 rfl ?_
  refine x_aload_n (μ := mu_x3_tally) (pc := 34) 0 dX3_tally_34 rfl ?_
  refine x_if (fun hT10 => ?_)
  refine x_fgi (μ := mu_x3_tally) (pc := 35) fX3_18 q419 dX3_tally_35 hT10 (fun hr11 => ?_)
  refine x_if_ne (μ := mu_x3_tally) (pc := 38) (tgt := 45) dX3_tally_38 rfl hr11 ?_ ?_
  · refine x_aload_n (μ := mu_x3_tally) (pc := 45) 0 dX3_tally_45 rfl ?_
    refine x_fgl (μ := mu_x3_tally) (pc := 46) fX3_17 q417 dX3_tally_46 hT10 (fun hr12 => ?_)
    refine x_lload_n (μ := mu_x3_tally) (pc := 49) 1 dX3_tally_49 rfl ?_
    refine x_mmax_long (μ := mu_x3_tally) (pc := 50) q1253 dX3_tally_50 hr12 hv1 (by omega) (Nat.le_of_ble_eq_true rfl) ?_
    refine x_W1 ?_
    refine x_loc (lv' := [(0, vR v0)]) [0] rfl ?_
    exact okj_x3_tally_j53 hl hdp (w64_rng _)
  · refine x_lload_n (μ := mu_x3_tally) (pc := 41) 1 dX3_tally_41 rfl ?_
    refine x_goto (μ := mu_x3_tally) (pc := 42) (tgt := 53) dX3_tally_42 rfl ?_
    refine x_loc (lv' := [(0, vR v0)]) [0] rfl ?_
    exact okj_x3_tally_j53 hl hdp hv1
def x3_tally (v0 : Nat) (v1 : Int) (σ : gMem) : Option gMem := if mT σ v0 = 3 then gLet (wL σ v0 15 (w64 ((mL σ v0 15) + v1))) (fun s3 => if mI s3 v0 18 ≠ 0 then x3_tally_j30 v0 v1 (w64 (if v1 < (mL s3 v0 16) then v1 else (mL s3 v0 16))) v0 s3 else x3_tally_j30 v0 v1 v1 v0 s3) else none
set_option maxRecDepth 100000 in
theorem ok_x3_tally {ω : gW} {l : Launch} {d : Nat} {σ : gMem} {v0 : Nat} {v1 : Int} (hl : l.stackTraces = false) (hdp : 1 ≤ d) (hv1 : g64 v1) : gK (fun p : gMem => (.inl none, p)) gE ω l d mu_x3_tally [vR v0, vL v1] σ (x3_tally v0 v1 σ) := by
  refine gK.of hp_X3 (Nat.le_of_ble_eq_true rfl) ?_
  unfold x3_tally
  refine x_aload_n (μ := mu_x3_tally) (pc := 0) 0 dX3_tally_0 rfl ?_
  refine x_dup (μ := mu_x3_tally) (pc := 1) dX3_tally_1 rfl ?_
  refine x_if (fun hT1 => ?_)
  refine x_fgl (μ := mu_x3_tally) (pc := 2) fX3_15 q413 dX3_tally_2 hT1 (fun hr2 => ?_)
  refine x_lload_n (μ := mu_x3_tally) (pc := 5) 1 dX3_tally_5 rfl ?_
  refine x_ladd (μ := mu_x3_tally) (pc := 6) dX3_tally_6 ?_
  refine x_W1 ?_
  refine x_fpl (μ := mu_x3_tally) (pc := 7) fX3_15 q413 dX3_tally_7 hT1 (fun _ q => gE_wL q) ?_
  refine x_let (fun s3 e4 => ?_)
  refine x_aload_n (μ := mu_x3_tally) (pc := 10) 0 dX3_tally_10 rfl ?_
  refine x_aload_n (μ := mu_x3_tally) (pc := 11) 0 dX3_tally_11 rfl ?_
  refine x_fgi (μ := mu_x3_tally) (pc := 12) fX3_18 q419 dX3_tally_12 (gT_L e4 hT1) (fun hr5 => ?_)
  refine x_if_ne (μ := mu_x3_tally) (pc := 15) (tgt := 22) dX3_tally_15 rfl hr5 ?_ ?_
  · refine x_aload_n (μ := mu_x3_tally) (pc := 22) 0 dX3_tally_22 rfl ?_
    refine x_fgl (μ := mu_x3_tally) (pc := 23) fX3_16 q415 dX3_tally_23 (gT_L e4 hT1) (fun hr6 => ?_)
    refine x_lload_n (μ := mu_x3_tally) (pc := 26) 1 dX3_tally_26 rfl ?_
    refine x_mmin_long (μ := mu_x3_tally) (pc := 27) q1250 dX3_tally_27 hr6 hv1 (by omega) (Nat.le_of_ble_eq_true rfl) ?_
    refine x_W1 ?_
    exact okj_x3_tally_j30 hl hdp hv1 (w64_rng _)
  · refine x_lload_n (μ := mu_x3_tally) (pc := 18) 1 dX3_tally_18 rfl ?_
    refine x_goto (μ := mu_x3_tally) (pc := 19) (tgt := 30) dX3_tally_19 rfl ?_
    exact okj_x3_tally_j30 hl hdp hv1 hv1
def x3_size (v0 : Nat) (σ : gMem) : Option Int := if mT σ v0 = 3 then some (w32 ((((mI σ v0 11) - (mI σ v0 9)) + 1) * (((mI σ v0 12) - (mI σ v0 10)) + 1))) else none
set_option maxRecDepth 100000 in
theorem ok_x3_size {ω : gW} {l : Launch} {d : Nat} {σ : gMem} {v0 : Nat} (hl : l.stackTraces = false) (hdp : 0 ≤ d) : gK (fun x : Int => (.inl (some (vI x)), σ)) gE ω l d mu_x3_size [vR v0] σ (x3_size v0 σ) := by
  refine gK.of hp_X3 (Nat.le_of_ble_eq_true rfl) ?_
  unfold x3_size
  refine x_aload_n (μ := mu_x3_size) (pc := 0) 0 dX3_size_0 rfl ?_
  refine x_if (fun hT1 => ?_)
  refine x_fgi (μ := mu_x3_size) (pc := 1) fX3_11 q409 dX3_size_1 hT1 (fun hr2 => ?_)
  refine x_aload_n (μ := mu_x3_size) (pc := 4) 0 dX3_size_4 rfl ?_
  refine x_fgi (μ := mu_x3_size) (pc := 5) fX3_9 q407 dX3_size_5 hT1 (fun hr3 => ?_)
  refine x_isub (μ := mu_x3_size) (pc := 8) dX3_size_8 ?_
  refine x_iconst (μ := mu_x3_size) (pc := 9) dX3_size_9 ?_
  refine x_iadd (μ := mu_x3_size) (pc := 10) dX3_size_10 ?_
  refine x_aload_n (μ := mu_x3_size) (pc := 11) 0 dX3_size_11 rfl ?_
  refine x_fgi (μ := mu_x3_size) (pc := 12) fX3_12 q410 dX3_size_12 hT1 (fun hr4 => ?_)
  refine x_aload_n (μ := mu_x3_size) (pc := 15) 0 dX3_size_15 rfl ?_
  refine x_fgi (μ := mu_x3_size) (pc := 16) fX3_10 q408 dX3_size_16 hT1 (fun hr5 => ?_)
  refine x_isub (μ := mu_x3_size) (pc := 19) dX3_size_19 ?_
  refine x_iconst (μ := mu_x3_size) (pc := 20) dX3_size_20 ?_
  refine x_iadd (μ := mu_x3_size) (pc := 21) dX3_size_21 ?_
  refine x_imul (μ := mu_x3_size) (pc := 22) dX3_size_22 ?_
  refine x_w1 ?_
  exact x_iret (μ := mu_x3_size) (pc := 23) dX3_size_23 rfl rfl (gRel_E.1 _) (show g32 (w32 ((((mI σ v0 11) - (mI σ v0 9)) + 1) * (((mI σ v0 12) - (mI σ v0 10)) + 1))) from (w32_rng _))
def x4_init (v0 : Nat) (σ : gMem) : Option gMem := if mT σ v0 = 4 then if 0 ≤ (1600 : Int) ∧ (1600 : Int) < 1000000 then gLet (wN σ 101 (1600 : Int).toNat) (fun s4 => gLet (wR s4 v0 0 (mZ σ)) (fun s6 => if 0 ≤ (320 : Int) ∧ (320 : Int) < 1000000 then gLet (wN s6 100 (320 : Int).toNat) (fun s10 => gLet (wR s10 v0 1 (mZ s6)) (fun s12 => if 0 ≤ (320 : Int) ∧ (320 : Int) < 1000000 then gLet (wN s12 100 (320 : Int).toNat) (fun s16 => gLet (wR s16 v0 2 (mZ s12)) (fun s18 => if 0 ≤ (320 : Int) ∧ (320 : Int) < 1000000 then gLet (wN s18 100 (320 : Int).toNat) (fun s22 => gLet (wR s22 v0 3 (mZ s18)) (fun s24 => if 0 ≤ (320 : Int) ∧ (320 : Int) < 1000000 then gLet (wN s24 100 (320 : Int).toNat) (fun s28 => gLet (wR s28 v0 4 (mZ s24)) (fun s30 => if 0 ≤ (320 : Int) ∧ (320 : Int) < 1000000 then gLet (wN s30 100 (320 : Int).toNat) (fun s34 => gLet (wR s34 v0 5 (mZ s30)) (fun s36 => if 0 ≤ (320 : Int) ∧ (320 : Int) < 1000000 then gLet (wN s36 100 (320 : Int).toNat) (fun s40 => gLet (wR s40 v0 6 (mZ s36)) (fun s42 => if 0 ≤ (320 : Int) ∧ (320 : Int) < 1000000 then gLet (wN s42 103 (320 : Int).toNat) (fun s46 => gLet (wR s46 v0 7 (mZ s42)) (fun s48 => if 0 ≤ (320 : Int) ∧ (320 : Int) < 1000000 then gLet (wN s48 103 (320 : Int).toNat) (fun s52 => gLet (wR s52 v0 8 (mZ s48)) (fun s54 => some s54)) else none)) else none)) else none)) else none)) else none)) else none)) else none)) else none)) else none else none
set_option maxRecDepth 100000 in
theorem ok_x4_init {ω : gW} {l : Launch} {d : Nat} {σ : gMem} {v0 : Nat} (hl : l.stackTraces = false) (hdp : 1 ≤ d) : gK (fun p : gMem => (.inl none, p)) gE ω l d mu_x4_init [vR v0] σ (x4_init v0 σ) := by
  refine gK.of hp_X4 (Nat.le_of_ble_eq_true rfl) ?_
  unfold x4_init
  refine x_aload_n (μ := mu_x4_init) (pc := 0) 0 dX4_init_0 rfl ?_
  refine x_if (fun hT1 => ?_)
  refine x_objI (μ := mu_x4_init) (pc := 1) (ci := 3) rfl q319 dX4_init_1 hT1 (by omega) (Nat.le_of_ble_eq_true rfl) ?_
  refine x_aload_n (μ := mu_x4_init) (pc := 4) 0 dX4_init_4 rfl ?_
  refine x_sipush (μ := mu_x4_init) (pc := 5) dX4_init_5 (by decide) ?_
  refine x_if (fun hg2 => ?_)
  refine x_ok (fun ok3 => ?_)
  refine x_newal (μ := mu_x4_init) (pc := 8) dX4_init_8 hg2 ?_
  refine x_let (fun s4 e5 => ?_)
  refine x_fprF (μ := mu_x4_init) (pc := 10) fX4_0 q320 rfl rfl (by first | exact Or.inl ⟨_, rfl⟩ | exact Or.inr ⟨_, rfl⟩) dX4_init_10 (gT_N e5 ok3 hT1 (by decide)) (fun _ q => gE_wR q) ?_
  refine x_let (fun s6 e7 => ?_)
  refine x_aload_n (μ := mu_x4_init) (pc := 13) 0 dX4_init_13 rfl ?_
  refine x_sipush (μ := mu_x4_init) (pc := 14) dX4_init_14 (by decide) ?_
  refine x_if (fun hg8 => ?_)
  refine x_ok (fun ok9 => ?_)
  refine x_newai (μ := mu_x4_init) (pc := 17) dX4_init_17 hg8 ?_
  refine x_let (fun s10 e11 => ?_)
  refine x_fprF (μ := mu_x4_init) (pc := 19) fX4_1 q321 rfl rfl (by first | exact Or.inl ⟨_, rfl⟩ | exact Or.inr ⟨_, rfl⟩) dX4_init_19 (gT_N e11 ok9 (gT_R e7 (gT_N e5 ok3 hT1 (by decide))) (by decide)) (fun _ q => gE_wR q) ?_
  refine x_let (fun s12 e13 => ?_)
  refine x_aload_n (μ := mu_x4_init) (pc := 22) 0 dX4_init_22 rfl ?_
  refine x_sipush (μ := mu_x4_init) (pc := 23) dX4_init_23 (by decide) ?_
  refine x_if (fun hg14 => ?_)
  refine x_ok (fun ok15 => ?_)
  refine x_newai (μ := mu_x4_init) (pc := 26) dX4_init_26 hg14 ?_
  refine x_let (fun s16 e17 => ?_)
  refine x_fprF (μ := mu_x4_init) (pc := 28) fX4_2 q323 rfl rfl (by first | exact Or.inl ⟨_, rfl⟩ | exact Or.inr ⟨_, rfl⟩) dX4_init_28 (gT_N e17 ok15 (gT_R e13 (gT_N e11 ok9 (gT_R e7 (gT_N e5 ok3 hT1 (by decide))) (by decide))) (by decide)) (fun _ q => gE_wR q) ?_
  refine x_let (fun s18 e19 => ?_)
  refine x_aload_n (μ := mu_x4_init) (pc := 31) 0 dX4_init_31 rfl ?_
  refine x_sipush (μ := mu_x4_init) (pc := 32) dX4_init_32 (by decide) ?_
  refine x_if (fun hg20 => ?_)
  refine x_ok (fun ok21 => ?_)
  refine x_newai (μ := mu_x4_init) (pc := 35) dX4_init_35 hg20 ?_
  refine x_let (fun s22 e23 => ?_)
  refine x_fprF (μ := mu_x4_init) (pc := 37) fX4_3 q324 rfl rfl (by first | exact Or.inl ⟨_, rfl⟩ | exact Or.inr ⟨_, rfl⟩) dX4_init_37 (gT_N e23 ok21 (gT_R e19 (gT_N e17 ok15 (gT_R e13 (gT_N e11 ok9 (gT_R e7 (gT_N e5 ok3 hT1 (by decide))) (by decide))) (by decide))) (by decide)) (fun _ q => gE_wR q) ?_
  refine x_let (fun s24 e25 => ?_)
  refine x_aload_n (μ := mu_x4_init) (pc := 40) 0 dX4_init_40 rfl ?_
  refine x_sipush (μ := mu_x4_init) (pc := 41) dX4_init_41 (by decide) ?_
  refine x_if (fun hg26 => ?_)
  refine x_ok (fun ok27 => ?_)
  refine x_newai (μ := mu_x4_init) (pc := 44) dX4_init_44 hg26 ?_
  refine x_let (fun s28 e29 => ?_)
  refine x_fprF (μ := mu_x4_init) (pc := 46) fX4_4 q325 rfl rfl (by first | exact Or.inl ⟨_, rfl⟩ | exact Or.inr ⟨_, rfl⟩) dX4_init_46 (gT_N e29 ok27 (gT_R e25 (gT_N e23 ok21 (gT_R e19 (gT_N e17 ok15 (gT_R e13 (gT_N e11 ok9 (gT_R e7 (gT_N e5 ok3 hT1 (by decide))) (by decide))) (by decide))) (by decide))) (by decide)) (fun _ q => gE_wR q) ?_
  refine x_let (fun s30 e31 => ?_)
  refine x_aload_n (μ := mu_x4_init) (pc := 49) 0 dX4_init_49 rfl ?_
  refine x_sipush (μ := mu_x4_init) (pc := 50) dX4_init_50 (by decide) ?_
  refine x_if (fun hg32 => ?_)
  refine x_ok (fun ok33 => ?_)
  refine x_newai (μ := mu_x4_init) (pc := 53) dX4_init_53 hg32 ?_
  refine x_let (fun s34 e35 => ?_)
  refine x_fprF (μ := mu_x4_init) (pc := 55) fX4_5 q326 rfl rfl (by first | exact Or.inl ⟨_, rfl⟩ | exact Or.inr ⟨_, rfl⟩) dX4_init_55 (gT_N e35 ok33 (gT_R e31 (gT_N e29 ok27 (gT_R e25 (gT_N e23 ok21 (gT_R e19 (gT_N e17 ok15 (gT_R e13 (gT_N e11 ok9 (gT_R e7 (gT_N e5 ok3 hT1 (by decide))) (by decide))) (by decide))) (by decide))) (by decide))) (by decide)) (fun _ q => gE_wR q) ?_
  refine x_let (fun s36 e37 => ?_)
  refine x_aload_n (μ := mu_x4_init) (pc := 58) 0 dX4_init_58 rfl ?_
  refine x_sipush (μ := mu_x4_init) (pc := 59) dX4_init_59 (by decide) ?_
  refine x_if (fun hg38 => ?_)
  refine x_ok (fun ok39 => ?_)
  refine x_newai (μ := mu_x4_init) (pc := 62) dX4_init_62 hg38 ?_
  refine x_let (fun s40 e41 => ?_)
  refine x_fprF (μ := mu_x4_init) (pc := 64) fX4_6 q327 rfl rfl (by first | exact Or.inl ⟨_, rfl⟩ | exact Or.inr ⟨_, rfl⟩) dX4_init_64 (gT_N e41 ok39 (gT_R e37 (gT_N e35 ok33 (gT_R e31 (gT_N e29 ok27 (gT_R e25 (gT_N e23 ok21 (gT_R e19 (gT_N e17 ok15 (gT_R e13 (gT_N e11 ok9 (gT_R e7 (gT_N e5 ok3 hT1 (by decide))) (by decide))) (by decide))) (by decide))) (by decide))) (by decide))) (by decide)) (fun _ q => gE_wR q) ?_
  refine x_let (fun s42 e43 => ?_)
  refine x_aload_n (μ := mu_x4_init) (pc := 67) 0 dX4_init_67 rfl ?_
  refine x_sipush (μ := mu_x4_init) (pc := 68) dX4_init_68 (by decide) ?_
  refine x_if (fun hg44 => ?_)
  refine x_ok (fun ok45 => ?_)
  refine x_newaz (μ := mu_x4_init) (pc := 71) dX4_init_71 hg44 ?_
  refine x_let (fun s46 e47 => ?_)
  refine x_fprF (μ := mu_x4_init) (pc := 73) fX4_7 q328 rfl rfl (by first | exact Or.inl ⟨_, rfl⟩ | exact Or.inr ⟨_, rfl⟩) dX4_init_73 (gT_N e47 ok45 (gT_R e43 (gT_N e41 ok39 (gT_R e37 (gT_N e35 ok33 (gT_R e31 (gT_N e29 ok27 (gT_R e25 (gT_N e23 ok21 (gT_R e19 (gT_N e17 ok15 (gT_R e13 (gT_N e11 ok9 (gT_R e7 (gT_N e5 ok3 hT1 (by decide))) (by decide))) (by decide))) (by decide))) (by decide))) (by decide))) (by decide))) (by decide)) (fun _ q => gE_wR q) ?_
  refine x_let (fun s48 e49 => ?_)
  refine x_aload_n (μ := mu_x4_init) (pc := 76) 0 dX4_init_76 rfl ?_
  refine x_sipush (μ := mu_x4_init) (pc := 77) dX4_init_77 (by decide) ?_
  refine x_if (fun hg50 => ?_)
  refine x_ok (fun ok51 => ?_)
  refine x_newaz (μ := mu_x4_init) (pc := 80) dX4_init_80 hg50 ?_
  refine x_let (fun s52 e53 => ?_)
  refine x_fprF (μ := mu_x4_init) (pc := 82) fX4_8 q329 rfl rfl (by first | exact Or.inl ⟨_, rfl⟩ | exact Or.inr ⟨_, rfl⟩) dX4_init_82 (gT_N e53 ok51 (gT_R e49 (gT_N e47 ok45 (gT_R e43 (gT_N e41 ok39 (gT_R e37 (gT_N e35 ok33 (gT_R e31 (gT_N e29 ok27 (gT_R e25 (gT_N e23 ok21 (gT_R e19 (gT_N e17 ok15 (gT_R e13 (gT_N e11 ok9 (gT_R e7 (gT_N e5 ok3 hT1 (by decide))) (by decide))) (by decide))) (by decide))) (by decide))) (by decide))) (by decide))) (by decide))) (by decide)) (fun _ q => gE_wR q) ?_
  refine x_let (fun s54 e55 => ?_)
  exact x_vret (μ := mu_x4_init) (pc := 85) (a1 := s54) dX4_init_85 rfl rfl (gRel_E.1 _) trivial
def x4_add (v0 : Nat) (v1 : Int) (v2 : Int) (σ : gMem) : Option gMem := if mT σ v0 = 4 then if mT σ (mR σ v0 0) = 101 then if 0 ≤ ((5 * (mI σ v0 9)) + (bShr (w32 ((10 * v1) + v2)) 6)) ∧ ((5 * (mI σ v0 9)) + (bShr (w32 ((10 * v1) + v2)) 6)) < (mN σ (mR σ v0 0) : Int) then if 0 ≤ ((5 * (mI σ v0 9)) + (bShr (w32 ((10 * v1) + v2)) 6)) ∧ ((5 * (mI σ v0 9)) + (bShr (w32 ((10 * v1) + v2)) 6)) < (mN σ (mR σ v0 0) : Int) then gLet (wL σ (mR σ v0 0) ((5 * (mI σ v0 9)) + (bShr (w32 ((10 * v1) + v2)) 6)).toNat (lOr (mL σ (mR σ v0 0) ((5 * (mI σ v0 9)) + (bShr (w32 ((10 * v1) + v2)) 6)).toNat) (lShl (((1 : Fin 2) : Nat) : Int) (w32 ((10 * v1) + v2))))) (fun s5 => some s5) else none else none else none else none
set_option maxRecDepth 100000 in
theorem ok_x4_add {ω : gW} {l : Launch} {d : Nat} {σ : gMem} {v0 : Nat} {v1 : Int} {v2 : Int} (hl : l.stackTraces = false) (hdp : 0 ≤ d) (hv1 : g32 v1) (hv2 : g32 v2) : gK (fun p : gMem => (.inl none, p)) gE ω l d mu_x4_add [vR v0, vI v1, vI v2] σ (x4_add v0 v1 v2 σ) := by
  refine gK.of hp_X4 (Nat.le_of_ble_eq_true rfl) ?_
  unfold x4_add
  refine x_bipush (μ := mu_x4_add) (pc := 0) dX4_add_0 (by decide) ?_
  refine x_iload_n (μ := mu_x4_add) (pc := 2) 1 dX4_add_2 rfl ?_
  refine x_imul (μ := mu_x4_add) (pc := 3) dX4_add_3 ?_
  refine x_iload_n (μ := mu_x4_add) (pc := 4) 2 dX4_add_4 rfl ?_
  refine x_iadd (μ := mu_x4_add) (pc := 5) dX4_add_5 ?_
  refine x_w1 ?_
  refine x_istore_n (μ := mu_x4_add) (pc := 6) (lv' := [(3, vI (w32 ((10 * v1) + v2))), (0, vR v0), (1, vI v1), (2, vI v2)]) dX4_add_6 rfl (by decide) rfl ?_
  refine x_aload_n (μ := mu_x4_add) (pc := 7) 1 dX4_add_7 rfl ?_
  refine x_if (fun hT1 => ?_)
  refine x_fgr (μ := mu_x4_add) (pc := 8) fX4_0 (by first | exact Or.inl ⟨_, rfl⟩ | exact Or.inr ⟨_, rfl⟩) q320 dX4_add_8 hT1 ?_
  refine x_iconst (μ := mu_x4_add) (pc := 11) dX4_add_11 ?_
  refine x_aload_n (μ := mu_x4_add) (pc := 12) 1 dX4_add_12 rfl ?_
  refine x_fgi (μ := mu_x4_add) (pc := 13) fX4_9 q331 dX4_add_13 hT1 (fun hr2 => ?_)
  refine x_imul (μ := mu_x4_add) (pc := 16) dX4_add_16 ?_
  refine x_iload_n (μ := mu_x4_add) (pc := 17) 0 dX4_add_17 rfl ?_
  refine x_bipush (μ := mu_x4_add) (pc := 18) dX4_add_18 (by decide) ?_
  refine x_ishr (μ := mu_x4_add) (pc := 20) dX4_add_20 ?_
  refine x_iadd (μ := mu_x4_add) (pc := 21) dX4_add_21 ?_
  refine x_dup2 (μ := mu_x4_add) (pc := 22) dX4_add_22 rfl rfl ?_
  refine x_if (fun hT3 => ?_)
  refine x_lald (μ := mu_x4_add) (pc := 23) dX4_add_23 hT3 rfl (fun hr4 => ?_)
  refine x_lconst (μ := mu_x4_add) (pc := 24) dX4_add_24 ?_
  refine x_iload_n (μ := mu_x4_add) (pc := 25) 0 dX4_add_25 rfl ?_
  refine x_lshl (μ := mu_x4_add) (pc := 26) dX4_add_26 ?_
  refine x_lor (μ := mu_x4_add) (pc := 27) dX4_add_27 ?_
  refine x_last (μ := mu_x4_add) (pc := 28) dX4_add_28 hT3 rfl (fun _ _ q => gE_wL q) ?_
  refine x_let (fun s5 e6 => ?_)
  exact x_vret (μ := mu_x4_add) (pc := 29) (a1 := s5) dX4_add_29 rfl rfl (gRel_E.1 _) trivial
def x4_meet (v0 : Nat) (v1 : Int) (σ : gMem) : Option gMem := if mT σ v0 = 4 then if mT σ (mR σ v0 2) = 100 then if 0 ≤ v1 ∧ v1 < (mN σ (mR σ v0 2) : Int) then gLet (wI σ (mR σ v0 2) v1.toNat (mI σ v0 11)) (fun s4 => if mT s4 (mR s4 v0 3) = 100 then if 0 ≤ v1 ∧ v1 < (mN s4 (mR s4 v0 3) : Int) then gLet (wI s4 (mR s4 v0 3) v1.toNat (mI s4 v0 11)) (fun s8 => gLet (wI s8 v0 11 (w32 ((mI s8 v0 11) + 1))) (fun s11 => if mT s11 (mR s11 v0 4) = 100 then if 0 ≤ v1 ∧ v1 < (mN s11 (mR s11 v0 4) : Int) then gLet (wI s11 (mR s11 v0 4) v1.toNat 0) (fun s14 => if mT s14 (mR s14 v0 6) = 100 then if 0 ≤ (mI s14 v0 12) ∧ (mI s14 v0 12) < (mN s14 (mR s14 v0 6) : Int) then gLet (wI s14 (mR s14 v0 6) (mI s14 v0 12).toNat v1) (fun s18 => gLet (wI s18 v0 12 (w32 ((mI s18 v0 12) + 1))) (fun s21 => if mT s21 (mR s21 v0 7) = 103 then if 0 ≤ v1 ∧ v1 < (mN s21 (mR s21 v0 7) : Int) then gLet (wI s21 (mR s21 v0 7) v1.toNat 1) (fun s24 => some s24) else none else none)) else none else none) else none else none)) else none else none) else none else none else none
set_option maxRecDepth 100000 in
theorem ok_x4_meet {ω : gW} {l : Launch} {d : Nat} {σ : gMem} {v0 : Nat} {v1 : Int} (hl : l.stackTraces = false) (hdp : 0 ≤ d) (hv1 : g32 v1) : gK (fun p : gMem => (.inl none, p)) gE ω l d mu_x4_meet [vR v0, vI v1] σ (x4_meet v0 v1 σ) := by
  refine gK.of hp_X4 (Nat.le_of_ble_eq_true rfl) ?_
  unfold x4_meet
  refine x_aload_n (μ := mu_x4_meet) (pc := 0) 0 dX4_meet_0 rfl ?_
  refine x_if (fun hT1 => ?_)
  refine x_fgr (μ := mu_x4_meet) (pc := 1) fX4_2 (by first | exact Or.inl ⟨_, rfl⟩ | exact Or.inr ⟨_, rfl⟩) q323 dX4_meet_1 hT1 ?_
  refine x_iload_n (μ := mu_x4_meet) (pc := 4) 1 dX4_meet_4 rfl ?_
  refine x_aload_n (μ := mu_x4_meet) (pc := 5) 0 dX4_meet_5 rfl ?_
  refine x_fgi (μ := mu_x4_meet) (pc := 6) fX4_11 q334 dX4_meet_6 hT1 (fun hr2 => ?_)
  refine x_if (fun hT3 => ?_)
  refine x_iast (μ := mu_x4_meet) (pc := 9) dX4_meet_9 hT3 rfl (fun _ _ q => gE_wI q) ?_
  refine x_let (fun s4 e5 => ?_)
  refine x_aload_n (μ := mu_x4_meet) (pc := 10) 0 dX4_meet_10 rfl ?_
  refine x_fgr (μ := mu_x4_meet) (pc := 11) fX4_3 (by first | exact Or.inl ⟨_, rfl⟩ | exact Or.inr ⟨_, rfl⟩) q324 dX4_meet_11 (gT_I e5 hT1) ?_
  refine x_iload_n (μ := mu_x4_meet) (pc := 14) 1 dX4_meet_14 rfl ?_
  refine x_aload_n (μ := mu_x4_meet) (pc := 15) 0 dX4_meet_15 rfl ?_
  refine x_fgi (μ := mu_x4_meet) (pc := 16) fX4_11 q334 dX4_meet_16 (gT_I e5 hT1) (fun hr6 => ?_)
  refine x_if (fun hT7 => ?_)
  refine x_iast (μ := mu_x4_meet) (pc := 19) dX4_meet_19 hT7 rfl (fun _ _ q => gE_wI q) ?_
  refine x_let (fun s8 e9 => ?_)
  refine x_aload_n (μ := mu_x4_meet) (pc := 20) 0 dX4_meet_20 rfl ?_
  refine x_dup (μ := mu_x4_meet) (pc := 21) dX4_meet_21 rfl ?_
  refine x_fgi (μ := mu_x4_meet) (pc := 22) fX4_11 q334 dX4_meet_22 (gT_I e9 (gT_I e5 hT1)) (fun hr10 => ?_)
  refine x_iconst (μ := mu_x4_meet) (pc := 25) dX4_meet_25 ?_
  refine x_iadd (μ := mu_x4_meet) (pc := 26) dX4_meet_26 ?_
  refine x_w1 ?_
  refine x_fpi (μ := mu_x4_meet) (pc := 27) fX4_11 q334 dX4_meet_27 (gT_I e9 (gT_I e5 hT1)) (fun _ q => gE_wI q) ?_
  refine x_let (fun s11 e12 => ?_)
  refine x_aload_n (μ := mu_x4_meet) (pc := 30) 0 dX4_meet_30 rfl ?_
  refine x_fgr (μ := mu_x4_meet) (pc := 31) fX4_4 (by first | exact Or.inl ⟨_, rfl⟩ | exact Or.inr ⟨_, rfl⟩) q325 dX4_meet_31 (gT_I e12 (gT_I e9 (gT_I e5 hT1))) ?_
  refine x_iload_n (μ := mu_x4_meet) (pc := 34) 1 dX4_meet_34 rfl ?_
  refine x_iconst (μ := mu_x4_meet) (pc := 35) dX4_meet_35 ?_
  refine x_if (fun hT13 => ?_)
  refine x_iast (μ := mu_x4_meet) (pc := 36) dX4_meet_36 hT13 rfl (fun _ _ q => gE_wI q) ?_
  refine x_let (fun s14 e15 => ?_)
  refine x_aload_n (μ := mu_x4_meet) (pc := 37) 0 dX4_meet_37 rfl ?_
  refine x_fgr (μ := mu_x4_meet) (pc := 38) fX4_6 (by first | exact Or.inl ⟨_, rfl⟩ | exact Or.inr ⟨_, rfl⟩) q327 dX4_meet_38 (gT_I e15 (gT_I e12 (gT_I e9 (gT_I e5 hT1)))) ?_
  refine x_aload_n (μ := mu_x4_meet) (pc := 41) 0 dX4_meet_41 rfl ?_
  refine x_fgi (μ := mu_x4_meet) (pc := 42) fX4_12 q335 dX4_meet_42 (gT_I e15 (gT_I e12 (gT_I e9 (gT_I e5 hT1)))) (fun hr16 => ?_)
  refine x_iload_n (μ := mu_x4_meet) (pc := 45) 1 dX4_meet_45 rfl ?_
  refine x_if (fun hT17 => ?_)
  refine x_iast (μ := mu_x4_meet) (pc := 46) dX4_meet_46 hT17 rfl (fun _ _ q => gE_wI q) ?_
  refine x_let (fun s18 e19 => ?_)
  refine x_aload_n (μ := mu_x4_meet) (pc := 47) 0 dX4_meet_47 rfl ?_
  refine x_dup (μ := mu_x4_meet) (pc := 48) dX4_meet_48 rfl ?_
  refine x_fgi (μ := mu_x4_meet) (pc := 49) fX4_12 q335 dX4_meet_49 (gT_I e19 (gT_I e15 (gT_I e12 (gT_I e9 (gT_I e5 hT1))))) (fun hr20 => ?_)
  refine x_iconst (μ := mu_x4_meet) (pc := 52) dX4_meet_52 ?_
  refine x_iadd (μ := mu_x4_meet) (pc := 53) dX4_meet_53 ?_
  refine x_w1 ?_
  refine x_fpi (μ := mu_x4_meet) (pc := 54) fX4_12 q335 dX4_meet_54 (gT_I e19 (gT_I e15 (gT_I e12 (gT_I e9 (gT_I e5 hT1))))) (fun _ q => gE_wI q) ?_
  refine x_let (fun s21 e22 => ?_)
  refine x_aload_n (μ := mu_x4_meet) (pc := 57) 0 dX4_meet_57 rfl ?_
  refine x_fgr (μ := mu_x4_meet) (pc := 58) fX4_7 (by first | exact Or.inl ⟨_, rfl⟩ | exact Or.inr ⟨_, rfl⟩) q328 dX4_meet_58 (gT_I e22 (gT_I e19 (gT_I e15 (gT_I e12 (gT_I e9 (gT_I e5 hT1)))))) ?_
  refine x_iload_n (μ := mu_x4_meet) (pc := 61) 1 dX4_meet_61 rfl ?_
  refine x_iconst (μ := mu_x4_meet) (pc := 62) dX4_meet_62 ?_
  refine x_if (fun hT23 => ?_)
  refine x_zast (μ := mu_x4_meet) (pc := 63) dX4_meet_63 hT23 rfl (by decide) (fun _ _ q => gE_wI q) ?_
  refine x_let (fun s24 e25 => ?_)
  exact x_vret (μ := mu_x4_meet) (pc := 64) (a1 := s24) dX4_meet_64 rfl rfl (gRel_E.1 _) trivial
def x4_leads (v0 : Nat) (v1 : Int) (v2 : Int) (σ : gMem) : Option Int := if mT σ v0 = 4 then if mT σ (mR σ v0 0) = 101 then if 0 ≤ ((5 * v1) + (bShr v2 6)) ∧ ((5 * v1) + (bShr v2 6)) < (mN σ (mR σ v0 0) : Int) then if gcmp (lAnd (lShr (mL σ (mR σ v0 0) ((5 * v1) + (bShr v2 6)).toNat) v2) (((1 : Fin 2) : Nat) : Int)) (((1 : Fin 2) : Nat) : Int) ≠ 0 then some 0 else some 1 else none else none else none
set_option maxRecDepth 100000 in
theorem ok_x4_leads {ω : gW} {l : Launch} {d : Nat} {σ : gMem} {v0 : Nat} {v1 : Int} {v2 : Int} (hl : l.stackTraces = false) (hdp : 0 ≤ d) (hv1 : g32 v1) (hv2 : g32 v2) : gK (fun x : Int => (.inl (some (vI x)), σ)) gE ω l d mu_x4_leads [vR v0, vI v1, vI v2] σ (x4_leads v0 v1 v2 σ) := by
  refine gK.of hp_X4 (Nat.le_of_ble_eq_true rfl) ?_
  unfold x4_leads
  refine x_aload_n (μ := mu_x4_leads) (pc := 0) 0 dX4_leads_0 rfl ?_
  refine x_if (fun hT1 => ?_)
  refine x_fgr (μ := mu_x4_leads) (pc := 1) fX4_0 (by first | exact Or.inl ⟨_, rfl⟩ | exact Or.inr ⟨_, rfl⟩) q320 dX4_leads_1 hT1 ?_
  refine x_iconst (μ := mu_x4_leads) (pc := 4) dX4_leads_4 ?_
  refine x_iload_n (μ := mu_x4_leads) (pc := 5) 1 dX4_leads_5 rfl ?_
  refine x_imul (μ := mu_x4_leads) (pc := 6) dX4_leads_6 ?_
  refine x_iload_n (μ := mu_x4_leads) (pc := 7) 2 dX4_leads_7 rfl ?_
  refine x_bipush (μ := mu_x4_leads) (pc := 8) dX4_leads_8 (by decide) ?_
  refine x_ishr (μ := mu_x4_leads) (pc := 10) dX4_leads_10 ?_
  refine x_iadd (μ := mu_x4_leads) (pc := 11) dX4_leads_11 ?_
  refine x_if (fun hT2 => ?_)
  refine x_lald (μ := mu_x4_leads) (pc := 12) dX4_leads_12 hT2 rfl (fun hr3 => ?_)
  refine x_iload_n (μ := mu_x4_leads) (pc := 13) 2 dX4_leads_13 rfl ?_
  refine x_lshr (μ := mu_x4_leads) (pc := 14) dX4_leads_14 ?_
  refine x_lconst (μ := mu_x4_leads) (pc := 15) dX4_leads_15 ?_
  refine x_land (μ := mu_x4_leads) (pc := 16) dX4_leads_16 ?_
  refine x_lconst (μ := mu_x4_leads) (pc := 17) dX4_leads_17 ?_
  refine x_lcmp (μ := mu_x4_leads) (pc := 18) dX4_leads_18 (lAnd_rng _ _) (by decide) ?_
  refine x_if_ne (μ := mu_x4_leads) (pc := 19) (tgt := 26) dX4_leads_19 rfl (gcmp_rng _ _) ?_ ?_
  · refine x_iconst (μ := mu_x4_leads) (pc := 26) dX4_leads_26 ?_
    exact x_zret (μ := mu_x4_leads) (pc := 27) dX4_leads_27 rfl (by decide) rfl (gRel_E.1 _) (show g32 0 from (by decide))
  · refine x_iconst (μ := mu_x4_leads) (pc := 22) dX4_leads_22 ?_
    refine x_goto (μ := mu_x4_leads) (pc := 23) (tgt := 27) dX4_leads_23 rfl ?_
    exact x_zret (μ := mu_x4_leads) (pc := 27) dX4_leads_27 rfl (by decide) rfl (gRel_E.1 _) (show g32 1 from (by decide))
def x5_init (v0 : Nat) (σ : gMem) : Option gMem := if mT σ v0 = 5 then if 0 ≤ (24 : Int) ∧ (24 : Int) < 1000000 then gLet (wN σ 102 (24 : Int).toNat) (fun s4 => gLet (wR s4 v0 3 (mZ σ)) (fun s6 => some s6)) else none else none
set_option maxRecDepth 100000 in
theorem ok_x5_init {ω : gW} {l : Launch} {d : Nat} {σ : gMem} {v0 : Nat} (hl : l.stackTraces = false) (hdp : 1 ≤ d) : gK (fun p : gMem => (.inl none, p)) gE ω l d mu_x5_init [vR v0] σ (x5_init v0 σ) := by
  refine gK.of hp_X5 (Nat.le_of_ble_eq_true rfl) ?_
  unfold x5_init
  refine x_aload_n (μ := mu_x5_init) (pc := 0) 0 dX5_init_0 rfl ?_
  refine x_if (fun hT1 => ?_)
  refine x_objI (μ := mu_x5_init) (pc := 1) (ci := 4) rfl q370 dX5_init_1 hT1 (by omega) (Nat.le_of_ble_eq_true rfl) ?_
  refine x_aload_n (μ := mu_x5_init) (pc := 4) 0 dX5_init_4 rfl ?_
  refine x_bipush (μ := mu_x5_init) (pc := 5) dX5_init_5 (by decide) ?_
  refine x_if (fun hg2 => ?_)
  refine x_ok (fun ok3 => ?_)
  refine x_newab (μ := mu_x5_init) (pc := 7) dX5_init_7 hg2 ?_
  refine x_let (fun s4 e5 => ?_)
  refine x_fprF (μ := mu_x5_init) (pc := 9) fX5_3 q384 rfl rfl (by first | exact Or.inl ⟨_, rfl⟩ | exact Or.inr ⟨_, rfl⟩) dX5_init_9 (gT_N e5 ok3 hT1 (by decide)) (fun _ q => gE_wR q) ?_
  refine x_let (fun s6 e7 => ?_)
  exact x_vret (μ := mu_x5_init) (pc := 12) (a1 := s6) dX5_init_12 rfl rfl (gRel_E.1 _) trivial
def x5_none (v0 : Nat) (σ : gMem) : Option gMem := if mT σ v0 = 5 then gLet (wI σ v0 0 0) (fun s2 => gLet (wL s2 v0 2 (((0 : Fin 2) : Nat) : Int)) (fun s4 => gLet (wI s4 v0 1 0) (fun s6 => some s6))) else none
set_option maxRecDepth 100000 in
theorem ok_x5_none {ω : gW} {l : Launch} {d : Nat} {σ : gMem} {v0 : Nat} (hl : l.stackTraces = false) (hdp : 0 ≤ d) : gK (fun p : gMem => (.inl none, p)) gE ω l d mu_x5_none [vR v0] σ (x5_none v0 σ) := by
  refine gK.of hp_X5 (Nat.le_of_ble_eq_true rfl) ?_
  unfold x5_none
  refine x_aload_n (μ := mu_x5_none) (pc := 0) 0 dX5_none_0 rfl ?_
  refine x_iconst (μ := mu_x5_none) (pc := 1) dX5_none_1 ?_
  refine x_if (fun hT1 => ?_)
  refine x_fpi (μ := mu_x5_none) (pc := 2) fX5_0 q371 dX5_none_2 hT1 (fun _ q => gE_wI q) ?_
  refine x_let (fun s2 e3 => ?_)
  refine x_aload_n (μ := mu_x5_none) (pc := 5) 0 dX5_none_5 rfl ?_
  refine x_lconst (μ := mu_x5_none) (pc := 6) dX5_none_6 ?_
  refine x_fpl (μ := mu_x5_none) (pc := 7) fX5_2 q379 dX5_none_7 (gT_I e3 hT1) (fun _ q => gE_wL q) ?_
  refine x_let (fun s4 e5 => ?_)
  refine x_aload_n (μ := mu_x5_none) (pc := 10) 0 dX5_none_10 rfl ?_
  refine x_iconst (μ := mu_x5_none) (pc := 11) dX5_none_11 ?_
  refine x_fpi (μ := mu_x5_none) (pc := 12) fX5_1 q376 dX5_none_12 (gT_L e5 (gT_I e3 hT1)) (fun _ q => gE_wI q) ?_
  refine x_let (fun s6 e7 => ?_)
  exact x_vret (μ := mu_x5_none) (pc := 15) (a1 := s6) dX5_none_15 rfl rfl (gRel_E.1 _) trivial
def x5_fail (v0 : Nat) (v1 : Int) (σ : gMem) : Option gMem := if mT σ v0 = 5 then gLet (wI σ v0 0 4) (fun s2 => gLet (wL s2 v0 2 v1) (fun s4 => gLet (wI s4 v0 1 0) (fun s6 => some s6))) else none
set_option maxRecDepth 100000 in
theorem ok_x5_fail {ω : gW} {l : Launch} {d : Nat} {σ : gMem} {v0 : Nat} {v1 : Int} (hl : l.stackTraces = false) (hdp : 0 ≤ d) (hv1 : g32 v1) : gK (fun p : gMem => (.inl none, p)) gE ω l d mu_x5_fail [vR v0, vI v1] σ (x5_fail v0 v1 σ) := by
  refine gK.of hp_X5 (Nat.le_of_ble_eq_true rfl) ?_
  unfold x5_fail
  refine x_aload_n (μ := mu_x5_fail) (pc := 0) 0 dX5_fail_0 rfl ?_
  refine x_iconst (μ := mu_x5_fail) (pc := 1) dX5_fail_1 ?_
  refine x_if (fun hT1 => ?_)
  refine x_fpi (μ := mu_x5_fail) (pc := 2) fX5_0 q371 dX5_fail_2 hT1 (fun _ q => gE_wI q) ?_
  refine x_let (fun s2 e3 => ?_)
  refine x_aload_n (μ := mu_x5_fail) (pc := 5) 0 dX5_fail_5 rfl ?_
  refine x_iload_n (μ := mu_x5_fail) (pc := 6) 1 dX5_fail_6 rfl ?_
  refine x_i2l (μ := mu_x5_fail) (pc := 7) dX5_fail_7 hv1 ?_
  refine x_fpl (μ := mu_x5_fail) (pc := 8) fX5_2 q379 dX5_fail_8 (gT_I e3 hT1) (fun _ q => gE_wL q) ?_
  refine x_let (fun s4 e5 => ?_)
  refine x_aload_n (μ := mu_x5_fail) (pc := 11) 0 dX5_fail_11 rfl ?_
  refine x_iconst (μ := mu_x5_fail) (pc := 12) dX5_fail_12 ?_
  refine x_fpi (μ := mu_x5_fail) (pc := 13) fX5_1 q376 dX5_fail_13 (gT_L e5 (gT_I e3 hT1)) (fun _ q => gE_wI q) ?_
  refine x_let (fun s6 e7 => ?_)
  exact x_vret (μ := mu_x5_fail) (pc := 16) (a1 := s6) dX5_fail_16 rfl rfl (gRel_E.1 _) trivial
def x5_is (v0 : Nat) (v1 : Int) (σ : gMem) : Option gMem := if mT σ v0 = 5 then gLet (wI σ v0 0 3) (fun s2 => if v1 = 0 then gLet (wL s2 v0 2 (((0 : Fin 2) : Nat) : Int)) (fun s4 => gLet (wI s4 v0 1 0) (fun s6 => some s6)) else gLet (wL s2 v0 2 (((1 : Fin 2) : Nat) : Int)) (fun s8 => gLet (wI s8 v0 1 0) (fun s10 => some s10))) else none
set_option maxRecDepth 100000 in
theorem ok_x5_is {ω : gW} {l : Launch} {d : Nat} {σ : gMem} {v0 : Nat} {v1 : Int} (hl : l.stackTraces = false) (hdp : 0 ≤ d) (hv1 : g32 v1) : gK (fun p : gMem => (.inl none, p)) gE ω l d mu_x5_is [vR v0, vI v1] σ (x5_is v0 v1 σ) := by
  refine gK.of hp_X5 (Nat.le_of_ble_eq_true rfl) ?_
  unfold x5_is
  refine x_aload_n (μ := mu_x5_is) (pc := 0) 0 dX5_is_0 rfl ?_
  refine x_iconst (μ := mu_x5_is) (pc := 1) dX5_is_1 ?_
  refine x_if (fun hT1 => ?_)
  refine x_fpi (μ := mu_x5_is) (pc := 2) fX5_0 q371 dX5_is_2 hT1 (fun _ q => gE_wI q) ?_
  refine x_let (fun s2 e3 => ?_)
  refine x_aload_n (μ := mu_x5_is) (pc := 5) 0 dX5_is_5 rfl ?_
  refine x_iload_n (μ := mu_x5_is) (pc := 6) 1 dX5_is_6 rfl ?_
  refine x_if_eq (μ := mu_x5_is) (pc := 7) (tgt := 14) dX5_is_7 rfl hv1 ?_ ?_
  · refine x_lconst (μ := mu_x5_is) (pc := 14) dX5_is_14 ?_
    refine x_fpl (μ := mu_x5_is) (pc := 15) fX5_2 q379 dX5_is_15 (gT_I e3 hT1) (fun _ q => gE_wL q) ?_
    refine x_let (fun s4 e5 => ?_)
    refine x_aload_n (μ := mu_x5_is) (pc := 18) 0 dX5_is_18 rfl ?_
    refine x_iconst (μ := mu_x5_is) (pc := 19) dX5_is_19 ?_
    refine x_fpi (μ := mu_x5_is) (pc := 20) fX5_1 q376 dX5_is_20 (gT_L e5 (gT_I e3 hT1)) (fun _ q => gE_wI q) ?_
    refine x_let (fun s6 e7 => ?_)
    exact x_vret (μ := mu_x5_is) (pc := 23) (a1 := s6) dX5_is_23 rfl rfl (gRel_E.1 _) trivial
  · refine x_lconst (μ := mu_x5_is) (pc := 10) dX5_is_10 ?_
    refine x_goto (μ := mu_x5_is) (pc := 11) (tgt := 15) dX5_is_11 rfl ?_
    refine x_fpl (μ := mu_x5_is) (pc := 15) fX5_2 q379 dX5_is_15 (gT_I e3 hT1) (fun _ q => gE_wL q) ?_
    refine x_let (fun s8 e9 => ?_)
    refine x_aload_n (μ := mu_x5_is) (pc := 18) 0 dX5_is_18 rfl ?_
    refine x_iconst (μ := mu_x5_is) (pc := 19) dX5_is_19 ?_
    refine x_fpi (μ := mu_x5_is) (pc := 20) fX5_1 q376 dX5_is_20 (gT_L e9 (gT_I e3 hT1)) (fun _ q => gE_wI q) ?_
    refine x_let (fun s10 e11 => ?_)
    exact x_vret (μ := mu_x5_is) (pc := 23) (a1 := s10) dX5_is_23 rfl rfl (gRel_E.1 _) trivial
def x5_be (v0 : Nat) (v1 : Int) (σ : gMem) : Option gMem := if 0 < gcmp v1 1000000000000000 then if mT σ v0 = 5 then (x5_fail v0 4 σ).bind (fun x2 => some x2) else none else if 0 ≤ gcmp v1 (-1000000000000000) then if mT σ v0 = 5 then gLet (wI σ v0 0 1) (fun s5 => gLet (wL s5 v0 2 v1) (fun s7 => gLet (wI s7 v0 1 0) (fun s9 => some s9))) else none else if mT σ v0 = 5 then (x5_fail v0 4 σ).bind (fun x12 => some x12) else none
set_option maxRecDepth 100000 in
theorem ok_x5_be {ω : gW} {l : Launch} {d : Nat} {σ : gMem} {v0 : Nat} {v1 : Int} (hl : l.stackTraces = false) (hdp : 1 ≤ d) (hv1 : g64 v1) : gK (fun p : gMem => (.inl none, p)) gE ω l d mu_x5_be [vR v0, vL v1] σ (x5_be v0 v1 σ) := by
  refine gK.of hp_X5 (Nat.le_of_ble_eq_true rfl) ?_
  unfold x5_be
  refine x_lload_n (μ := mu_x5_be) (pc := 0) 1 dX5_be_0 rfl ?_
  refine x_ldc2 (μ := mu_x5_be) (pc := 1) (n := 1000000000000000) dX5_be_1 q1055 ?_
  refine x_lcmp (μ := mu_x5_be) (pc := 4) dX5_be_4 hv1 (by decide) ?_
  refine x_if_gt (μ := mu_x5_be) (pc := 5) (tgt := 16) dX5_be_5 rfl (gcmp_rng _ _) ?_ ?_
  · refine x_aload_n (μ := mu_x5_be) (pc := 16) 0 dX5_be_16 rfl ?_
    refine x_iconst (μ := mu_x5_be) (pc := 17) dX5_be_17 ?_
    refine x_if (fun hT1 => ?_)
    refine x_callV_mv (μ := mu_x5_be) (pc := 18) (ok_x5_fail (ω := ω) (l := l) (d := d - 1) hl (by omega) (by decide)) gRel_E gRel_E (fun _ q => q) q1057 q969 q970 q225 q971 dX5_be_18 rfl hT1 hy_x5_fail (by omega) (Nat.le_of_ble_eq_true rfl) rfl (Nat.le_of_ble_eq_true rfl) (fun x2 k3 => ?_)
    exact x_vret (μ := mu_x5_be) (pc := 21) (a1 := x2) dX5_be_21 rfl rfl (gRel_E.1 _) trivial
  · refine x_lload_n (μ := mu_x5_be) (pc := 8) 1 dX5_be_8 rfl ?_
    refine x_ldc2 (μ := mu_x5_be) (pc := 9) (n := -1000000000000000) dX5_be_9 ((by decide : (-1000000000000000 : Int64) = Int64.ofInt (-1000000000000000)) ▸ q1056) ?_
    refine x_lcmp (μ := mu_x5_be) (pc := 12) dX5_be_12 hv1 (by decide) ?_
    refine x_if_ge (μ := mu_x5_be) (pc := 13) (tgt := 22) dX5_be_13 rfl (gcmp_rng _ _) ?_ ?_
    · refine x_aload_n (μ := mu_x5_be) (pc := 22) 0 dX5_be_22 rfl ?_
      refine x_iconst (μ := mu_x5_be) (pc := 23) dX5_be_23 ?_
      refine x_if (fun hT4 => ?_)
      refine x_fpi (μ := mu_x5_be) (pc := 24) fX5_0 q371 dX5_be_24 hT4 (fun _ q => gE_wI q) ?_
      refine x_let (fun s5 e6 => ?_)
      refine x_aload_n (μ := mu_x5_be) (pc := 27) 0 dX5_be_27 rfl ?_
      refine x_lload_n (μ := mu_x5_be) (pc := 28) 1 dX5_be_28 rfl ?_
      refine x_fpl (μ := mu_x5_be) (pc := 29) fX5_2 q379 dX5_be_29 (gT_I e6 hT4) (fun _ q => gE_wL q) ?_
      refine x_let (fun s7 e8 => ?_)
      refine x_aload_n (μ := mu_x5_be) (pc := 32) 0 dX5_be_32 rfl ?_
      refine x_iconst (μ := mu_x5_be) (pc := 33) dX5_be_33 ?_
      refine x_fpi (μ := mu_x5_be) (pc := 34) fX5_1 q376 dX5_be_34 (gT_L e8 (gT_I e6 hT4)) (fun _ q => gE_wI q) ?_
      refine x_let (fun s9 e10 => ?_)
      exact x_vret (μ := mu_x5_be) (pc := 37) (a1 := s9) dX5_be_37 rfl rfl (gRel_E.1 _) trivial
    · refine x_aload_n (μ := mu_x5_be) (pc := 16) 0 dX5_be_16 rfl ?_
      refine x_iconst (μ := mu_x5_be) (pc := 17) dX5_be_17 ?_
      refine x_if (fun hT11 => ?_)
      refine x_callV_mv (μ := mu_x5_be) (pc := 18) (ok_x5_fail (ω := ω) (l := l) (d := d - 1) hl (by omega) (by decide)) gRel_E gRel_E (fun _ q => q) q1057 q969 q970 q225 q971 dX5_be_18 rfl hT11 hy_x5_fail (by omega) (Nat.le_of_ble_eq_true rfl) rfl (Nat.le_of_ble_eq_true rfl) (fun x12 k13 => ?_)
      exact x_vret (μ := mu_x5_be) (pc := 21) (a1 := x12) dX5_be_21 rfl rfl (gRel_E.1 _) trivial
def x5_words (v0 : Nat) (v1 : Nat) (v2 : Int) (v3 : Int) (σ : gMem) : Option gMem := if mT σ v0 = 5 then gLet (wI σ v0 0 2) (fun s2 => gLet (wL s2 v0 2 (((0 : Fin 2) : Nat) : Int)) (fun s4 => gLet (wI s4 v0 1 v3) (fun s6 => if mT s6 v1 = 102 then if mT s6 (mR s6 v0 3) = 102 then if (0 ≤ v2 ∧ 0 ≤ (0 : Int) ∧ 0 ≤ v3) ∧ v2 + v3 ≤ (mN s6 v1 : Int) ∧ (0 : Int) + v3 ≤ (mN s6 (mR s6 v0 3) : Int) then gLet (wCI s6 v1 v2.toNat (mR s6 v0 3) (0 : Int).toNat v3.toNat) (fun s11 => some s11) else none else none else none))) else none
set_option maxRecDepth 100000 in
theorem ok_x5_words {ω : gW} {l : Launch} {d : Nat} {σ : gMem} {v0 : Nat} {v1 : Nat} {v2 : Int} {v3 : Int} (hl : l.stackTraces = false) (hdp : 1 ≤ d) (hv2 : g32 v2) (hv3 : g32 v3) : gK (fun p : gMem => (.inl none, p)) gE ω l d mu_x5_words [vR v0, vR v1, vI v2, vI v3] σ (x5_words v0 v1 v2 v3 σ) := by
  refine gK.of hp_X5 (Nat.le_of_ble_eq_true rfl) ?_
  unfold x5_words
  refine x_aload_n (μ := mu_x5_words) (pc := 0) 0 dX5_words_0 rfl ?_
  refine x_iconst (μ := mu_x5_words) (pc := 1) dX5_words_1 ?_
  refine x_if (fun hT1 => ?_)
  refine x_fpi (μ := mu_x5_words) (pc := 2) fX5_0 q371 dX5_words_2 hT1 (fun _ q => gE_wI q) ?_
  refine x_let (fun s2 e3 => ?_)
  refine x_aload_n (μ := mu_x5_words) (pc := 5) 0 dX5_words_5 rfl ?_
  refine x_lconst (μ := mu_x5_words) (pc := 6) dX5_words_6 ?_
  refine x_fpl (μ := mu_x5_words) (pc := 7) fX5_2 q379 dX5_words_7 (gT_I e3 hT1) (fun _ q => gE_wL q) ?_
  refine x_let (fun s4 e5 => ?_)
  refine x_aload_n (μ := mu_x5_words) (pc := 10) 0 dX5_words_10 rfl ?_
  refine x_iload_n (μ := mu_x5_words) (pc := 11) 3 dX5_words_11 rfl ?_
  refine x_fpi (μ := mu_x5_words) (pc := 12) fX5_1 q376 dX5_words_12 (gT_L e5 (gT_I e3 hT1)) (fun _ q => gE_wI q) ?_
  refine x_let (fun s6 e7 => ?_)
  refine x_aload_n (μ := mu_x5_words) (pc := 15) 1 dX5_words_15 rfl ?_
  refine x_iload_n (μ := mu_x5_words) (pc := 16) 2 dX5_words_16 rfl ?_
  refine x_aload_n (μ := mu_x5_words) (pc := 17) 0 dX5_words_17 rfl ?_
  refine x_fgr (μ := mu_x5_words) (pc := 18) fX5_3 (by first | exact Or.inl ⟨_, rfl⟩ | exact Or.inr ⟨_, rfl⟩) q384 dX5_words_18 (gT_I e7 (gT_L e5 (gT_I e3 hT1))) ?_
  refine x_iconst (μ := mu_x5_words) (pc := 21) dX5_words_21 ?_
  refine x_iload_n (μ := mu_x5_words) (pc := 22) 3 dX5_words_22 rfl ?_
  refine x_if (fun hT8 => ?_)
  refine x_if (fun hT9 => ?_)
  refine x_if (fun hg10 => ?_)
  refine x_copyB (μ := mu_x5_words) (pc := 23) q1067 dX5_words_23 hT8 hT9 hg10 (by omega) (Nat.le_of_ble_eq_true rfl) (fun _ q => gE_wCI q) ?_
  refine x_let (fun s11 e12 => ?_)
  exact x_vret (μ := mu_x5_words) (pc := 26) (a1 := s11) dX5_words_26 rfl rfl (gRel_E.1 _) trivial
def x5_failed (v0 : Nat) (σ : gMem) : Option Int := if mT σ v0 = 5 then if mI σ v0 0 ≠ 4 then some 0 else some 1 else none
set_option maxRecDepth 100000 in
theorem ok_x5_failed {ω : gW} {l : Launch} {d : Nat} {σ : gMem} {v0 : Nat} (hl : l.stackTraces = false) (hdp : 0 ≤ d) : gK (fun x : Int => (.inl (some (vI x)), σ)) gE ω l d mu_x5_failed [vR v0] σ (x5_failed v0 σ) := by
  refine gK.of hp_X5 (Nat.le_of_ble_eq_true rfl) ?_
  unfold x5_failed
  refine x_aload_n (μ := mu_x5_failed) (pc := 0) 0 dX5_failed_0 rfl ?_
  refine x_if (fun hT1 => ?_)
  refine x_fgi (μ := mu_x5_failed) (pc := 1) fX5_0 q371 dX5_failed_1 hT1 (fun hr2 => ?_)
  refine x_iconst (μ := mu_x5_failed) (pc := 4) dX5_failed_4 ?_
  refine x_icmp_ne (μ := mu_x5_failed) (pc := 5) (tgt := 12) dX5_failed_5 rfl hr2 (by decide) ?_ ?_
  · refine x_iconst (μ := mu_x5_failed) (pc := 12) dX5_failed_12 ?_
    exact x_zret (μ := mu_x5_failed) (pc := 13) dX5_failed_13 rfl (by decide) rfl (gRel_E.1 _) (show g32 0 from (by decide))
  · refine x_iconst (μ := mu_x5_failed) (pc := 8) dX5_failed_8 ?_
    refine x_goto (μ := mu_x5_failed) (pc := 9) (tgt := 13) dX5_failed_9 rfl ?_
    exact x_zret (μ := mu_x5_failed) (pc := 13) dX5_failed_13 rfl (by decide) rfl (gRel_E.1 _) (show g32 1 from (by decide))
def x5_copy (v0 : Nat) (v1 : Nat) (σ : gMem) : Option gMem := if mT σ v1 = 5 then if mT σ v0 = 5 then gLet (wI σ v0 0 (mI σ v1 0)) (fun s4 => gLet (wL s4 v0 2 (mL s4 v1 2)) (fun s7 => gLet (wI s7 v0 1 (mI s7 v1 1)) (fun s10 => if mT s10 (mR s10 v1 3) = 102 then if mT s10 (mR s10 v0 3) = 102 then if (0 ≤ (0 : Int) ∧ 0 ≤ (0 : Int) ∧ 0 ≤ (mI s10 v1 1)) ∧ (0 : Int) + (mI s10 v1 1) ≤ (mN s10 (mR s10 v1 3) : Int) ∧ (0 : Int) + (mI s10 v1 1) ≤ (mN s10 (mR s10 v0 3) : Int) then gLet (wCI s10 (mR s10 v1 3) (0 : Int).toNat (mR s10 v0 3) (0 : Int).toNat (mI s10 v1 1).toNat) (fun s16 => some s16) else none else none else none))) else none else none
set_option maxRecDepth 100000 in
theorem ok_x5_copy {ω : gW} {l : Launch} {d : Nat} {σ : gMem} {v0 : Nat} {v1 : Nat} (hl : l.stackTraces = false) (hdp : 1 ≤ d) : gK (fun p : gMem => (.inl none, p)) gE ω l d mu_x5_copy [vR v0, vR v1] σ (x5_copy v0 v1 σ) := by
  refine gK.of hp_X5 (Nat.le_of_ble_eq_true rfl) ?_
  unfold x5_copy
  refine x_aload_n (μ := mu_x5_copy) (pc := 0) 0 dX5_copy_0 rfl ?_
  refine x_aload_n (μ := mu_x5_copy) (pc := 1) 1 dX5_copy_1 rfl ?_
  refine x_if (fun hT1 => ?_)
  refine x_fgi (μ := mu_x5_copy) (pc := 2) fX5_0 q371 dX5_copy_2 hT1 (fun hr2 => ?_)
  refine x_if (fun hT3 => ?_)
  refine x_fpi (μ := mu_x5_copy) (pc := 5) fX5_0 q371 dX5_copy_5 hT3 (fun _ q => gE_wI q) ?_
  refine x_let (fun s4 e5 => ?_)
  refine x_aload_n (μ := mu_x5_copy) (pc := 8) 0 dX5_copy_8 rfl ?_
  refine x_aload_n (μ := mu_x5_copy) (pc := 9) 1 dX5_copy_9 rfl ?_
  refine x_fgl (μ := mu_x5_copy) (pc := 10) fX5_2 q379 dX5_copy_10 (gT_I e5 hT1) (fun hr6 => ?_)
  refine x_fpl (μ := mu_x5_copy) (pc := 13) fX5_2 q379 dX5_copy_13 (gT_I e5 hT3) (fun _ q => gE_wL q) ?_
  refine x_let (fun s7 e8 => ?_)
  refine x_aload_n (μ := mu_x5_copy) (pc := 16) 0 dX5_copy_16 rfl ?_
  refine x_aload_n (μ := mu_x5_copy) (pc := 17) 1 dX5_copy_17 rfl ?_
  refine x_fgi (μ := mu_x5_copy) (pc := 18) fX5_1 q376 dX5_copy_18 (gT_L e8 (gT_I e5 hT1)) (fun hr9 => ?_)
  refine x_fpi (μ := mu_x5_copy) (pc := 21) fX5_1 q376 dX5_copy_21 (gT_L e8 (gT_I e5 hT3)) (fun _ q => gE_wI q) ?_
  refine x_let (fun s10 e11 => ?_)
  refine x_aload_n (μ := mu_x5_copy) (pc := 24) 1 dX5_copy_24 rfl ?_
  refine x_fgr (μ := mu_x5_copy) (pc := 25) fX5_3 (by first | exact Or.inl ⟨_, rfl⟩ | exact Or.inr ⟨_, rfl⟩) q384 dX5_copy_25 (gT_I e11 (gT_L e8 (gT_I e5 hT1))) ?_
  refine x_iconst (μ := mu_x5_copy) (pc := 28) dX5_copy_28 ?_
  refine x_aload_n (μ := mu_x5_copy) (pc := 29) 0 dX5_copy_29 rfl ?_
  refine x_fgr (μ := mu_x5_copy) (pc := 30) fX5_3 (by first | exact Or.inl ⟨_, rfl⟩ | exact Or.inr ⟨_, rfl⟩) q384 dX5_copy_30 (gT_I e11 (gT_L e8 (gT_I e5 hT3))) ?_
  refine x_iconst (μ := mu_x5_copy) (pc := 33) dX5_copy_33 ?_
  refine x_aload_n (μ := mu_x5_copy) (pc := 34) 1 dX5_copy_34 rfl ?_
  refine x_fgi (μ := mu_x5_copy) (pc := 35) fX5_1 q376 dX5_copy_35 (gT_I e11 (gT_L e8 (gT_I e5 hT1))) (fun hr12 => ?_)
  refine x_if (fun hT13 => ?_)
  refine x_if (fun hT14 => ?_)
  refine x_if (fun hg15 => ?_)
  refine x_copyB (μ := mu_x5_copy) (pc := 38) q1067 dX5_copy_38 hT13 hT14 hg15 (by omega) (Nat.le_of_ble_eq_true rfl) (fun _ q => gE_wCI q) ?_
  refine x_let (fun s16 e17 => ?_)
  exact x_vret (μ := mu_x5_copy) (pc := 41) (a1 := s16) dX5_copy_41 rfl rfl (gRel_E.1 _) trivial
def x5_adapt (v0 : Nat) (v1 : Nat) (σ : gMem) : Option gMem := if mT σ v0 = 5 then if mI σ v0 0 = 0 then if mT σ v1 = 5 then if mI σ v1 0 ≠ 2 then if mI σ v1 0 ≠ 3 then (x5_be v0 (((0 : Fin 2) : Nat) : Int) σ).bind (fun x6 => some x6) else (x5_is v0 0 σ).bind (fun x8 => some x8) else gLet (wI σ v0 0 2) (fun s10 => some s10) else none else some σ else none
set_option maxRecDepth 100000 in
theorem ok_x5_adapt {ω : gW} {l : Launch} {d : Nat} {σ : gMem} {v0 : Nat} {v1 : Nat} (hl : l.stackTraces = false) (hdp : 2 ≤ d) : gK (fun p : gMem => (.inl none, p)) gE ω l d mu_x5_adapt [vR v0, vR v1] σ (x5_adapt v0 v1 σ) := by
  refine gK.of hp_X5 (Nat.le_of_ble_eq_true rfl) ?_
  unfold x5_adapt
  refine x_aload_n (μ := mu_x5_adapt) (pc := 0) 0 dX5_adapt_0 rfl ?_
  refine x_if (fun hT1 => ?_)
  refine x_fgi (μ := mu_x5_adapt) (pc := 1) fX5_0 q371 dX5_adapt_1 hT1 (fun hr2 => ?_)
  refine x_if_eq (μ := mu_x5_adapt) (pc := 4) (tgt := 8) dX5_adapt_4 rfl hr2 ?_ ?_
  · refine x_aload_n (μ := mu_x5_adapt) (pc := 8) 1 dX5_adapt_8 rfl ?_
    refine x_if (fun hT3 => ?_)
    refine x_fgi (μ := mu_x5_adapt) (pc := 9) fX5_0 q371 dX5_adapt_9 hT3 (fun hr4 => ?_)
    refine x_iconst (μ := mu_x5_adapt) (pc := 12) dX5_adapt_12 ?_
    refine x_icmp_ne (μ := mu_x5_adapt) (pc := 13) (tgt := 24) dX5_adapt_13 rfl hr4 (by decide) ?_ ?_
    · refine x_aload_n (μ := mu_x5_adapt) (pc := 24) 1 dX5_adapt_24 rfl ?_
      refine x_fgi (μ := mu_x5_adapt) (pc := 25) fX5_0 q371 dX5_adapt_25 hT3 (fun hr5 => ?_)
      refine x_iconst (μ := mu_x5_adapt) (pc := 28) dX5_adapt_28 ?_
      refine x_icmp_ne (μ := mu_x5_adapt) (pc := 29) (tgt := 40) dX5_adapt_29 rfl hr5 (by decide) ?_ ?_
      · refine x_aload_n (μ := mu_x5_adapt) (pc := 40) 0 dX5_adapt_40 rfl ?_
        refine x_lconst (μ := mu_x5_adapt) (pc := 41) dX5_adapt_41 ?_
        refine x_callV_mv (μ := mu_x5_adapt) (pc := 42) (ok_x5_be (ω := ω) (l := l) (d := d - 1) hl (by omega) (by decide)) gRel_E gRel_E (fun _ q => q) q1091 q1052 q1053 q225 q1054 dX5_adapt_42 rfl hT1 hy_x5_be (by omega) (Nat.le_of_ble_eq_true rfl) rfl (Nat.le_of_ble_eq_true rfl) (fun x6 k7 => ?_)
        exact x_vret (μ := mu_x5_adapt) (pc := 45) (a1 := x6) dX5_adapt_45 rfl rfl (gRel_E.1 _) trivial
      · refine x_aload_n (μ := mu_x5_adapt) (pc := 32) 0 dX5_adapt_32 rfl ?_
        refine x_iconst (μ := mu_x5_adapt) (pc := 33) dX5_adapt_33 ?_
        refine x_callV_mv (μ := mu_x5_adapt) (pc := 34) (ok_x5_is (ω := ω) (l := l) (d := d - 1) hl (by omega) (by decide)) gRel_E gRel_E (fun _ q => q) q1090 q1036 q1037 q225 q1038 dX5_adapt_34 rfl hT1 hy_x5_is (by omega) (Nat.le_of_ble_eq_true rfl) rfl (Nat.le_of_ble_eq_true rfl) (fun x8 k9 => ?_)
        refine x_goto (μ := mu_x5_adapt) (pc := 37) (tgt := 45) dX5_adapt_37 rfl ?_
        exact x_vret (μ := mu_x5_adapt) (pc := 45) (a1 := x8) dX5_adapt_45 rfl rfl (gRel_E.1 _) trivial
    · refine x_aload_n (μ := mu_x5_adapt) (pc := 16) 0 dX5_adapt_16 rfl ?_
      refine x_iconst (μ := mu_x5_adapt) (pc := 17) dX5_adapt_17 ?_
      refine x_fpi (μ := mu_x5_adapt) (pc := 18) fX5_0 q371 dX5_adapt_18 hT1 (fun _ q => gE_wI q) ?_
      refine x_let (fun s10 e11 => ?_)
      refine x_goto (μ := mu_x5_adapt) (pc := 21) (tgt := 45) dX5_adapt_21 rfl ?_
      exact x_vret (μ := mu_x5_adapt) (pc := 45) (a1 := s10) dX5_adapt_45 rfl rfl (gRel_E.1 _) trivial
  · exact x_vret (μ := mu_x5_adapt) (pc := 7) (a1 := σ) dX5_adapt_7 rfl rfl (gRel_E.1 _) trivial
def x5_spell_l2 (N : Nat) (v0 : Nat) (v1 : Nat) (K : gMem → Option gMem) : Nat → Int → gMem → Option gMem
  | 0, _, _ => none
  | n + 1, v2, s => if mT s v1 = 90 then if w32 (mN s v1 : Int) ≤ v2 then K s else if mT s v0 = 5 then if 0 ≤ v2 ∧ v2 < (mN s v1 : Int) then if mT s (mR s v0 3) = 102 then if 0 ≤ (mI s v0 1) ∧ (mI s v0 1) < (mN s (mR s v0 3) : Int) then gLet (wI s (mR s v0 3) (mI s v0 1).toNat (bByte (mI s v1 v2.toNat))) (fun s7 => gLet (wI s7 v0 1 (w32 ((mI s7 v0 1) + 1))) (fun s10 => x5_spell_l2 N v0 v1 K n (w32 (v2 + 1)) s10)) else none else none else none else none else none
set_option maxRecDepth 100000 in
theorem okl_x5_spell_l2 {ω : gW} {l : Launch} {d : Nat} {N : Nat} {σ0 : gMem} {v0 : Nat} {v1 : Nat} {K : gMem → Option gMem} (hl : l.stackTraces = false) (hdp : 5 ≤ d) (hK : ∀ (s : gMem) , GG (fun p : gMem => (.inl none, p)) gE ω l d mu_x5_spell σ0 41 [] [] s (K s)) : ∀ (n : Nat) (v2 : Int) (s : gMem) , g32 v2 → GG (fun p : gMem => (.inl none, p)) gE ω l d mu_x5_spell σ0 2 [(0, vR v0), (1, vR v1), (2, vI v2)] [] s (x5_spell_l2 N v0 v1 K n v2 s) := by
  intro n
  induction n with
  | zero => intros; exact x_none
  | succ n ih =>
    intro v2 s hv2
    unfold x5_spell_l2
    refine x_iload_n (μ := mu_x5_spell) (pc := 2) 2 dX5_spell_2 rfl ?_
    refine x_aload_n (μ := mu_x5_spell) (pc := 3) 1 dX5_spell_3 rfl ?_
    refine x_if (fun hT1 => ?_)
    refine x_slen (μ := mu_x5_spell) (pc := 4) q1120 dX5_spell_4 hT1 (by omega) (Nat.le_of_ble_eq_true rfl) ?_
    refine x_w1 ?_
    refine x_icmp_ge (μ := mu_x5_spell) (pc := 7) (tgt := 41) dX5_spell_7 rfl hv2 (w32_rng _) ?_ ?_
    · refine x_loc (lv' := []) [] rfl ?_
      exact hK s
    · refine x_aload_n (μ := mu_x5_spell) (pc := 10) 0 dX5_spell_10 rfl ?_
      refine x_if (fun hT3 => ?_)
      refine x_fgr (μ := mu_x5_spell) (pc := 11) fX5_3 (by first | exact Or.inl ⟨_, rfl⟩ | exact Or.inr ⟨_, rfl⟩) q384 dX5_spell_11 hT3 ?_
      refine x_aload_n (μ := mu_x5_spell) (pc := 14) 0 dX5_spell_14 rfl ?_
      refine x_fgi (μ := mu_x5_spell) (pc := 15) fX5_1 q376 dX5_spell_15 hT3 (fun hr4 => ?_)
      refine x_aload_n (μ := mu_x5_spell) (pc := 18) 1 dX5_spell_18 rfl ?_
      refine x_iload_n (μ := mu_x5_spell) (pc := 19) 2 dX5_spell_19 rfl ?_
      refine x_schar (μ := mu_x5_spell) (pc := 20) q1130 dX5_spell_20 hT1 hv2 (by omega) (Nat.le_of_ble_eq_true rfl) (fun hr5 => ?_)
      refine x_i2b (μ := mu_x5_spell) (pc := 23) dX5_spell_23 ?_
      refine x_if (fun hT6 => ?_)
      refine x_bast (μ := mu_x5_spell) (pc := 24) dX5_spell_24 hT6 rfl (bByte_b _) (fun _ _ q => gE_wI q) ?_
      refine x_let (fun s7 e8 => ?_)
      refine x_aload_n (μ := mu_x5_spell) (pc := 25) 0 dX5_spell_25 rfl ?_
      refine x_dup (μ := mu_x5_spell) (pc := 26) dX5_spell_26 rfl ?_
      refine x_fgi (μ := mu_x5_spell) (pc := 27) fX5_1 q376 dX5_spell_27 (gT_I e8 hT3) (fun hr9 => ?_)
      refine x_iconst (μ := mu_x5_spell) (pc := 30) dX5_spell_30 ?_
      refine x_iadd (μ := mu_x5_spell) (pc := 31) dX5_spell_31 ?_
      refine x_w1 ?_
      refine x_fpi (μ := mu_x5_spell) (pc := 32) fX5_1 q376 dX5_spell_32 (gT_I e8 hT3) (fun _ q => gE_wI q) ?_
      refine x_let (fun s10 e11 => ?_)
      refine x_iincw (μ := mu_x5_spell) (pc := 35) (lv' := [(2, vI (w32 (v2 + 1))), (0, vR v0), (1, vR v1)]) 2 dX5_spell_35 rfl (by decide) rfl ?_
      refine x_goto (μ := mu_x5_spell) (pc := 38) (tgt := 2) dX5_spell_38 rfl ?_
      refine x_loc (lv' := [(0, vR v0), (1, vR v1), (2, vI (w32 (v2 + 1)))]) [1, 2, 0] rfl ?_
      exact ih (w32 (v2 + 1)) s10 (w32_rng _)
def x5_spell (N : Nat) (v0 : Nat) (v1 : Nat) (σ : gMem) : Option gMem := x5_spell_l2 N v0 v1 (fun s12 => some s12) N 0 σ
set_option maxRecDepth 100000 in
theorem ok_x5_spell {ω : gW} {l : Launch} {d : Nat} {N : Nat} {σ : gMem} {v0 : Nat} {v1 : Nat} (hl : l.stackTraces = false) (hdp : 5 ≤ d) : gK (fun p : gMem => (.inl none, p)) gE ω l d mu_x5_spell [vR v0, vR v1] σ (x5_spell N v0 v1 σ) := by
  refine gK.of hp_X5 (Nat.le_of_ble_eq_true rfl) ?_
  unfold x5_spell
  refine x_iconst (μ := mu_x5_spell) (pc := 0) dX5_spell_0 ?_
  refine x_istore_n (μ := mu_x5_spell) (pc := 1) (lv' := [(2, vI 0), (0, vR v0), (1, vR v1)]) dX5_spell_1 rfl (by decide) rfl ?_
  refine x_loc (lv' := [(0, vR v0), (1, vR v1), (2, vI 0)]) [1, 2, 0] rfl ?_
  refine okl_x5_spell_l2 hl hdp (fun s12 => ?_) N 0 σ (by decide)
  exact x_vret (μ := mu_x5_spell) (pc := 41) (a1 := s12) dX5_spell_41 rfl rfl (gRel_E.1 _) trivial
def x5_digits_l46 (N : Nat) (v0 : Nat) (v5 : Int) (K : gMem → Option gMem) : Nat → Int → gMem → Option gMem
  | 0, _, _ => none
  | n + 1, v3, s => if mT s v0 = 5 then if mT s (mR s v0 3) = 102 then if 0 ≤ (mI s v0 1) ∧ (mI s v0 1) < (mN s (mR s v0 3) : Int) then gLet (wI s (mR s v0 3) (mI s v0 1).toNat (bByte (48 + (Int.tmod v3 10)))) (fun s6 => gLet (wI s6 v0 1 (w32 ((mI s6 v0 1) + 1))) (fun s9 => if 0 < gcmp (w64 (Int.tdiv v3 10)) (((0 : Fin 2) : Nat) : Int) then x5_digits_l46 N v0 v5 K n (w64 (Int.tdiv v3 10)) s9 else K s9)) else none else none else none
set_option maxRecDepth 100000 in
theorem okl_x5_digits_l46 {ω : gW} {l : Launch} {d : Nat} {N : Nat} {σ0 : gMem} {v0 : Nat} {v5 : Int} {K : gMem → Option gMem} (hl : l.stackTraces = false) (hdp : 0 ≤ d) (hv5 : g32 v5) (hK : ∀ (s : gMem) , GG (fun p : gMem => (.inl none, p)) gE ω l d mu_x5_digits σ0 88 [(0, vR v0), (5, vI v5)] [] s (K s)) : ∀ (n : Nat) (v3 : Int) (s : gMem) , g64 v3 → GG (fun p : gMem => (.inl none, p)) gE ω l d mu_x5_digits σ0 46 [(0, vR v0), (3, vL v3), (5, vI v5)] [] s (x5_digits_l46 N v0 v5 K n v3 s) := by
  intro n
  induction n with
  | zero => intros; exact x_none
  | succ n ih =>
    intro v3 s hv3
    unfold x5_digits_l46
    refine x_aload_n (μ := mu_x5_digits) (pc := 46) 0 dX5_digits_46 rfl ?_
    refine x_if (fun hT3 => ?_)
    refine x_fgr (μ := mu_x5_digits) (pc := 47) fX5_3 (by first | exact Or.inl ⟨_, rfl⟩ | exact Or.inr ⟨_, rfl⟩) q384 dX5_digits_47 hT3 ?_
    refine x_aload_n (μ := mu_x5_digits) (pc := 50) 0 dX5_digits_50 rfl ?_
    refine x_fgi (μ := mu_x5_digits) (pc := 51) fX5_1 q376 dX5_digits_51 hT3 (fun hr4 => ?_)
    refine x_ldc2 (μ := mu_x5_digits) (pc := 54) (n := 48) dX5_digits_54 q1172 ?_
    refine x_lload_n (μ := mu_x5_digits) (pc := 57) 1 dX5_digits_57 rfl ?_
    refine x_ldc2 (μ := mu_x5_digits) (pc := 58) (n := 10) dX5_digits_58 q1173 ?_
    refine x_lremc (μ := mu_x5_digits) (pc := 61) dX5_digits_61 hv3 (by decide) (by decide) ?_
    refine x_ladd (μ := mu_x5_digits) (pc := 62) dX5_digits_62 ?_
    refine x_l2i (μ := mu_x5_digits) (pc := 63) dX5_digits_63 ?_
    refine x_i2b (μ := mu_x5_digits) (pc := 64) dX5_digits_64 ?_
    refine x_if (fun hT5 => ?_)
    refine x_bast (μ := mu_x5_digits) (pc := 65) dX5_digits_65 hT5 rfl (bByte_b _) (fun _ _ q => gE_wI q) ?_
    refine x_let (fun s6 e7 => ?_)
    refine x_aload_n (μ := mu_x5_digits) (pc := 66) 0 dX5_digits_66 rfl ?_
    refine x_dup (μ := mu_x5_digits) (pc := 67) dX5_digits_67 rfl ?_
    refine x_fgi (μ := mu_x5_digits) (pc := 68) fX5_1 q376 dX5_digits_68 (gT_I e7 hT3) (fun hr8 => ?_)
    refine x_iconst (μ := mu_x5_digits) (pc := 71) dX5_digits_71 ?_
    refine x_iadd (μ := mu_x5_digits) (pc := 72) dX5_digits_72 ?_
    refine x_w1 ?_
    refine x_fpi (μ := mu_x5_digits) (pc := 73) fX5_1 q376 dX5_digits_73 (gT_I e7 hT3) (fun _ q => gE_wI q) ?_
    refine x_let (fun s9 e10 => ?_)
    refine x_lload_n (μ := mu_x5_digits) (pc := 76) 1 dX5_digits_76 rfl ?_
    refine x_ldc2 (μ := mu_x5_digits) (pc := 77) (n := 10) dX5_digits_77 q1173 ?_
    refine x_ldivc (μ := mu_x5_digits) (pc := 80) dX5_digits_80 hv3 (by decide) (by decide) ?_
    refine x_W1 ?_
    refine x_lstore_n (μ := mu_x5_digits) (pc := 81) (lv' := [(3, vL (w64 (Int.tdiv v3 10))), (0, vR v0), (5, vI v5)]) dX5_digits_81 rfl (by decide) rfl ?_
    refine x_lload_n (μ := mu_x5_digits) (pc := 82) 0 dX5_digits_82 rfl ?_
    refine x_lconst (μ := mu_x5_digits) (pc := 83) dX5_digits_83 ?_
    refine x_lcmp (μ := mu_x5_digits) (pc := 84) dX5_digits_84 (w64_rng _) (by decide) ?_
    refine x_if_gt (μ := mu_x5_digits) (pc := 85) (tgt := 46) dX5_digits_85 rfl (gcmp_rng _ _) ?_ ?_
    · refine x_loc (lv' := [(0, vR v0), (3, vL (w64 (Int.tdiv v3 10))), (5, vI v5)]) [1, 0, 2] rfl ?_
      exact ih (w64 (Int.tdiv v3 10)) s9 (w64_rng _)
    · refine x_loc (lv' := [(0, vR v0), (5, vI v5)]) [1, 2] rfl ?_
      exact hK s9
def x5_digits_l100 (N : Nat) (v0 : Nat) (K : gMem → Option gMem) : Nat → Int → Int → gMem → Option gMem
  | 0, _, _, _ => none
  | n + 1, v6, v7, s => if v7 ≤ v6 then K s else if mT s v0 = 5 then if mT s (mR s v0 3) = 102 then if 0 ≤ v6 ∧ v6 < (mN s (mR s v0 3) : Int) then if 0 ≤ v7 ∧ v7 < (mN s (mR s v0 3) : Int) then if -128 ≤ mI s (mR s v0 3) v7.toNat ∧ mI s (mR s v0 3) v7.toNat ≤ 127 then if 0 ≤ v6 ∧ v6 < (mN s (mR s v0 3) : Int) then gLet (wI s (mR s v0 3) v6.toNat (mI s (mR s v0 3) v7.toNat)) (fun s19 => if mT s19 (mR s19 v0 3) = 102 then if -128 ≤ mI s (mR s v0 3) v6.toNat ∧ mI s (mR s v0 3) v6.toNat ≤ 127 then if 0 ≤ v7 ∧ v7 < (mN s19 (mR s19 v0 3) : Int) then gLet (wI s19 (mR s19 v0 3) v7.toNat (mI s (mR s v0 3) v6.toNat)) (fun s23 => x5_digits_l100 N v0 K n (w32 (v6 + 1)) (w32 (v7 + (-1))) s23) else none else none else none) else none else none else none else none else none else none
set_option maxRecDepth 100000 in
theorem okl_x5_digits_l100 {ω : gW} {l : Launch} {d : Nat} {N : Nat} {σ0 : gMem} {v0 : Nat} {K : gMem → Option gMem} (hl : l.stackTraces = false) (hdp : 0 ≤ d) (hK : ∀ (s : gMem) , GG (fun p : gMem => (.inl none, p)) gE ω l d mu_x5_digits σ0 148 [] [] s (K s)) : ∀ (n : Nat) (v6 : Int) (v7 : Int) (s : gMem) , g32 v6 → g32 v7 → GG (fun p : gMem => (.inl none, p)) gE ω l d mu_x5_digits σ0 100 [(0, vR v0), (6, vI v6), (7, vI v7)] [] s (x5_digits_l100 N v0 K n v6 v7 s) := by
  intro n
  induction n with
  | zero => intros; exact x_none
  | succ n ih =>
    intro v6 v7 s hv6 hv7
    unfold x5_digits_l100
    refine x_iload (μ := mu_x5_digits) (pc := 100) 1 dX5_digits_100 rfl ?_
    refine x_iload (μ := mu_x5_digits) (pc := 102) 2 dX5_digits_102 rfl ?_
    refine x_icmp_ge (μ := mu_x5_digits) (pc := 104) (tgt := 148) dX5_digits_104 rfl hv6 hv7 ?_ ?_
    · refine x_loc (lv' := []) [] rfl ?_
      exact hK s
    · refine x_aload_n (μ := mu_x5_digits) (pc := 107) 0 dX5_digits_107 rfl ?_
      refine x_if (fun hT14 => ?_)
      refine x_fgr (μ := mu_x5_digits) (pc := 108) fX5_3 (by first | exact Or.inl ⟨_, rfl⟩ | exact Or.inr ⟨_, rfl⟩) q384 dX5_digits_108 hT14 ?_
      refine x_iload (μ := mu_x5_digits) (pc := 111) 1 dX5_digits_111 rfl ?_
      refine x_if (fun hT15 => ?_)
      refine x_bald (μ := mu_x5_digits) (pc := 113) dX5_digits_113 hT15 rfl (fun hr16 => ?_)
      refine x_istore (μ := mu_x5_digits) (pc := 114) (lv' := [(8, vI (mI s (mR s v0 3) v6.toNat)), (0, vR v0), (6, vI v6), (7, vI v7)]) dX5_digits_114 (by decide) rfl ?_
      refine x_aload_n (μ := mu_x5_digits) (pc := 116) 1 dX5_digits_116 rfl ?_
      refine x_fgr (μ := mu_x5_digits) (pc := 117) fX5_3 (by first | exact Or.inl ⟨_, rfl⟩ | exact Or.inr ⟨_, rfl⟩) q384 dX5_digits_117 hT14 ?_
      refine x_iload (μ := mu_x5_digits) (pc := 120) 2 dX5_digits_120 rfl ?_
      refine x_aload_n (μ := mu_x5_digits) (pc := 122) 1 dX5_digits_122 rfl ?_
      refine x_fgr (μ := mu_x5_digits) (pc := 123) fX5_3 (by first | exact Or.inl ⟨_, rfl⟩ | exact Or.inr ⟨_, rfl⟩) q384 dX5_digits_123 hT14 ?_
      refine x_iload (μ := mu_x5_digits) (pc := 126) 3 dX5_digits_126 rfl ?_
      refine x_bald (μ := mu_x5_digits) (pc := 128) dX5_digits_128 hT15 rfl (fun hr17 => ?_)
      refine x_if (fun hz18 => ?_)
      refine x_bast (μ := mu_x5_digits) (pc := 129) dX5_digits_129 hT15 rfl hz18 (fun _ _ q => gE_wI q) ?_
      refine x_let (fun s19 e20 => ?_)
      refine x_aload_n (μ := mu_x5_digits) (pc := 130) 1 dX5_digits_130 rfl ?_
      refine x_fgr (μ := mu_x5_digits) (pc := 131) fX5_3 (by first | exact Or.inl ⟨_, rfl⟩ | exact Or.inr ⟨_, rfl⟩) q384 dX5_digits_131 (gT_I e20 hT14) ?_
      refine x_iload (μ := mu_x5_digits) (pc := 134) 3 dX5_digits_134 rfl ?_
      refine x_iload (μ := mu_x5_digits) (pc := 136) 0 dX5_digits_136 rfl ?_
      refine x_if (fun hT21 => ?_)
      refine x_if (fun hz22 => ?_)
      refine x_bast (μ := mu_x5_digits) (pc := 138) dX5_digits_138 hT21 rfl hz22 (fun _ _ q => gE_wI q) ?_
      refine x_let (fun s23 e24 => ?_)
      refine x_iincw (μ := mu_x5_digits) (pc := 139) (lv' := [(6, vI (w32 (v6 + 1))), (8, vI (mI s (mR s v0 3) v6.toNat)), (0, vR v0), (7, vI v7)]) 2 dX5_digits_139 rfl (by decide) rfl ?_
      refine x_iincw (μ := mu_x5_digits) (pc := 142) (lv' := [(7, vI (w32 (v7 + (-1)))), (6, vI (w32 (v6 + 1))), (8, vI (mI s (mR s v0 3) v6.toNat)), (0, vR v0)]) 3 dX5_digits_142 rfl (by decide) rfl ?_
      refine x_goto (μ := mu_x5_digits) (pc := 145) (tgt := 100) dX5_digits_145 rfl ?_
      refine x_loc (lv' := [(0, vR v0), (6, vI (w32 (v6 + 1))), (7, vI (w32 (v7 + (-1))))]) [3, 1, 0] rfl ?_
      exact ih (w32 (v6 + 1)) (w32 (v7 + (-1))) s23 (w32_rng _) (w32_rng _)
def x5_digits_j39 (N : Nat) (v0 : Nat) (t0 : Int) (s : gMem) : Option gMem := if mT s v0 = 5 then x5_digits_l46 N v0 (mI s v0 1) (fun s11 => if mT s11 v0 = 5 then x5_digits_l100 N v0 (fun s25 => some s25) N (mI s v0 1) (w32 ((mI s11 v0 1) - 1)) s11 else none) N t0 s else none
set_option maxRecDepth 100000 in
theorem okj_x5_digits_j39 {ω : gW} {l : Launch} {d : Nat} {N : Nat} {σ0 : gMem} {s : gMem} {v0 : Nat} {t0 : Int} (hl : l.stackTraces = false) (hdp : 0 ≤ d) (ht0 : g64 t0) : GG (fun p : gMem => (.inl none, p)) gE ω l d mu_x5_digits σ0 39 [(0, vR v0)] [vL t0] s (x5_digits_j39 N v0 t0 s) := by
  unfold x5_digits_j39
  refine x_lstore_n (μ := mu_x5_digits) (pc := 39) (lv' := [(3, vL t0), (0, vR v0)]) dX5_digits_39 rfl (by decide) rfl ?_
  refine x_aload_n (μ := mu_x5_digits) (pc := 40) 1 dX5_digits_40 rfl ?_
  refine x_if (fun hT1 => ?_)
  refine x_fgi (μ := mu_x5_digits) (pc := 41) fX5_1 q376 dX5_digits_41 hT1 (fun hr2 => ?_)
  refine x_istore (μ := mu_x5_digits) (pc := 44) (lv' := [(5, vI (mI s v0 1)), (3, vL t0), (0, vR v0)]) dX5_digits_44 (by decide) rfl ?_
  refine x_loc (lv' := [(0, vR v0), (3, vL t0), (5, vI (mI s v0 1))]) [2, 1, 0] rfl ?_
  refine okl_x5_digits_l46 hl hdp hr2 (fun s11 => ?_) N t0 s ht0
  refine x_iload (μ := mu_x5_digits) (pc := 88) 1 dX5_digits_88 rfl ?_
  refine x_istore (μ := mu_x5_digits) (pc := 90) (lv' := [(6, vI (mI s v0 1)), (0, vR v0), (5, vI (mI s v0 1))]) dX5_digits_90 (by decide) rfl ?_
  refine x_aload_n (μ := mu_x5_digits) (pc := 92) 1 dX5_digits_92 rfl ?_
  refine x_if (fun hT12 => ?_)
  refine x_fgi (μ := mu_x5_digits) (pc := 93) fX5_1 q376 dX5_digits_93 hT12 (fun hr13 => ?_)
  refine x_iconst (μ := mu_x5_digits) (pc := 96) dX5_digits_96 ?_
  refine x_isub (μ := mu_x5_digits) (pc := 97) dX5_digits_97 ?_
  refine x_w1 ?_
  refine x_istore (μ := mu_x5_digits) (pc := 98) (lv' := [(7, vI (w32 ((mI s11 v0 1) - 1))), (6, vI (mI s v0 1)), (0, vR v0), (5, vI (mI s v0 1))]) dX5_digits_98 (by decide) rfl ?_
  refine x_loc (lv' := [(0, vR v0), (6, vI (mI s v0 1)), (7, vI (w32 ((mI s11 v0 1) - 1)))]) [2, 1, 0] rfl ?_
  refine okl_x5_digits_l100 hl hdp (fun s25 => ?_) N (mI s v0 1) (w32 ((mI s11 v0 1) - 1)) s11 hr2 (w32_rng _)
  exact x_vret (μ := mu_x5_digits) (pc := 148) (a1 := s25) dX5_digits_148 rfl rfl (gRel_E.1 _) trivial
def x5_digits_j27 (N : Nat) (v0 : Nat) (v1 : Int) (s : gMem) : Option gMem := if 0 ≤ gcmp v1 (((0 : Fin 2) : Nat) : Int) then x5_digits_j39 N v0 v1 s else x5_digits_j39 N v0 (w64 (-v1)) s
set_option maxRecDepth 100000 in
theorem okj_x5_digits_j27 {ω : gW} {l : Launch} {d : Nat} {N : Nat} {σ0 : gMem} {s : gMem} {v0 : Nat} {v1 : Int} (hl : l.stackTraces = false) (hdp : 0 ≤ d) (hv1 : g64 v1) : GG (fun p : gMem => (.inl none, p)) gE ω l d mu_x5_digits σ0 27 [(0, vR v0), (1, vL v1)] [] s (x5_digits_j27 N v0 v1 s) := by
  unfold x5_digits_j27
  refine x_lload_n (μ := mu_x5_digits) (pc := 27) 1 dX5_digits_27 rfl ?_
  refine x_lconst (μ := mu_x5_digits) (pc := 28) dX5_digits_28 ?_
  refine x_lcmp (μ := mu_x5_digits) (pc := 29) dX5_digits_29 hv1 (by decide) ?_
  refine x_if_ge (μ := mu_x5_digits) (pc := 30) (tgt := 38) dX5_digits_30 rfl (gcmp_rng _ _) ?_ ?_
  · refine x_lload_n (μ := mu_x5_digits) (pc := 38) 1 dX5_digits_38 rfl ?_
    refine x_loc (lv' := [(0, vR v0)]) [0] rfl ?_
    exact okj_x5_digits_j39 hl hdp hv1
  · refine x_lload_n (μ := mu_x5_digits) (pc := 33) 1 dX5_digits_33 rfl ?_
    refine x_lneg (μ := mu_x5_digits) (pc := 34) dX5_digits_34 ?_
    refine x_goto (μ := mu_x5_digits) (pc := 35) (tgt := 39) dX5_digits_35 rfl ?_
    refine x_W1 ?_
    refine x_loc (lv' := [(0, vR v0)]) [0] rfl ?_
    exact okj_x5_digits_j39 hl hdp (w64_rng _)
def x5_digits (N : Nat) (v0 : Nat) (v1 : Int) (σ : gMem) : Option gMem := if 0 ≤ gcmp v1 (((0 : Fin 2) : Nat) : Int) then x5_digits_j27 N v0 v1  σ else if mT σ v0 = 5 then if mT σ (mR σ v0 3) = 102 then if 0 ≤ (mI σ v0 1) ∧ (mI σ v0 1) < (mN σ (mR σ v0 3) : Int) then gLet (wI σ (mR σ v0 3) (mI σ v0 1).toNat 45) (fun s29 => gLet (wI s29 v0 1 (w32 ((mI s29 v0 1) + 1))) (fun s32 => x5_digits_j27 N v0 v1  s32)) else none else none else none
set_option maxRecDepth 100000 in
theorem ok_x5_digits {ω : gW} {l : Launch} {d : Nat} {N : Nat} {σ : gMem} {v0 : Nat} {v1 : Int} (hl : l.stackTraces = false) (hdp : 0 ≤ d) (hv1 : g64 v1) : gK (fun p : gMem => (.inl none, p)) gE ω l d mu_x5_digits [vR v0, vL v1] σ (x5_digits N v0 v1 σ) := by
  refine gK.of hp_X5 (Nat.le_of_ble_eq_true rfl) ?_
  unfold x5_digits
  refine x_lload_n (μ := mu_x5_digits) (pc := 0) 1 dX5_digits_0 rfl ?_
  refine x_lconst (μ := mu_x5_digits) (pc := 1) dX5_digits_1 ?_
  refine x_lcmp (μ := mu_x5_digits) (pc := 2) dX5_digits_2 hv1 (by decide) ?_
  refine x_if_ge (μ := mu_x5_digits) (pc := 3) (tgt := 27) dX5_digits_3 rfl (gcmp_rng _ _) ?_ ?_
  · exact okj_x5_digits_j27 hl hdp hv1
  · refine x_aload_n (μ := mu_x5_digits) (pc := 6) 0 dX5_digits_6 rfl ?_
    refine x_if (fun hT26 => ?_)
    refine x_fgr (μ := mu_x5_digits) (pc := 7) fX5_3 (by first | exact Or.inl ⟨_, rfl⟩ | exact Or.inr ⟨_, rfl⟩) q384 dX5_digits_7 hT26 ?_
    refine x_aload_n (μ := mu_x5_digits) (pc := 10) 0 dX5_digits_10 rfl ?_
    refine x_fgi (μ := mu_x5_digits) (pc := 11) fX5_1 q376 dX5_digits_11 hT26 (fun hr27 => ?_)
    refine x_bipush (μ := mu_x5_digits) (pc := 14) dX5_digits_14 (by decide) ?_
    refine x_if (fun hT28 => ?_)
    refine x_bast (μ := mu_x5_digits) (pc := 16) dX5_digits_16 hT28 rfl (by decide) (fun _ _ q => gE_wI q) ?_
    refine x_let (fun s29 e30 => ?_)
    refine x_aload_n (μ := mu_x5_digits) (pc := 17) 0 dX5_digits_17 rfl ?_
    refine x_dup (μ := mu_x5_digits) (pc := 18) dX5_digits_18 rfl ?_
    refine x_fgi (μ := mu_x5_digits) (pc := 19) fX5_1 q376 dX5_digits_19 (gT_I e30 hT26) (fun hr31 => ?_)
    refine x_iconst (μ := mu_x5_digits) (pc := 22) dX5_digits_22 ?_
    refine x_iadd (μ := mu_x5_digits) (pc := 23) dX5_digits_23 ?_
    refine x_w1 ?_
    refine x_fpi (μ := mu_x5_digits) (pc := 24) fX5_1 q376 dX5_digits_24 (gT_I e30 hT26) (fun _ q => gE_wI q) ?_
    refine x_let (fun s32 e33 => ?_)
    exact okj_x5_digits_j27 hl hdp hv1
def x5_join (v0 : Nat) (v1 : Nat) (σ : gMem) : Option gMem := if mT σ v0 = 5 then if mT σ v1 = 5 then if w32 ((mI σ v0 1) + (mI σ v1 1)) ≤ 24 then if mT σ (mR σ v1 3) = 102 then if mT σ (mR σ v0 3) = 102 then if (0 ≤ (0 : Int) ∧ 0 ≤ (mI σ v0 1) ∧ 0 ≤ (mI σ v1 1)) ∧ (0 : Int) + (mI σ v1 1) ≤ (mN σ (mR σ v1 3) : Int) ∧ (mI σ v0 1) + (mI σ v1 1) ≤ (mN σ (mR σ v0 3) : Int) then gLet (wCI σ (mR σ v1 3) (0 : Int).toNat (mR σ v0 3) (mI σ v0 1).toNat (mI σ v1 1).toNat) (fun s10 => gLet (wI s10 v0 1 (w32 ((mI s10 v0 1) + (mI s10 v1 1)))) (fun s14 => some s14)) else none else none else none else (x5_fail v0 5 σ).bind (fun x16 => some x16) else none else none
set_option maxRecDepth 100000 in
theorem ok_x5_join {ω : gW} {l : Launch} {d : Nat} {σ : gMem} {v0 : Nat} {v1 : Nat} (hl : l.stackTraces = false) (hdp : 1 ≤ d) : gK (fun p : gMem => (.inl none, p)) gE ω l d mu_x5_join [vR v0, vR v1] σ (x5_join v0 v1 σ) := by
  refine gK.of hp_X5 (Nat.le_of_ble_eq_true rfl) ?_
  unfold x5_join
  refine x_aload_n (μ := mu_x5_join) (pc := 0) 0 dX5_join_0 rfl ?_
  refine x_if (fun hT1 => ?_)
  refine x_fgi (μ := mu_x5_join) (pc := 1) fX5_1 q376 dX5_join_1 hT1 (fun hr2 => ?_)
  refine x_aload_n (μ := mu_x5_join) (pc := 4) 1 dX5_join_4 rfl ?_
  refine x_if (fun hT3 => ?_)
  refine x_fgi (μ := mu_x5_join) (pc := 5) fX5_1 q376 dX5_join_5 hT3 (fun hr4 => ?_)
  refine x_iadd (μ := mu_x5_join) (pc := 8) dX5_join_8 ?_
  refine x_bipush (μ := mu_x5_join) (pc := 9) dX5_join_9 (by decide) ?_
  refine x_w2 ?_
  refine x_icmp_le (μ := mu_x5_join) (pc := 11) (tgt := 20) dX5_join_11 rfl (w32_rng _) (by decide) ?_ ?_
  · refine x_aload_n (μ := mu_x5_join) (pc := 20) 1 dX5_join_20 rfl ?_
    refine x_fgr (μ := mu_x5_join) (pc := 21) fX5_3 (by first | exact Or.inl ⟨_, rfl⟩ | exact Or.inr ⟨_, rfl⟩) q384 dX5_join_21 hT3 ?_
    refine x_iconst (μ := mu_x5_join) (pc := 24) dX5_join_24 ?_
    refine x_aload_n (μ := mu_x5_join) (pc := 25) 0 dX5_join_25 rfl ?_
    refine x_fgr (μ := mu_x5_join) (pc := 26) fX5_3 (by first | exact Or.inl ⟨_, rfl⟩ | exact Or.inr ⟨_, rfl⟩) q384 dX5_join_26 hT1 ?_
    refine x_aload_n (μ := mu_x5_join) (pc := 29) 0 dX5_join_29 rfl ?_
    refine x_fgi (μ := mu_x5_join) (pc := 30) fX5_1 q376 dX5_join_30 hT1 (fun hr5 => ?_)
    refine x_aload_n (μ := mu_x5_join) (pc := 33) 1 dX5_join_33 rfl ?_
    refine x_fgi (μ := mu_x5_join) (pc := 34) fX5_1 q376 dX5_join_34 hT3 (fun hr6 => ?_)
    refine x_if (fun hT7 => ?_)
    refine x_if (fun hT8 => ?_)
    refine x_if (fun hg9 => ?_)
    refine x_copyB (μ := mu_x5_join) (pc := 37) q1067 dX5_join_37 hT7 hT8 hg9 (by omega) (Nat.le_of_ble_eq_true rfl) (fun _ q => gE_wCI q) ?_
    refine x_let (fun s10 e11 => ?_)
    refine x_aload_n (μ := mu_x5_join) (pc := 40) 0 dX5_join_40 rfl ?_
    refine x_dup (μ := mu_x5_join) (pc := 41) dX5_join_41 rfl ?_
    refine x_fgi (μ := mu_x5_join) (pc := 42) fX5_1 q376 dX5_join_42 (gT_CI e11 hT1) (fun hr12 => ?_)
    refine x_aload_n (μ := mu_x5_join) (pc := 45) 1 dX5_join_45 rfl ?_
    refine x_fgi (μ := mu_x5_join) (pc := 46) fX5_1 q376 dX5_join_46 (gT_CI e11 hT3) (fun hr13 => ?_)
    refine x_iadd (μ := mu_x5_join) (pc := 49) dX5_join_49 ?_
    refine x_w1 ?_
    refine x_fpi (μ := mu_x5_join) (pc := 50) fX5_1 q376 dX5_join_50 (gT_CI e11 hT1) (fun _ q => gE_wI q) ?_
    refine x_let (fun s14 e15 => ?_)
    exact x_vret (μ := mu_x5_join) (pc := 53) (a1 := s14) dX5_join_53 rfl rfl (gRel_E.1 _) trivial
  · refine x_aload_n (μ := mu_x5_join) (pc := 14) 0 dX5_join_14 rfl ?_
    refine x_iconst (μ := mu_x5_join) (pc := 15) dX5_join_15 ?_
    refine x_callV_mv (μ := mu_x5_join) (pc := 16) (ok_x5_fail (ω := ω) (l := l) (d := d - 1) hl (by omega) (by decide)) gRel_E gRel_E (fun _ q => q) q1057 q969 q970 q225 q971 dX5_join_16 rfl hT1 hy_x5_fail (by omega) (Nat.le_of_ble_eq_true rfl) rfl (Nat.le_of_ble_eq_true rfl) (fun x16 k17 => ?_)
    exact x_vret (μ := mu_x5_join) (pc := 19) (a1 := x16) dX5_join_19 rfl rfl (gRel_E.1 _) trivial
def x5_wantNumber_j25 (v0 : Nat) (s : gMem) : Option (Int × gMem) := if mT s v0 = 5 then if mI s v0 0 ≠ 1 then some (0, s) else some (1, s) else none
set_option maxRecDepth 100000 in
theorem okj_x5_wantNumber_j25 {ω : gW} {l : Launch} {d : Nat} {σ0 : gMem} {s : gMem} {v0 : Nat} (hl : l.stackTraces = false) (hdp : 2 ≤ d) : GG (fun p : Int × gMem => (.inl (some (vI p.1)), p.2)) gE ω l d mu_x5_wantNumber σ0 25 [(0, vR v0)] [] s (x5_wantNumber_j25 v0 s) := by
  unfold x5_wantNumber_j25
  refine x_aload_n (μ := mu_x5_wantNumber) (pc := 25) 0 dX5_wantNumber_25 rfl ?_
  refine x_if (fun hT5 => ?_)
  refine x_fgi (μ := mu_x5_wantNumber) (pc := 26) fX5_0 q371 dX5_wantNumber_26 hT5 (fun hr6 => ?_)
  refine x_iconst (μ := mu_x5_wantNumber) (pc := 29) dX5_wantNumber_29 ?_
  refine x_icmp_ne (μ := mu_x5_wantNumber) (pc := 30) (tgt := 37) dX5_wantNumber_30 rfl hr6 (by decide) ?_ ?_
  · refine x_iconst (μ := mu_x5_wantNumber) (pc := 37) dX5_wantNumber_37 ?_
    exact x_zret (μ := mu_x5_wantNumber) (pc := 38) dX5_wantNumber_38 rfl (by decide) rfl (gRel_E.1 _) (show g32 0 from (by decide))
  · refine x_iconst (μ := mu_x5_wantNumber) (pc := 33) dX5_wantNumber_33 ?_
    refine x_goto (μ := mu_x5_wantNumber) (pc := 34) (tgt := 38) dX5_wantNumber_34 rfl ?_
    exact x_zret (μ := mu_x5_wantNumber) (pc := 38) dX5_wantNumber_38 rfl (by decide) rfl (gRel_E.1 _) (show g32 1 from (by decide))
def x5_wantNumber_j12 (v0 : Nat) (s : gMem) : Option (Int × gMem) := if mT s v0 = 5 then if mI s v0 0 = 1 then x5_wantNumber_j25 v0  s else (x5_fail v0 3 s).bind (fun x7 => x5_wantNumber_j25 v0  x7) else none
set_option maxRecDepth 100000 in
theorem okj_x5_wantNumber_j12 {ω : gW} {l : Launch} {d : Nat} {σ0 : gMem} {s : gMem} {v0 : Nat} (hl : l.stackTraces = false) (hdp : 2 ≤ d) : GG (fun p : Int × gMem => (.inl (some (vI p.1)), p.2)) gE ω l d mu_x5_wantNumber σ0 12 [(0, vR v0)] [] s (x5_wantNumber_j12 v0 s) := by
  unfold x5_wantNumber_j12
  refine x_aload_n (μ := mu_x5_wantNumber) (pc := 12) 0 dX5_wantNumber_12 rfl ?_
  refine x_if (fun hT3 => ?_)
  refine x_fgi (μ := mu_x5_wantNumber) (pc := 13) fX5_0 q371 dX5_wantNumber_13 hT3 (fun hr4 => ?_)
  refine x_iconst (μ := mu_x5_wantNumber) (pc := 16) dX5_wantNumber_16 ?_
  refine x_icmp_eq (μ := mu_x5_wantNumber) (pc := 17) (tgt := 25) dX5_wantNumber_17 rfl hr4 (by decide) ?_ ?_
  · exact okj_x5_wantNumber_j25 hl hdp
  · refine x_aload_n (μ := mu_x5_wantNumber) (pc := 20) 0 dX5_wantNumber_20 rfl ?_
    refine x_iconst (μ := mu_x5_wantNumber) (pc := 21) dX5_wantNumber_21 ?_
    refine x_callV_mv (μ := mu_x5_wantNumber) (pc := 22) (ok_x5_fail (ω := ω) (l := l) (d := d - 1) hl (by omega) (by decide)) gRel_E gRel_E (fun _ q => q) q1057 q969 q970 q225 q971 dX5_wantNumber_22 rfl hT3 hy_x5_fail (by omega) (Nat.le_of_ble_eq_true rfl) rfl (Nat.le_of_ble_eq_true rfl) (fun x7 k8 => ?_)
    exact okj_x5_wantNumber_j25 hl hdp
def x5_wantNumber (v0 : Nat) (σ : gMem) : Option (Int × gMem) := if mT σ v0 = 5 then if mI σ v0 0 ≠ 0 then x5_wantNumber_j12 v0  σ else (x5_be v0 (((0 : Fin 2) : Nat) : Int) σ).bind (fun x9 => x5_wantNumber_j12 v0  x9) else none
set_option maxRecDepth 100000 in
theorem ok_x5_wantNumber {ω : gW} {l : Launch} {d : Nat} {σ : gMem} {v0 : Nat} (hl : l.stackTraces = false) (hdp : 2 ≤ d) : gK (fun p : Int × gMem => (.inl (some (vI p.1)), p.2)) gE ω l d mu_x5_wantNumber [vR v0] σ (x5_wantNumber v0 σ) := by
  refine gK.of hp_X5 (Nat.le_of_ble_eq_true rfl) ?_
  unfold x5_wantNumber
  refine x_aload_n (μ := mu_x5_wantNumber) (pc := 0) 0 dX5_wantNumber_0 rfl ?_
  refine x_if (fun hT1 => ?_)
  refine x_fgi (μ := mu_x5_wantNumber) (pc := 1) fX5_0 q371 dX5_wantNumber_1 hT1 (fun hr2 => ?_)
  refine x_if_ne (μ := mu_x5_wantNumber) (pc := 4) (tgt := 12) dX5_wantNumber_4 rfl hr2 ?_ ?_
  · exact okj_x5_wantNumber_j12 hl hdp
  · refine x_aload_n (μ := mu_x5_wantNumber) (pc := 7) 0 dX5_wantNumber_7 rfl ?_
    refine x_lconst (μ := mu_x5_wantNumber) (pc := 8) dX5_wantNumber_8 ?_
    refine x_callV_mv (μ := mu_x5_wantNumber) (pc := 9) (ok_x5_be (ω := ω) (l := l) (d := d - 1) hl (by omega) (by decide)) gRel_E gRel_E (fun _ q => q) q1091 q1052 q1053 q225 q1054 dX5_wantNumber_9 rfl hT1 hy_x5_be (by omega) (Nat.le_of_ble_eq_true rfl) rfl (Nat.le_of_ble_eq_true rfl) (fun x9 k10 => ?_)
    exact okj_x5_wantNumber_j12 hl hdp
def x5_wantTruth_j25 (v0 : Nat) (s : gMem) : Option (Int × gMem) := if mT s v0 = 5 then if mI s v0 0 ≠ 3 then some (0, s) else some (1, s) else none
set_option maxRecDepth 100000 in
theorem okj_x5_wantTruth_j25 {ω : gW} {l : Launch} {d : Nat} {σ0 : gMem} {s : gMem} {v0 : Nat} (hl : l.stackTraces = false) (hdp : 1 ≤ d) : GG (fun p : Int × gMem => (.inl (some (vI p.1)), p.2)) gE ω l d mu_x5_wantTruth σ0 25 [(0, vR v0)] [] s (x5_wantTruth_j25 v0 s) := by
  unfold x5_wantTruth_j25
  refine x_aload_n (μ := mu_x5_wantTruth) (pc := 25) 0 dX5_wantTruth_25 rfl ?_
  refine x_if (fun hT5 => ?_)
  refine x_fgi (μ := mu_x5_wantTruth) (pc := 26) fX5_0 q371 dX5_wantTruth_26 hT5 (fun hr6 => ?_)
  refine x_iconst (μ := mu_x5_wantTruth) (pc := 29) dX5_wantTruth_29 ?_
  refine x_icmp_ne (μ := mu_x5_wantTruth) (pc := 30) (tgt := 37) dX5_wantTruth_30 rfl hr6 (by decide) ?_ ?_
  · refine x_iconst (μ := mu_x5_wantTruth) (pc := 37) dX5_wantTruth_37 ?_
    exact x_zret (μ := mu_x5_wantTruth) (pc := 38) dX5_wantTruth_38 rfl (by decide) rfl (gRel_E.1 _) (show g32 0 from (by decide))
  · refine x_iconst (μ := mu_x5_wantTruth) (pc := 33) dX5_wantTruth_33 ?_
    refine x_goto (μ := mu_x5_wantTruth) (pc := 34) (tgt := 38) dX5_wantTruth_34 rfl ?_
    exact x_zret (μ := mu_x5_wantTruth) (pc := 38) dX5_wantTruth_38 rfl (by decide) rfl (gRel_E.1 _) (show g32 1 from (by decide))
def x5_wantTruth_j12 (v0 : Nat) (s : gMem) : Option (Int × gMem) := if mT s v0 = 5 then if mI s v0 0 = 3 then x5_wantTruth_j25 v0  s else (x5_fail v0 3 s).bind (fun x7 => x5_wantTruth_j25 v0  x7) else none
set_option maxRecDepth 100000 in
theorem okj_x5_wantTruth_j12 {ω : gW} {l : Launch} {d : Nat} {σ0 : gMem} {s : gMem} {v0 : Nat} (hl : l.stackTraces = false) (hdp : 1 ≤ d) : GG (fun p : Int × gMem => (.inl (some (vI p.1)), p.2)) gE ω l d mu_x5_wantTruth σ0 12 [(0, vR v0)] [] s (x5_wantTruth_j12 v0 s) := by
  unfold x5_wantTruth_j12
  refine x_aload_n (μ := mu_x5_wantTruth) (pc := 12) 0 dX5_wantTruth_12 rfl ?_
  refine x_if (fun hT3 => ?_)
  refine x_fgi (μ := mu_x5_wantTruth) (pc := 13) fX5_0 q371 dX5_wantTruth_13 hT3 (fun hr4 => ?_)
  refine x_iconst (μ := mu_x5_wantTruth) (pc := 16) dX5_wantTruth_16 ?_
  refine x_icmp_eq (μ := mu_x5_wantTruth) (pc := 17) (tgt := 25) dX5_wantTruth_17 rfl hr4 (by decide) ?_ ?_
  · exact okj_x5_wantTruth_j25 hl hdp
  · refine x_aload_n (μ := mu_x5_wantTruth) (pc := 20) 0 dX5_wantTruth_20 rfl ?_
    refine x_iconst (μ := mu_x5_wantTruth) (pc := 21) dX5_wantTruth_21 ?_
    refine x_callV_mv (μ := mu_x5_wantTruth) (pc := 22) (ok_x5_fail (ω := ω) (l := l) (d := d - 1) hl (by omega) (by decide)) gRel_E gRel_E (fun _ q => q) q1057 q969 q970 q225 q971 dX5_wantTruth_22 rfl hT3 hy_x5_fail (by omega) (Nat.le_of_ble_eq_true rfl) rfl (Nat.le_of_ble_eq_true rfl) (fun x7 k8 => ?_)
    exact okj_x5_wantTruth_j25 hl hdp
def x5_wantTruth (v0 : Nat) (σ : gMem) : Option (Int × gMem) := if mT σ v0 = 5 then if mI σ v0 0 ≠ 0 then x5_wantTruth_j12 v0  σ else (x5_is v0 0 σ).bind (fun x9 => x5_wantTruth_j12 v0  x9) else none
set_option maxRecDepth 100000 in
theorem ok_x5_wantTruth {ω : gW} {l : Launch} {d : Nat} {σ : gMem} {v0 : Nat} (hl : l.stackTraces = false) (hdp : 1 ≤ d) : gK (fun p : Int × gMem => (.inl (some (vI p.1)), p.2)) gE ω l d mu_x5_wantTruth [vR v0] σ (x5_wantTruth v0 σ) := by
  refine gK.of hp_X5 (Nat.le_of_ble_eq_true rfl) ?_
  unfold x5_wantTruth
  refine x_aload_n (μ := mu_x5_wantTruth) (pc := 0) 0 dX5_wantTruth_0 rfl ?_
  refine x_if (fun hT1 => ?_)
  refine x_fgi (μ := mu_x5_wantTruth) (pc := 1) fX5_0 q371 dX5_wantTruth_1 hT1 (fun hr2 => ?_)
  refine x_if_ne (μ := mu_x5_wantTruth) (pc := 4) (tgt := 12) dX5_wantTruth_4 rfl hr2 ?_ ?_
  · exact okj_x5_wantTruth_j12 hl hdp
  · refine x_aload_n (μ := mu_x5_wantTruth) (pc := 7) 0 dX5_wantTruth_7 rfl ?_
    refine x_iconst (μ := mu_x5_wantTruth) (pc := 8) dX5_wantTruth_8 ?_
    refine x_callV_mv (μ := mu_x5_wantTruth) (pc := 9) (ok_x5_is (ω := ω) (l := l) (d := d - 1) hl (by omega) (by decide)) gRel_E gRel_E (fun _ q => q) q1090 q1036 q1037 q225 q1038 dX5_wantTruth_9 rfl hT1 hy_x5_is (by omega) (Nat.le_of_ble_eq_true rfl) rfl (Nat.le_of_ble_eq_true rfl) (fun x9 k10 => ?_)
    exact okj_x5_wantTruth_j12 hl hdp
def x5_cut (v0 : Nat) (v1 : Int) (v3 : Int) (σ : gMem) : Option gMem := if mT σ v0 = 5 then if v3 = 0 then gLet (wI σ v0 1 (w32 (if (mI σ v0 1) < v1 then (mI σ v0 1) else v1))) (fun s3 => some s3) else if mT σ (mR σ v0 3) = 102 then if (0 ≤ (w32 ((mI σ v0 1) - (w32 (if (mI σ v0 1) < v1 then (mI σ v0 1) else v1)))) ∧ 0 ≤ (0 : Int) ∧ 0 ≤ (w32 (if (mI σ v0 1) < v1 then (mI σ v0 1) else v1))) ∧ (w32 ((mI σ v0 1) - (w32 (if (mI σ v0 1) < v1 then (mI σ v0 1) else v1)))) + (w32 (if (mI σ v0 1) < v1 then (mI σ v0 1) else v1)) ≤ (mN σ (mR σ v0 3) : Int) ∧ (0 : Int) + (w32 (if (mI σ v0 1) < v1 then (mI σ v0 1) else v1)) ≤ (mN σ (mR σ v0 3) : Int) then gLet (wCI σ (mR σ v0 3) (w32 ((mI σ v0 1) - (w32 (if (mI σ v0 1) < v1 then (mI σ v0 1) else v1)))).toNat (mR σ v0 3) (0 : Int).toNat (w32 (if (mI σ v0 1) < v1 then (mI σ v0 1) else v1)).toNat) (fun s8 => gLet (wI s8 v0 1 (w32 (if (mI σ v0 1) < v1 then (mI σ v0 1) else v1))) (fun s10 => some s10)) else none else none else none
set_option maxRecDepth 100000 in
theorem ok_x5_cut {ω : gW} {l : Launch} {d : Nat} {σ : gMem} {v0 : Nat} {v1 : Int} {v3 : Int} (hl : l.stackTraces = false) (hdp : 1 ≤ d) (hv1 : g64 v1) (hv3 : g32 v3) : gK (fun p : gMem => (.inl none, p)) gE ω l d mu_x5_cut [vR v0, vL v1, vI v3] σ (x5_cut v0 v1 v3 σ) := by
  refine gK.of hp_X5 (Nat.le_of_ble_eq_true rfl) ?_
  unfold x5_cut
  refine x_lload_n (μ := mu_x5_cut) (pc := 0) 1 dX5_cut_0 rfl ?_
  refine x_aload_n (μ := mu_x5_cut) (pc := 1) 0 dX5_cut_1 rfl ?_
  refine x_if (fun hT1 => ?_)
  refine x_fgi (μ := mu_x5_cut) (pc := 2) fX5_1 q376 dX5_cut_2 hT1 (fun hr2 => ?_)
  refine x_i2l (μ := mu_x5_cut) (pc := 5) dX5_cut_5 hr2 ?_
  refine x_mmin_long (μ := mu_x5_cut) (pc := 6) q1319 dX5_cut_6 hv1 (g32_64 hr2) (by omega) (Nat.le_of_ble_eq_true rfl) ?_
  refine x_l2i (μ := mu_x5_cut) (pc := 9) dX5_cut_9 ?_
  refine x_w1 ?_
  refine x_istore (μ := mu_x5_cut) (pc := 10) (lv' := [(4, vI (w32 (if (mI σ v0 1) < v1 then (mI σ v0 1) else v1))), (0, vR v0), (1, vL v1), (3, vI v3)]) dX5_cut_10 (by decide) rfl ?_
  refine x_iload_n (μ := mu_x5_cut) (pc := 12) 3 dX5_cut_12 rfl ?_
  refine x_if_eq (μ := mu_x5_cut) (pc := 13) (tgt := 37) dX5_cut_13 rfl hv3 ?_ ?_
  · refine x_aload_n (μ := mu_x5_cut) (pc := 37) 1 dX5_cut_37 rfl ?_
    refine x_iload (μ := mu_x5_cut) (pc := 38) 0 dX5_cut_38 rfl ?_
    refine x_fpi (μ := mu_x5_cut) (pc := 40) fX5_1 q376 dX5_cut_40 hT1 (fun _ q => gE_wI q) ?_
    refine x_let (fun s3 e4 => ?_)
    exact x_vret (μ := mu_x5_cut) (pc := 43) (a1 := s3) dX5_cut_43 rfl rfl (gRel_E.1 _) trivial
  · refine x_aload_n (μ := mu_x5_cut) (pc := 16) 1 dX5_cut_16 rfl ?_
    refine x_fgr (μ := mu_x5_cut) (pc := 17) fX5_3 (by first | exact Or.inl ⟨_, rfl⟩ | exact Or.inr ⟨_, rfl⟩) q384 dX5_cut_17 hT1 ?_
    refine x_aload_n (μ := mu_x5_cut) (pc := 20) 1 dX5_cut_20 rfl ?_
    refine x_fgi (μ := mu_x5_cut) (pc := 21) fX5_1 q376 dX5_cut_21 hT1 (fun hr5 => ?_)
    refine x_iload (μ := mu_x5_cut) (pc := 24) 0 dX5_cut_24 rfl ?_
    refine x_isub (μ := mu_x5_cut) (pc := 26) dX5_cut_26 ?_
    refine x_aload_n (μ := mu_x5_cut) (pc := 27) 1 dX5_cut_27 rfl ?_
    refine x_fgr (μ := mu_x5_cut) (pc := 28) fX5_3 (by first | exact Or.inl ⟨_, rfl⟩ | exact Or.inr ⟨_, rfl⟩) q384 dX5_cut_28 hT1 ?_
    refine x_iconst (μ := mu_x5_cut) (pc := 31) dX5_cut_31 ?_
    refine x_iload (μ := mu_x5_cut) (pc := 32) 0 dX5_cut_32 rfl ?_
    refine x_stk (st2 := [vI (w32 (if (mI σ v0 1) < v1 then (mI σ v0 1) else v1)), vI 0, vR (mR σ v0 3), vI (w32 ((mI σ v0 1) - (w32 (if (mI σ v0 1) < v1 then (mI σ v0 1) else v1)))), vR (mR σ v0 3)]) (by simp only [List.map_cons, gval_w32, gval_w64]) ?_
    refine x_if (fun hT6 => ?_)
    refine x_if (fun hg7 => ?_)
    refine x_copyB (μ := mu_x5_cut) (pc := 34) q1067 dX5_cut_34 hT6 hT6 hg7 (by omega) (Nat.le_of_ble_eq_true rfl) (fun _ q => gE_wCI q) ?_
    refine x_let (fun s8 e9 => ?_)
    refine x_aload_n (μ := mu_x5_cut) (pc := 37) 1 dX5_cut_37 rfl ?_
    refine x_iload (μ := mu_x5_cut) (pc := 38) 0 dX5_cut_38 rfl ?_
    refine x_fpi (μ := mu_x5_cut) (pc := 40) fX5_1 q376 dX5_cut_40 (gT_CI e9 hT1) (fun _ q => gE_wI q) ?_
    refine x_let (fun s10 e11 => ?_)
    exact x_vret (μ := mu_x5_cut) (pc := 43) (a1 := s10) dX5_cut_43 rfl rfl (gRel_E.1 _) trivial
def x6_isDigit (v0 : Int) (σ : gMem) : Option Int := if v0 < 48 then some 0 else if 57 < v0 then some 0 else some 1
set_option maxRecDepth 100000 in
theorem ok_x6_isDigit {ω : gW} {l : Launch} {d : Nat} {σ : gMem} {v0 : Int} (hl : l.stackTraces = false) (hdp : 0 ≤ d) (hv0 : g32 v0) : gK (fun x : Int => (.inl (some (vI x)), σ)) gE ω l d mu_x6_isDigit [vI v0] σ (x6_isDigit v0 σ) := by
  refine gK.of hp_X6 (Nat.le_of_ble_eq_true rfl) ?_
  unfold x6_isDigit
  refine x_iload_n (μ := mu_x6_isDigit) (pc := 0) 0 dX6_isDigit_0 rfl ?_
  refine x_bipush (μ := mu_x6_isDigit) (pc := 1) dX6_isDigit_1 (by decide) ?_
  refine x_icmp_lt (μ := mu_x6_isDigit) (pc := 3) (tgt := 16) dX6_isDigit_3 rfl hv0 (by decide) ?_ ?_
  · refine x_iconst (μ := mu_x6_isDigit) (pc := 16) dX6_isDigit_16 ?_
    exact x_zret (μ := mu_x6_isDigit) (pc := 17) dX6_isDigit_17 rfl (by decide) rfl (gRel_E.1 _) (show g32 0 from (by decide))
  · refine x_iload_n (μ := mu_x6_isDigit) (pc := 6) 0 dX6_isDigit_6 rfl ?_
    refine x_bipush (μ := mu_x6_isDigit) (pc := 7) dX6_isDigit_7 (by decide) ?_
    refine x_icmp_gt (μ := mu_x6_isDigit) (pc := 9) (tgt := 16) dX6_isDigit_9 rfl hv0 (by decide) ?_ ?_
    · refine x_iconst (μ := mu_x6_isDigit) (pc := 16) dX6_isDigit_16 ?_
      exact x_zret (μ := mu_x6_isDigit) (pc := 17) dX6_isDigit_17 rfl (by decide) rfl (gRel_E.1 _) (show g32 0 from (by decide))
    · refine x_iconst (μ := mu_x6_isDigit) (pc := 12) dX6_isDigit_12 ?_
      refine x_goto (μ := mu_x6_isDigit) (pc := 13) (tgt := 17) dX6_isDigit_13 rfl ?_
      exact x_zret (μ := mu_x6_isDigit) (pc := 17) dX6_isDigit_17 rfl (by decide) rfl (gRel_E.1 _) (show g32 1 from (by decide))
def x6_spells_l20_j54 (N : Nat) (σ : gMem) (v0 : Nat) (v1 : Int) (v3 : Nat) (v5 : Int) (t0 : Int) (Kh : Int → Int → Option Int) (K : Int → Option Int) : Option Int := Kh t0 (w32 (v5 + 1))
set_option maxRecDepth 100000 in
theorem okj_x6_spells_l20_j54 {ω : gW} {l : Launch} {d : Nat} {N : Nat} {σ : gMem} {v0 : Nat} {v1 : Int} {v3 : Nat} {v5 : Int} {t0 : Int} {Kh : Int → Int → Option Int} {K : Int → Option Int} (hl : l.stackTraces = false) (hdp : 5 ≤ d) (hv1 : g32 v1) (hv5 : g32 v5) (ht0 : g32 t0) (hKh : ∀ (v4 : Int) (v5 : Int) , g32 v4 → g32 v5 → GG (fun x : Int => (.inl (some (vI x)), σ)) gE ω l d mu_x6_spells σ 20 [(0, vR v0), (1, vI v1), (3, vR v3), (4, vI v4), (5, vI v5)] [] σ (Kh v4 v5)) (hK : ∀ (v4 : Int) , g32 v4 → GG (fun x : Int => (.inl (some (vI x)), σ)) gE ω l d mu_x6_spells σ 62 [(4, vI v4)] [] σ (K v4)) : GG (fun x : Int => (.inl (some (vI x)), σ)) gE ω l d mu_x6_spells σ 54 [(0, vR v0), (1, vI v1), (3, vR v3), (5, vI v5)] [vI t0] σ (x6_spells_l20_j54 N σ v0 v1 v3 v5 t0 Kh K ) := by
  unfold x6_spells_l20_j54
  refine x_istore (μ := mu_x6_spells) (pc := 54) (lv' := [(4, vI t0), (0, vR v0), (1, vI v1), (3, vR v3), (5, vI v5)]) dX6_spells_54 (by decide) rfl ?_
  refine x_iincw (μ := mu_x6_spells) (pc := 56) (lv' := [(5, vI (w32 (v5 + 1))), (4, vI t0), (0, vR v0), (1, vI v1), (3, vR v3)]) 4 dX6_spells_56 rfl (by decide) rfl ?_
  refine x_goto (μ := mu_x6_spells) (pc := 59) (tgt := 20) dX6_spells_59 rfl ?_
  refine x_loc (lv' := [(0, vR v0), (1, vI v1), (3, vR v3), (4, vI t0), (5, vI (w32 (v5 + 1)))]) [2, 3, 4, 1, 0] rfl ?_
  exact hKh t0 (w32 (v5 + 1)) ht0 (w32_rng _)
def x6_spells_l20 (N : Nat) (σ : gMem) (v0 : Nat) (v1 : Int) (v3 : Nat) (K : Int → Option Int) : Nat → Int → Int → Option Int
  | 0, _, _ => none
  | n + 1, v4, v5 => if v4 = 0 then K v4 else if mT σ v3 = 90 then if w32 (mN σ v3 : Int) ≤ v5 then K v4 else if mT σ v0 = 102 then if 0 ≤ (v1 + v5) ∧ (v1 + v5) < (mN σ v0 : Int) then if 0 ≤ v5 ∧ v5 < (mN σ v3 : Int) then if mI σ v0 (v1 + v5).toNat ≠ mI σ v3 v5.toNat then x6_spells_l20_j54 N σ v0 v1 v3 v5 0 (x6_spells_l20 N σ v0 v1 v3 K n) K else x6_spells_l20_j54 N σ v0 v1 v3 v5 1 (x6_spells_l20 N σ v0 v1 v3 K n) K else none else none else none else none
set_option maxRecDepth 100000 in
theorem okl_x6_spells_l20 {ω : gW} {l : Launch} {d : Nat} {N : Nat} {σ : gMem} {v0 : Nat} {v1 : Int} {v3 : Nat} {K : Int → Option Int} (hl : l.stackTraces = false) (hdp : 5 ≤ d) (hv1 : g32 v1) (hK : ∀ (v4 : Int) , g32 v4 → GG (fun x : Int => (.inl (some (vI x)), σ)) gE ω l d mu_x6_spells σ 62 [(4, vI v4)] [] σ (K v4)) : ∀ (n : Nat) (v4 : Int) (v5 : Int) , g32 v4 → g32 v5 → GG (fun x : Int => (.inl (some (vI x)), σ)) gE ω l d mu_x6_spells σ 20 [(0, vR v0), (1, vI v1), (3, vR v3), (4, vI v4), (5, vI v5)] [] σ (x6_spells_l20 N σ v0 v1 v3 K n v4 v5) := by
  intro n
  induction n with
  | zero => intros; exact x_none
  | succ n ih =>
    intro v4 v5 hv4 hv5
    unfold x6_spells_l20
    refine x_iload (μ := mu_x6_spells) (pc := 20) 3 dX6_spells_20 rfl ?_
    refine x_if_eq (μ := mu_x6_spells) (pc := 22) (tgt := 62) dX6_spells_22 rfl hv4 ?_ ?_
    · refine x_loc (lv' := [(4, vI v4)]) [3] rfl ?_
      exact hK v4 hv4
    · refine x_iload (μ := mu_x6_spells) (pc := 25) 4 dX6_spells_25 rfl ?_
      refine x_aload_n (μ := mu_x6_spells) (pc := 27) 2 dX6_spells_27 rfl ?_
      refine x_if (fun hT3 => ?_)
      refine x_slen (μ := mu_x6_spells) (pc := 28) q1547 dX6_spells_28 hT3 (by omega) (Nat.le_of_ble_eq_true rfl) ?_
      refine x_w1 ?_
      refine x_icmp_ge (μ := mu_x6_spells) (pc := 31) (tgt := 62) dX6_spells_31 rfl hv5 (w32_rng _) ?_ ?_
      · refine x_loc (lv' := [(4, vI v4)]) [3] rfl ?_
        exact hK v4 hv4
      · refine x_aload_n (μ := mu_x6_spells) (pc := 34) 0 dX6_spells_34 rfl ?_
        refine x_iload_n (μ := mu_x6_spells) (pc := 35) 1 dX6_spells_35 rfl ?_
        refine x_iload (μ := mu_x6_spells) (pc := 36) 4 dX6_spells_36 rfl ?_
        refine x_iadd (μ := mu_x6_spells) (pc := 38) dX6_spells_38 ?_
        refine x_if (fun hT5 => ?_)
        refine x_bald (μ := mu_x6_spells) (pc := 39) dX6_spells_39 hT5 rfl (fun hr6 => ?_)
        refine x_aload_n (μ := mu_x6_spells) (pc := 40) 2 dX6_spells_40 rfl ?_
        refine x_iload (μ := mu_x6_spells) (pc := 41) 4 dX6_spells_41 rfl ?_
        refine x_schar (μ := mu_x6_spells) (pc := 43) q1548 dX6_spells_43 hT3 hv5 (by omega) (Nat.le_of_ble_eq_true rfl) (fun hr7 => ?_)
        refine x_icmp_ne (μ := mu_x6_spells) (pc := 46) (tgt := 53) dX6_spells_46 rfl hr6 hr7 ?_ ?_
        · refine x_iconst (μ := mu_x6_spells) (pc := 53) dX6_spells_53 ?_
          refine x_loc (lv' := [(0, vR v0), (1, vI v1), (3, vR v3), (5, vI v5)]) [0, 1, 2, 4] rfl ?_
          exact okj_x6_spells_l20_j54 hl hdp hv1 hv5 (by decide) ih hK
        · refine x_iconst (μ := mu_x6_spells) (pc := 49) dX6_spells_49 ?_
          refine x_goto (μ := mu_x6_spells) (pc := 50) (tgt := 54) dX6_spells_50 rfl ?_
          refine x_loc (lv' := [(0, vR v0), (1, vI v1), (3, vR v3), (5, vI v5)]) [0, 1, 2, 4] rfl ?_
          exact okj_x6_spells_l20_j54 hl hdp hv1 hv5 (by decide) ih hK
def x6_spells_j15 (N : Nat) (σ : gMem) (v0 : Nat) (v1 : Int) (v3 : Nat) (t0 : Int) : Option Int := x6_spells_l20 N σ v0 v1 v3 (fun y8 => if y8 = 0 ∨ y8 = 1 then some y8 else none) N t0 0
set_option maxRecDepth 100000 in
theorem okj_x6_spells_j15 {ω : gW} {l : Launch} {d : Nat} {N : Nat} {σ : gMem} {v0 : Nat} {v1 : Int} {v3 : Nat} {t0 : Int} (hl : l.stackTraces = false) (hdp : 5 ≤ d) (hv1 : g32 v1) (ht0 : g32 t0) : GG (fun x : Int => (.inl (some (vI x)), σ)) gE ω l d mu_x6_spells σ 15 [(0, vR v0), (1, vI v1), (3, vR v3)] [vI t0] σ (x6_spells_j15 N σ v0 v1 v3 t0 ) := by
  unfold x6_spells_j15
  refine x_istore (μ := mu_x6_spells) (pc := 15) (lv' := [(4, vI t0), (0, vR v0), (1, vI v1), (3, vR v3)]) dX6_spells_15 (by decide) rfl ?_
  refine x_iconst (μ := mu_x6_spells) (pc := 17) dX6_spells_17 ?_
  refine x_istore (μ := mu_x6_spells) (pc := 18) (lv' := [(5, vI 0), (4, vI t0), (0, vR v0), (1, vI v1), (3, vR v3)]) dX6_spells_18 (by decide) rfl ?_
  refine x_loc (lv' := [(0, vR v0), (1, vI v1), (3, vR v3), (4, vI t0), (5, vI 0)]) [2, 3, 4, 1, 0] rfl ?_
  refine okl_x6_spells_l20 hl hdp hv1 (fun y8 hy8 => ?_) N t0 0 ht0 (by decide)
  refine x_iload (μ := mu_x6_spells) (pc := 62) 0 dX6_spells_62 rfl ?_
  exact x_if (μ := mu_x6_spells) (pc := 64) (fun hz => x_zret dX6_spells_64 rfl hz rfl (gRel_E.1 _) (show g32 y8 from hy8))
def x6_spells (N : Nat) (v0 : Nat) (v1 : Int) (v2 : Int) (v3 : Nat) (σ : gMem) : Option Int := if mT σ v3 = 90 then if w32 (v2 - v1) ≠ w32 (mN σ v3 : Int) then x6_spells_j15 N σ v0 v1 v3 0 else x6_spells_j15 N σ v0 v1 v3 1 else none
set_option maxRecDepth 100000 in
theorem ok_x6_spells {ω : gW} {l : Launch} {d : Nat} {N : Nat} {σ : gMem} {v0 : Nat} {v1 : Int} {v2 : Int} {v3 : Nat} (hl : l.stackTraces = false) (hdp : 5 ≤ d) (hv1 : g32 v1) (hv2 : g32 v2) : gK (fun x : Int => (.inl (some (vI x)), σ)) gE ω l d mu_x6_spells [vR v0, vI v1, vI v2, vR v3] σ (x6_spells N v0 v1 v2 v3 σ) := by
  refine gK.of hp_X6 (Nat.le_of_ble_eq_true rfl) ?_
  unfold x6_spells
  refine x_iload_n (μ := mu_x6_spells) (pc := 0) 2 dX6_spells_0 rfl ?_
  refine x_iload_n (μ := mu_x6_spells) (pc := 1) 1 dX6_spells_1 rfl ?_
  refine x_isub (μ := mu_x6_spells) (pc := 2) dX6_spells_2 ?_
  refine x_aload_n (μ := mu_x6_spells) (pc := 3) 3 dX6_spells_3 rfl ?_
  refine x_if (fun hT1 => ?_)
  refine x_slen (μ := mu_x6_spells) (pc := 4) q1547 dX6_spells_4 hT1 (by omega) (Nat.le_of_ble_eq_true rfl) ?_
  refine x_w1 ?_
  refine x_w2 ?_
  refine x_icmp_ne (μ := mu_x6_spells) (pc := 7) (tgt := 14) dX6_spells_7 rfl (w32_rng _) (w32_rng _) ?_ ?_
  · refine x_iconst (μ := mu_x6_spells) (pc := 14) dX6_spells_14 ?_
    refine x_loc (lv' := [(0, vR v0), (1, vI v1), (3, vR v3)]) [0, 1, 3] rfl ?_
    exact okj_x6_spells_j15 hl hdp hv1 (by decide)
  · refine x_iconst (μ := mu_x6_spells) (pc := 10) dX6_spells_10 ?_
    refine x_goto (μ := mu_x6_spells) (pc := 11) (tgt := 15) dX6_spells_11 rfl ?_
    refine x_loc (lv' := [(0, vR v0), (1, vI v1), (3, vR v3)]) [0, 1, 3] rfl ?_
    exact okj_x6_spells_j15 hl hdp hv1 (by decide)
def x6_here (v0 : Nat) (v1 : Int) (σ : gMem) : Option Int := if mT σ v0 = 6 then if mI σ v0 5 ≤ v1 then some (-1) else if mT σ (mR σ v0 3) = 102 then if 0 ≤ v1 ∧ v1 < (mN σ (mR σ v0 3) : Int) then some (bAnd (mI σ (mR σ v0 3) v1.toNat) 255) else none else none else none
set_option maxRecDepth 100000 in
theorem ok_x6_here {ω : gW} {l : Launch} {d : Nat} {σ : gMem} {v0 : Nat} {v1 : Int} (hl : l.stackTraces = false) (hdp : 0 ≤ d) (hv1 : g32 v1) : gK (fun x : Int => (.inl (some (vI x)), σ)) gE ω l d mu_x6_here [vR v0, vI v1] σ (x6_here v0 v1 σ) := by
  refine gK.of hp_X6 (Nat.le_of_ble_eq_true rfl) ?_
  unfold x6_here
  refine x_iload_n (μ := mu_x6_here) (pc := 0) 1 dX6_here_0 rfl ?_
  refine x_aload_n (μ := mu_x6_here) (pc := 1) 0 dX6_here_1 rfl ?_
  refine x_if (fun hT1 => ?_)
  refine x_fgi (μ := mu_x6_here) (pc := 2) fX6_5 q486 dX6_here_2 hT1 (fun hr2 => ?_)
  refine x_icmp_ge (μ := mu_x6_here) (pc := 5) (tgt := 21) dX6_here_5 rfl hv1 hr2 ?_ ?_
  · refine x_iconst (μ := mu_x6_here) (pc := 21) dX6_here_21 ?_
    exact x_iret (μ := mu_x6_here) (pc := 22) dX6_here_22 rfl rfl (gRel_E.1 _) (show g32 (-1) from (by decide))
  · refine x_aload_n (μ := mu_x6_here) (pc := 8) 0 dX6_here_8 rfl ?_
    refine x_fgr (μ := mu_x6_here) (pc := 9) fX6_3 (by first | exact Or.inl ⟨_, rfl⟩ | exact Or.inr ⟨_, rfl⟩) q484 dX6_here_9 hT1 ?_
    refine x_iload_n (μ := mu_x6_here) (pc := 12) 1 dX6_here_12 rfl ?_
    refine x_if (fun hT3 => ?_)
    refine x_bald (μ := mu_x6_here) (pc := 13) dX6_here_13 hT3 rfl (fun hr4 => ?_)
    refine x_sipush (μ := mu_x6_here) (pc := 14) dX6_here_14 (by decide) ?_
    refine x_iand (μ := mu_x6_here) (pc := 17) dX6_here_17 ?_
    refine x_goto (μ := mu_x6_here) (pc := 18) (tgt := 22) dX6_here_18 rfl ?_
    exact x_iret (μ := mu_x6_here) (pc := 22) dX6_here_22 rfl rfl (gRel_E.1 _) (show g32 (bAnd (mI σ (mR σ v0 3) v1.toNat) 255) from (bAnd_rng _ _))
def x6_wrongJust (v0 : Nat) (v1 : Int) (v2 : Int) (σ : gMem) : Option (Nat × gMem) := if mT σ v0 = 6 then gLet (wI σ v0 12 v1) (fun s2 => gLet (wI s2 v0 13 v2) (fun s4 => gLet (wN s4 25 6) (fun s7 => some (mZ s4, s7)))) else none
set_option maxRecDepth 100000 in
theorem ok_x6_wrongJust {ω : gW} {l : Launch} {d : Nat} {σ : gMem} {v0 : Nat} {v1 : Int} {v2 : Int} (hl : l.stackTraces = false) (hdp : 8 ≤ d) (hv1 : g32 v1) (hv2 : g32 v2) : gK (fun p : Nat × gMem => (.inl (some (vR p.1)), p.2)) gE ω l d mu_x6_wrongJust [vR v0, vI v1, vI v2] σ (x6_wrongJust v0 v1 v2 σ) := by
  refine gK.of hp_X6 (Nat.le_of_ble_eq_true rfl) ?_
  unfold x6_wrongJust
  refine x_aload_n (μ := mu_x6_wrongJust) (pc := 0) 0 dX6_wrongJust_0 rfl ?_
  refine x_iload_n (μ := mu_x6_wrongJust) (pc := 1) 1 dX6_wrongJust_1 rfl ?_
  refine x_if (fun hT1 => ?_)
  refine x_fpi (μ := mu_x6_wrongJust) (pc := 2) fX6_12 q493 dX6_wrongJust_2 hT1 (fun _ q => gE_wI q) ?_
  refine x_let (fun s2 e3 => ?_)
  refine x_aload_n (μ := mu_x6_wrongJust) (pc := 5) 0 dX6_wrongJust_5 rfl ?_
  refine x_iload_n (μ := mu_x6_wrongJust) (pc := 6) 2 dX6_wrongJust_6 rfl ?_
  refine x_fpi (μ := mu_x6_wrongJust) (pc := 7) fX6_13 q495 dX6_wrongJust_7 (gT_I e3 hT1) (fun _ q => gE_wI q) ?_
  refine x_let (fun s4 e5 => ?_)
  refine x_ok (fun ok6 => ?_)
  refine x_makeW (μ := mu_x6_wrongJust) (pc := 10) hl gex_Wrong (by decide) q1835 q239 dX6_wrongJust_10 dX6_wrongJust_13 dX6_wrongJust_14 (by omega) (Nat.le_of_ble_eq_true rfl) ?_
  refine x_let (fun s7 e8 => ?_)
  exact x_aret (μ := mu_x6_wrongJust) (pc := 17) dX6_wrongJust_17 rfl (by first | exact Or.inl ⟨_, rfl⟩ | exact Or.inr ⟨_, rfl⟩) rfl (gRel_E.1 _) trivial
def x6_digits_l5 (N : Nat) (σ : gMem) (v0 : Nat) (v2 : Int) (K : Int → Option Int) : Nat → Int → Int → Option Int
  | 0, _, _ => none
  | n + 1, v3, v5 => if v2 ≤ v5 then K v3 else if mT σ v0 = 6 then if mT σ (mR σ v0 3) = 102 then if 0 ≤ v5 ∧ v5 < (mN σ (mR σ v0 3) : Int) then x6_digits_l5 N σ v0 v2 K n (w64 (((10 * v3) + (mI σ (mR σ v0 3) v5.toNat)) - 48)) (w32 (v5 + 1)) else none else none else none
set_option maxRecDepth 100000 in
theorem okl_x6_digits_l5 {ω : gW} {l : Launch} {d : Nat} {N : Nat} {σ : gMem} {v0 : Nat} {v2 : Int} {K : Int → Option Int} (hl : l.stackTraces = false) (hdp : 0 ≤ d) (hv2 : g32 v2) (hK : ∀ (v3 : Int) , g64 v3 → GG (fun x : Int => (.inl (some (vL x)), σ)) gE ω l d mu_x6_digits σ 36 [(3, vL v3)] [] σ (K v3)) : ∀ (n : Nat) (v3 : Int) (v5 : Int) , g64 v3 → g32 v5 → GG (fun x : Int => (.inl (some (vL x)), σ)) gE ω l d mu_x6_digits σ 5 [(0, vR v0), (2, vI v2), (3, vL v3), (5, vI v5)] [] σ (x6_digits_l5 N σ v0 v2 K n v3 v5) := by
  intro n
  induction n with
  | zero => intros; exact x_none
  | succ n ih =>
    intro v3 v5 hv3 hv5
    unfold x6_digits_l5
    refine x_iload (μ := mu_x6_digits) (pc := 5) 3 dX6_digits_5 rfl ?_
    refine x_iload_n (μ := mu_x6_digits) (pc := 7) 1 dX6_digits_7 rfl ?_
    refine x_icmp_ge (μ := mu_x6_digits) (pc := 8) (tgt := 36) dX6_digits_8 rfl hv5 hv2 ?_ ?_
    · refine x_loc (lv' := [(3, vL v3)]) [2] rfl ?_
      exact hK v3 hv3
    · refine x_ldc2 (μ := mu_x6_digits) (pc := 11) (n := 10) dX6_digits_11 q1864 ?_
      refine x_lload_n (μ := mu_x6_digits) (pc := 14) 2 dX6_digits_14 rfl ?_
      refine x_lmul (μ := mu_x6_digits) (pc := 15) dX6_digits_15 ?_
      refine x_aload_n (μ := mu_x6_digits) (pc := 16) 0 dX6_digits_16 rfl ?_
      refine x_if (fun hT1 => ?_)
      refine x_fgr (μ := mu_x6_digits) (pc := 17) fX6_3 (by first | exact Or.inl ⟨_, rfl⟩ | exact Or.inr ⟨_, rfl⟩) q484 dX6_digits_17 hT1 ?_
      refine x_iload (μ := mu_x6_digits) (pc := 20) 3 dX6_digits_20 rfl ?_
      refine x_if (fun hT2 => ?_)
      refine x_bald (μ := mu_x6_digits) (pc := 22) dX6_digits_22 hT2 rfl (fun hr3 => ?_)
      refine x_i2l (μ := mu_x6_digits) (pc := 23) dX6_digits_23 hr3 ?_
      refine x_ladd (μ := mu_x6_digits) (pc := 24) dX6_digits_24 ?_
      refine x_ldc2 (μ := mu_x6_digits) (pc := 25) (n := 48) dX6_digits_25 q1865 ?_
      refine x_lsub (μ := mu_x6_digits) (pc := 28) dX6_digits_28 ?_
      refine x_W1 ?_
      refine x_lstore_n (μ := mu_x6_digits) (pc := 29) (lv' := [(3, vL (w64 (((10 * v3) + (mI σ (mR σ v0 3) v5.toNat)) - 48))), (0, vR v0), (2, vI v2), (5, vI v5)]) dX6_digits_29 rfl (by decide) rfl ?_
      refine x_iincw (μ := mu_x6_digits) (pc := 30) (lv' := [(5, vI (w32 (v5 + 1))), (3, vL (w64 (((10 * v3) + (mI σ (mR σ v0 3) v5.toNat)) - 48))), (0, vR v0), (2, vI v2)]) 3 dX6_digits_30 rfl (by decide) rfl ?_
      refine x_goto (μ := mu_x6_digits) (pc := 33) (tgt := 5) dX6_digits_33 rfl ?_
      refine x_loc (lv' := [(0, vR v0), (2, vI v2), (3, vL (w64 (((10 * v3) + (mI σ (mR σ v0 3) v5.toNat)) - 48))), (5, vI (w32 (v5 + 1)))]) [2, 3, 1, 0] rfl ?_
      exact ih (w64 (((10 * v3) + (mI σ (mR σ v0 3) v5.toNat)) - 48)) (w32 (v5 + 1)) (w64_rng _) (w32_rng _)
def x6_digits (N : Nat) (v0 : Nat) (v1 : Int) (v2 : Int) (σ : gMem) : Option Int := x6_digits_l5 N σ v0 v2 (fun y4 => some y4) N (((0 : Fin 2) : Nat) : Int) v1
set_option maxRecDepth 100000 in
theorem ok_x6_digits {ω : gW} {l : Launch} {d : Nat} {N : Nat} {σ : gMem} {v0 : Nat} {v1 : Int} {v2 : Int} (hl : l.stackTraces = false) (hdp : 0 ≤ d) (hv1 : g32 v1) (hv2 : g32 v2) : gK (fun x : Int => (.inl (some (vL x)), σ)) gE ω l d mu_x6_digits [vR v0, vI v1, vI v2] σ (x6_digits N v0 v1 v2 σ) := by
  refine gK.of hp_X6 (Nat.le_of_ble_eq_true rfl) ?_
  unfold x6_digits
  refine x_lconst (μ := mu_x6_digits) (pc := 0) dX6_digits_0 ?_
  refine x_lstore_n (μ := mu_x6_digits) (pc := 1) (lv' := [(3, vL (((0 : Fin 2) : Nat) : Int)), (0, vR v0), (1, vI v1), (2, vI v2)]) dX6_digits_1 rfl (by decide) rfl ?_
  refine x_iload_n (μ := mu_x6_digits) (pc := 2) 2 dX6_digits_2 rfl ?_
  refine x_istore (μ := mu_x6_digits) (pc := 3) (lv' := [(5, vI v1), (3, vL (((0 : Fin 2) : Nat) : Int)), (0, vR v0), (1, vI v1), (2, vI v2)]) dX6_digits_3 (by decide) rfl ?_
  refine x_loc (lv' := [(0, vR v0), (2, vI v2), (3, vL (((0 : Fin 2) : Nat) : Int)), (5, vI v1)]) [2, 4, 1, 0] rfl ?_
  refine okl_x6_digits_l5 hl hdp hv2 (fun y4 hy4 => ?_) N (((0 : Fin 2) : Nat) : Int) v1 (by decide) hv1
  refine x_lload_n (μ := mu_x6_digits) (pc := 36) 0 dX6_digits_36 rfl ?_
  exact x_lret (μ := mu_x6_digits) (pc := 37) dX6_digits_37 rfl rfl (gRel_E.1 _) (show g64 y4 from hy4)
def x6_isSign (v0 : Int) (σ : gMem) : Option Int := if v0 < 32 then some 0 else if 127 ≤ v0 then some 0 else some 1
set_option maxRecDepth 100000 in
theorem ok_x6_isSign {ω : gW} {l : Launch} {d : Nat} {σ : gMem} {v0 : Int} (hl : l.stackTraces = false) (hdp : 0 ≤ d) (hv0 : g32 v0) : gK (fun x : Int => (.inl (some (vI x)), σ)) gE ω l d mu_x6_isSign [vI v0] σ (x6_isSign v0 σ) := by
  refine gK.of hp_X6 (Nat.le_of_ble_eq_true rfl) ?_
  unfold x6_isSign
  refine x_iload_n (μ := mu_x6_isSign) (pc := 0) 0 dX6_isSign_0 rfl ?_
  refine x_bipush (μ := mu_x6_isSign) (pc := 1) dX6_isSign_1 (by decide) ?_
  refine x_icmp_lt (μ := mu_x6_isSign) (pc := 3) (tgt := 16) dX6_isSign_3 rfl hv0 (by decide) ?_ ?_
  · refine x_iconst (μ := mu_x6_isSign) (pc := 16) dX6_isSign_16 ?_
    exact x_zret (μ := mu_x6_isSign) (pc := 17) dX6_isSign_17 rfl (by decide) rfl (gRel_E.1 _) (show g32 0 from (by decide))
  · refine x_iload_n (μ := mu_x6_isSign) (pc := 6) 0 dX6_isSign_6 rfl ?_
    refine x_bipush (μ := mu_x6_isSign) (pc := 7) dX6_isSign_7 (by decide) ?_
    refine x_icmp_ge (μ := mu_x6_isSign) (pc := 9) (tgt := 16) dX6_isSign_9 rfl hv0 (by decide) ?_ ?_
    · refine x_iconst (μ := mu_x6_isSign) (pc := 16) dX6_isSign_16 ?_
      exact x_zret (μ := mu_x6_isSign) (pc := 17) dX6_isSign_17 rfl (by decide) rfl (gRel_E.1 _) (show g32 0 from (by decide))
    · refine x_iconst (μ := mu_x6_isSign) (pc := 12) dX6_isSign_12 ?_
      refine x_goto (μ := mu_x6_isSign) (pc := 13) (tgt := 17) dX6_isSign_13 rfl ?_
      exact x_zret (μ := mu_x6_isSign) (pc := 17) dX6_isSign_17 rfl (by decide) rfl (gRel_E.1 _) (show g32 1 from (by decide))
def x6_part (v0 : Nat) (v1 : Int) (v2 : Int) (σ : gMem) : Option (Nat × gMem) := if 0 ≤ (w32 (v2 - v1)) ∧ (w32 (v2 - v1)) < 1000000 then gLet (wN σ 102 (w32 (v2 - v1)).toNat) (fun s3 => if mT s3 v0 = 6 then if mT s3 (mR s3 v0 3) = 102 then if (0 ≤ v1 ∧ 0 ≤ (0 : Int) ∧ 0 ≤ (w32 (mN s3 (mZ σ) : Int))) ∧ v1 + (w32 (mN s3 (mZ σ) : Int)) ≤ (mN s3 (mR s3 v0 3) : Int) ∧ (0 : Int) + (w32 (mN s3 (mZ σ) : Int)) ≤ (mN s3 (mZ σ) : Int) then gLet (wCI s3 (mR s3 v0 3) v1.toNat (mZ σ) (0 : Int).toNat (w32 (mN s3 (mZ σ) : Int)).toNat) (fun s8 => some (mZ σ, s8)) else none else none else none) else none
set_option maxRecDepth 100000 in
theorem ok_x6_part {ω : gW} {l : Launch} {d : Nat} {σ : gMem} {v0 : Nat} {v1 : Int} {v2 : Int} (hl : l.stackTraces = false) (hdp : 1 ≤ d) (hv1 : g32 v1) (hv2 : g32 v2) : gK (fun p : Nat × gMem => (.inl (some (vR p.1)), p.2)) gE ω l d mu_x6_part [vR v0, vI v1, vI v2] σ (x6_part v0 v1 v2 σ) := by
  refine gK.of hp_X6 (Nat.le_of_ble_eq_true rfl) ?_
  unfold x6_part
  refine x_iload_n (μ := mu_x6_part) (pc := 0) 2 dX6_part_0 rfl ?_
  refine x_iload_n (μ := mu_x6_part) (pc := 1) 1 dX6_part_1 rfl ?_
  refine x_isub (μ := mu_x6_part) (pc := 2) dX6_part_2 ?_
  refine x_w1 ?_
  refine x_if (fun hg1 => ?_)
  refine x_ok (fun ok2 => ?_)
  refine x_newab (μ := mu_x6_part) (pc := 3) dX6_part_3 hg1 ?_
  refine x_let (fun s3 e4 => ?_)
  refine x_astore_n (μ := mu_x6_part) (pc := 5) (lv' := [(3, vR (mZ σ)), (0, vR v0), (1, vI v1), (2, vI v2)]) dX6_part_5 rfl (by decide) rfl ?_
  refine x_aload_n (μ := mu_x6_part) (pc := 6) 1 dX6_part_6 rfl ?_
  refine x_if (fun hT5 => ?_)
  refine x_fgr (μ := mu_x6_part) (pc := 7) fX6_3 (by first | exact Or.inl ⟨_, rfl⟩ | exact Or.inr ⟨_, rfl⟩) q484 dX6_part_7 hT5 ?_
  refine x_iload_n (μ := mu_x6_part) (pc := 10) 2 dX6_part_10 rfl ?_
  refine x_aload_n (μ := mu_x6_part) (pc := 11) 0 dX6_part_11 rfl ?_
  refine x_iconst (μ := mu_x6_part) (pc := 12) dX6_part_12 ?_
  refine x_aload_n (μ := mu_x6_part) (pc := 13) 0 dX6_part_13 rfl ?_
  refine x_len (μ := mu_x6_part) (pc := 14) 2 (fun _ => rfl) dX6_part_14 (gT_new e4) ?_
  refine x_w1 ?_
  refine x_if (fun hT6 => ?_)
  refine x_if (fun hg7 => ?_)
  refine x_copyB (μ := mu_x6_part) (pc := 15) q1889 dX6_part_15 hT6 (gT_new e4) hg7 (by omega) (Nat.le_of_ble_eq_true rfl) (fun _ q => gE_wCI q) ?_
  refine x_let (fun s8 e9 => ?_)
  refine x_aload_n (μ := mu_x6_part) (pc := 18) 0 dX6_part_18 rfl ?_
  exact x_aret (μ := mu_x6_part) (pc := 19) dX6_part_19 rfl (by first | exact Or.inl ⟨_, rfl⟩ | exact Or.inr ⟨_, rfl⟩) rfl (gRel_E.1 _) trivial
def x6_isLetter (v0 : Int) (σ : gMem) : Option Int := if v0 < 65 then some 0 else if 90 < v0 then some 0 else some 1
set_option maxRecDepth 100000 in
theorem ok_x6_isLetter {ω : gW} {l : Launch} {d : Nat} {σ : gMem} {v0 : Int} (hl : l.stackTraces = false) (hdp : 0 ≤ d) (hv0 : g32 v0) : gK (fun x : Int => (.inl (some (vI x)), σ)) gE ω l d mu_x6_isLetter [vI v0] σ (x6_isLetter v0 σ) := by
  refine gK.of hp_X6 (Nat.le_of_ble_eq_true rfl) ?_
  unfold x6_isLetter
  refine x_iload_n (μ := mu_x6_isLetter) (pc := 0) 0 dX6_isLetter_0 rfl ?_
  refine x_bipush (μ := mu_x6_isLetter) (pc := 1) dX6_isLetter_1 (by decide) ?_
  refine x_icmp_lt (μ := mu_x6_isLetter) (pc := 3) (tgt := 16) dX6_isLetter_3 rfl hv0 (by decide) ?_ ?_
  · refine x_iconst (μ := mu_x6_isLetter) (pc := 16) dX6_isLetter_16 ?_
    exact x_zret (μ := mu_x6_isLetter) (pc := 17) dX6_isLetter_17 rfl (by decide) rfl (gRel_E.1 _) (show g32 0 from (by decide))
  · refine x_iload_n (μ := mu_x6_isLetter) (pc := 6) 0 dX6_isLetter_6 rfl ?_
    refine x_bipush (μ := mu_x6_isLetter) (pc := 7) dX6_isLetter_7 (by decide) ?_
    refine x_icmp_gt (μ := mu_x6_isLetter) (pc := 9) (tgt := 16) dX6_isLetter_9 rfl hv0 (by decide) ?_ ?_
    · refine x_iconst (μ := mu_x6_isLetter) (pc := 16) dX6_isLetter_16 ?_
      exact x_zret (μ := mu_x6_isLetter) (pc := 17) dX6_isLetter_17 rfl (by decide) rfl (gRel_E.1 _) (show g32 0 from (by decide))
    · refine x_iconst (μ := mu_x6_isLetter) (pc := 12) dX6_isLetter_12 ?_
      refine x_goto (μ := mu_x6_isLetter) (pc := 13) (tgt := 17) dX6_isLetter_13 rfl ?_
      exact x_zret (μ := mu_x6_isLetter) (pc := 17) dX6_isLetter_17 rfl (by decide) rfl (gRel_E.1 _) (show g32 1 from (by decide))
def x6_sheetOf (v0 : Nat) (v1 : Int) (σ : gMem) : Option Nat := if v1 ≠ (-1) then if mT σ v0 = 6 then if mI σ v0 1 ≤ v1 then some 0 else if mT σ (mR σ v0 0) = 104 then if 0 ≤ v1 ∧ v1 < (mN σ (mR σ v0 0) : Int) then if mT σ (mR σ (mR σ v0 0) v1.toNat) = 9 then some (mR σ (mR σ (mR σ v0 0) v1.toNat) 0) else none else none else none else none else if mT σ v0 = 6 then some (mR σ v0 2) else none
set_option maxRecDepth 100000 in
theorem ok_x6_sheetOf {ω : gW} {l : Launch} {d : Nat} {σ : gMem} {v0 : Nat} {v1 : Int} (hl : l.stackTraces = false) (hdp : 0 ≤ d) (hv1 : g32 v1) : gK (fun x : Nat => (.inl (some (vR x)), σ)) gE ω l d mu_x6_sheetOf [vR v0, vI v1] σ (x6_sheetOf v0 v1 σ) := by
  refine gK.of hp_X6 (Nat.le_of_ble_eq_true rfl) ?_
  unfold x6_sheetOf
  refine x_iload_n (μ := mu_x6_sheetOf) (pc := 0) 1 dX6_sheetOf_0 rfl ?_
  refine x_iconst (μ := mu_x6_sheetOf) (pc := 1) dX6_sheetOf_1 ?_
  refine x_icmp_ne (μ := mu_x6_sheetOf) (pc := 2) (tgt := 12) dX6_sheetOf_2 rfl hv1 (by decide) ?_ ?_
  · refine x_iload_n (μ := mu_x6_sheetOf) (pc := 12) 1 dX6_sheetOf_12 rfl ?_
    refine x_aload_n (μ := mu_x6_sheetOf) (pc := 13) 0 dX6_sheetOf_13 rfl ?_
    refine x_if (fun hT1 => ?_)
    refine x_fgi (μ := mu_x6_sheetOf) (pc := 14) fX6_1 q482 dX6_sheetOf_14 hT1 (fun hr2 => ?_)
    refine x_icmp_ge (μ := mu_x6_sheetOf) (pc := 17) (tgt := 32) dX6_sheetOf_17 rfl hv1 hr2 ?_ ?_
    · refine x_null (μ := mu_x6_sheetOf) (pc := 32) dX6_sheetOf_32 ?_
      exact x_aret (μ := mu_x6_sheetOf) (pc := 33) dX6_sheetOf_33 rfl (by first | exact Or.inl ⟨_, rfl⟩ | exact Or.inr ⟨_, rfl⟩) rfl (gRel_E.1 _) trivial
    · refine x_aload_n (μ := mu_x6_sheetOf) (pc := 20) 0 dX6_sheetOf_20 rfl ?_
      refine x_fgr (μ := mu_x6_sheetOf) (pc := 21) fX6_0 (by first | exact Or.inl ⟨_, rfl⟩ | exact Or.inr ⟨_, rfl⟩) q481 dX6_sheetOf_21 hT1 ?_
      refine x_iload_n (μ := mu_x6_sheetOf) (pc := 24) 1 dX6_sheetOf_24 rfl ?_
      refine x_if (fun hT3 => ?_)
      refine x_aald (μ := mu_x6_sheetOf) (pc := 25) 4 (fun _ => rfl) rfl rfl dX6_sheetOf_25 hT3 rfl ?_
      refine x_if (fun hT4 => ?_)
      refine x_fgrN (μ := mu_x6_sheetOf) (pc := 26) fX10_0 (by first | exact Or.inl ⟨_, rfl⟩ | exact Or.inr ⟨_, rfl⟩) q602 dX6_sheetOf_26 hT4 ?_
      refine x_goto (μ := mu_x6_sheetOf) (pc := 29) (tgt := 33) dX6_sheetOf_29 rfl ?_
      exact x_aret (μ := mu_x6_sheetOf) (pc := 33) dX6_sheetOf_33 rfl (by first | exact Or.inl ⟨_, rfl⟩ | exact Or.inr ⟨_, rfl⟩) rfl (gRel_E.1 _) trivial
  · refine x_aload_n (μ := mu_x6_sheetOf) (pc := 5) 0 dX6_sheetOf_5 rfl ?_
    refine x_if (fun hT5 => ?_)
    refine x_fgr (μ := mu_x6_sheetOf) (pc := 6) fX6_2 (by first | exact Or.inl ⟨_, rfl⟩ | exact Or.inr ⟨_, rfl⟩) q483 dX6_sheetOf_6 hT5 ?_
    refine x_goto (μ := mu_x6_sheetOf) (pc := 9) (tgt := 33) dX6_sheetOf_9 rfl ?_
    exact x_aret (μ := mu_x6_sheetOf) (pc := 33) dX6_sheetOf_33 rfl (by first | exact Or.inl ⟨_, rfl⟩ | exact Or.inr ⟨_, rfl⟩) rfl (gRel_E.1 _) trivial
def x6_late_j16 (v0 : Nat) (v1 : Int) (v2 : Int) (s : gMem) : Option gMem := if mT s v0 = 6 then gLet (wI s v0 14 v1) (fun s4 => gLet (wI s4 v0 15 v2) (fun s6 => some s6)) else none
set_option maxRecDepth 100000 in
theorem okj_x6_late_j16 {ω : gW} {l : Launch} {d : Nat} {σ0 : gMem} {s : gMem} {v0 : Nat} {v1 : Int} {v2 : Int} (hl : l.stackTraces = false) (hdp : 0 ≤ d) (hv1 : g32 v1) (hv2 : g32 v2) : GG (fun p : gMem => (.inl none, p)) gE ω l d mu_x6_late σ0 16 [(0, vR v0), (1, vI v1), (2, vI v2)] [] s (x6_late_j16 v0 v1 v2 s) := by
  unfold x6_late_j16
  refine x_aload_n (μ := mu_x6_late) (pc := 16) 0 dX6_late_16 rfl ?_
  refine x_iload_n (μ := mu_x6_late) (pc := 17) 1 dX6_late_17 rfl ?_
  refine x_if (fun hT3 => ?_)
  refine x_fpi (μ := mu_x6_late) (pc := 18) fX6_14 q497 dX6_late_18 hT3 (fun _ q => gE_wI q) ?_
  refine x_let (fun s4 e5 => ?_)
  refine x_aload_n (μ := mu_x6_late) (pc := 21) 0 dX6_late_21 rfl ?_
  refine x_iload_n (μ := mu_x6_late) (pc := 22) 2 dX6_late_22 rfl ?_
  refine x_fpi (μ := mu_x6_late) (pc := 23) fX6_15 q498 dX6_late_23 (gT_I e5 hT3) (fun _ q => gE_wI q) ?_
  refine x_let (fun s6 e7 => ?_)
  exact x_vret (μ := mu_x6_late) (pc := 26) (a1 := s6) dX6_late_26 rfl rfl (gRel_E.1 _) trivial
def x6_late (v0 : Nat) (v1 : Int) (v2 : Int) (σ : gMem) : Option gMem := if mT σ v0 = 6 then if mI σ v0 14 = 0 then x6_late_j16 v0 v1 v2  σ else if v2 < mI σ v0 15 then x6_late_j16 v0 v1 v2  σ else some σ else none
set_option maxRecDepth 100000 in
theorem ok_x6_late {ω : gW} {l : Launch} {d : Nat} {σ : gMem} {v0 : Nat} {v1 : Int} {v2 : Int} (hl : l.stackTraces = false) (hdp : 0 ≤ d) (hv1 : g32 v1) (hv2 : g32 v2) : gK (fun p : gMem => (.inl none, p)) gE ω l d mu_x6_late [vR v0, vI v1, vI v2] σ (x6_late v0 v1 v2 σ) := by
  refine gK.of hp_X6 (Nat.le_of_ble_eq_true rfl) ?_
  unfold x6_late
  refine x_aload_n (μ := mu_x6_late) (pc := 0) 0 dX6_late_0 rfl ?_
  refine x_if (fun hT1 => ?_)
  refine x_fgi (μ := mu_x6_late) (pc := 1) fX6_14 q497 dX6_late_1 hT1 (fun hr2 => ?_)
  refine x_if_eq (μ := mu_x6_late) (pc := 4) (tgt := 16) dX6_late_4 rfl hr2 ?_ ?_
  · exact okj_x6_late_j16 hl hdp hv1 hv2
  · refine x_aload_n (μ := mu_x6_late) (pc := 7) 0 dX6_late_7 rfl ?_
    refine x_fgi (μ := mu_x6_late) (pc := 8) fX6_15 q498 dX6_late_8 hT1 (fun hr8 => ?_)
    refine x_iload_n (μ := mu_x6_late) (pc := 11) 2 dX6_late_11 rfl ?_
    refine x_icmp_gt (μ := mu_x6_late) (pc := 12) (tgt := 16) dX6_late_12 rfl hr8 hv2 ?_ ?_
    · exact okj_x6_late_j16 hl hdp hv1 hv2
    · exact x_vret (μ := mu_x6_late) (pc := 15) (a1 := σ) dX6_late_15 rfl rfl (gRel_E.1 _) trivial
def x6_two (v0 : Nat) (v1 : Nat) (v2 : Nat) (v3 : Nat) (σ : gMem) : Option (Nat × gMem) := if mT σ v0 = 6 then gLet (wI σ v0 8 (w32 ((mI σ v0 8) + 1))) (fun s3 => gLet (wN s3 20 3) (fun s6 => (x22_init (mZ s3) v1 v2 v3 s6).bind (fun x8 => some (mZ s3, x8)))) else none
set_option maxRecDepth 100000 in
theorem ok_x6_two {ω : gW} {l : Launch} {d : Nat} {σ : gMem} {v0 : Nat} {v1 : Nat} {v2 : Nat} {v3 : Nat} (hl : l.stackTraces = false) (hdp : 3 ≤ d) : gK (fun p : Nat × gMem => (.inl (some (vR p.1)), p.2)) gE ω l d mu_x6_two [vR v0, vR v1, vR v2, vR v3] σ (x6_two v0 v1 v2 v3 σ) := by
  refine gK.of hp_X6 (Nat.le_of_ble_eq_true rfl) ?_
  unfold x6_two
  refine x_aload_n (μ := mu_x6_two) (pc := 0) 0 dX6_two_0 rfl ?_
  refine x_dup (μ := mu_x6_two) (pc := 1) dX6_two_1 rfl ?_
  refine x_if (fun hT1 => ?_)
  refine x_fgi (μ := mu_x6_two) (pc := 2) fX6_8 q489 dX6_two_2 hT1 (fun hr2 => ?_)
  refine x_iconst (μ := mu_x6_two) (pc := 5) dX6_two_5 ?_
  refine x_iadd (μ := mu_x6_two) (pc := 6) dX6_two_6 ?_
  refine x_w1 ?_
  refine x_fpi (μ := mu_x6_two) (pc := 7) fX6_8 q489 dX6_two_7 hT1 (fun _ q => gE_wI q) ?_
  refine x_let (fun s3 e4 => ?_)
  refine x_ok (fun ok5 => ?_)
  refine x_new (μ := mu_x6_two) (pc := 10) (ci := 19) gk_X22 gd_X22 q2066 q2067 q255 dX6_two_10 ?_
  refine x_let (fun s6 e7 => ?_)
  refine x_dup (μ := mu_x6_two) (pc := 13) dX6_two_13 rfl ?_
  refine x_aload_n (μ := mu_x6_two) (pc := 14) 1 dX6_two_14 rfl ?_
  refine x_aload_n (μ := mu_x6_two) (pc := 15) 2 dX6_two_15 rfl ?_
  refine x_aload_n (μ := mu_x6_two) (pc := 16) 3 dX6_two_16 rfl ?_
  refine x_callIN_mv (μ := mu_x6_two) (pc := 17) (ok_x22_init (ω := ω) (l := l) (d := d - 1) hl (by omega) ) gRel_E gRel_E (fun _ q => q) q2068 q2069 q255 q2070 dX6_two_17 (gT_ne (gT_new e7)) rfl hy_x22_init (by omega) (Nat.le_of_ble_eq_true rfl) rfl (Nat.le_of_ble_eq_true rfl) (fun x8 k9 => ?_)
  exact x_aret (μ := mu_x6_two) (pc := 20) dX6_two_20 rfl (by first | exact Or.inl ⟨_, rfl⟩ | exact Or.inr ⟨_, rfl⟩) rfl (gRel_E.1 _) trivial
def x7_values (σ : gMem) : Option (Nat × gMem) := if mT σ (mR σ 0 40) = 93 then gLet (wK σ (mR σ 0 40) 109) (fun s3 => some (mZ σ, s3)) else none
set_option maxRecDepth 100000 in
theorem ok_x7_values {ω : gW} {l : Launch} {d : Nat} {σ : gMem} (hl : l.stackTraces = false) (hdp : 1 ≤ d) : gK (fun p : Nat × gMem => (.inl (some (vR p.1)), p.2)) gE ω l d mu_x7_values [] σ (x7_values σ) := by
  refine gK.of hp_X7 (Nat.le_of_ble_eq_true rfl) ?_
  unfold x7_values
  refine x_gst (μ := mu_x7_values) (pc := 0) (j := 40) (List.mem_of_getElem? (i := 30) rfl) q471 dX7_values_0 ?_
  refine x_if (fun hT2 => ?_)
  refine x_ok (fun ok1 => ?_)
  refine x_cloneV (μ := mu_x7_values) (pc := 3) q473 dX7_values_3 hT2 (by omega) (Nat.le_of_ble_eq_true rfl) ?_
  refine x_let (fun s3 e4 => ?_)
  refine x_castA (μ := mu_x7_values) (pc := 6) 9 (fun _ => rfl) (Or.inl ⟨_, rfl, rfl⟩) q480 dX7_values_6 (gT_newK e4) ?_
  exact x_aret (μ := mu_x7_values) (pc := 9) dX7_values_9 rfl (by first | exact Or.inl ⟨_, rfl⟩ | exact Or.inr ⟨_, rfl⟩) rfl (gRel_E.1 _) trivial
def x7_wantsSpot (v0 : Nat) (σ : gMem) : Option Int := if v0 = mR σ 0 16 then some 1 else if v0 ≠ mR σ 0 17 then some 0 else some 1
set_option maxRecDepth 100000 in
theorem ok_x7_wantsSpot {ω : gW} {l : Launch} {d : Nat} {σ : gMem} {v0 : Nat} (hl : l.stackTraces = false) (hdp : 0 ≤ d) : gK (fun x : Int => (.inl (some (vI x)), σ)) gE ω l d mu_x7_wantsSpot [vR v0] σ (x7_wantsSpot v0 σ) := by
  refine gK.of hp_X7 (Nat.le_of_ble_eq_true rfl) ?_
  unfold x7_wantsSpot
  refine x_aload_n (μ := mu_x7_wantsSpot) (pc := 0) 0 dX7_wantsSpot_0 rfl ?_
  refine x_gst (μ := mu_x7_wantsSpot) (pc := 1) (j := 16) (List.mem_of_getElem? (i := 16) rfl) q880 dX7_wantsSpot_1 ?_
  refine x_acmp_eq (μ := mu_x7_wantsSpot) (pc := 4) (tgt := 14) dX7_wantsSpot_4 rfl ?_ ?_
  · refine x_iconst (μ := mu_x7_wantsSpot) (pc := 14) dX7_wantsSpot_14 ?_
    refine x_goto (μ := mu_x7_wantsSpot) (pc := 15) (tgt := 19) dX7_wantsSpot_15 rfl ?_
    exact x_zret (μ := mu_x7_wantsSpot) (pc := 19) dX7_wantsSpot_19 rfl (by decide) rfl (gRel_E.1 _) (show g32 1 from (by decide))
  · refine x_aload_n (μ := mu_x7_wantsSpot) (pc := 7) 0 dX7_wantsSpot_7 rfl ?_
    refine x_gst (μ := mu_x7_wantsSpot) (pc := 8) (j := 17) (List.mem_of_getElem? (i := 17) rfl) q882 dX7_wantsSpot_8 ?_
    refine x_acmp_ne (μ := mu_x7_wantsSpot) (pc := 11) (tgt := 18) dX7_wantsSpot_11 rfl ?_ ?_
    · refine x_iconst (μ := mu_x7_wantsSpot) (pc := 18) dX7_wantsSpot_18 ?_
      exact x_zret (μ := mu_x7_wantsSpot) (pc := 19) dX7_wantsSpot_19 rfl (by decide) rfl (gRel_E.1 _) (show g32 0 from (by decide))
    · refine x_iconst (μ := mu_x7_wantsSpot) (pc := 14) dX7_wantsSpot_14 ?_
      refine x_goto (μ := mu_x7_wantsSpot) (pc := 15) (tgt := 19) dX7_wantsSpot_15 rfl ?_
      exact x_zret (μ := mu_x7_wantsSpot) (pc := 19) dX7_wantsSpot_19 rfl (by decide) rfl (gRel_E.1 _) (show g32 1 from (by decide))
def x7_takes (v0 : Nat) (v1 : Int) (v2 : Nat) (σ : gMem) : Option Int := if mT σ v0 = 91 then if bAnd (bShr (mI σ v0 4) v1) 1 ≠ 1 then (x7_wantsSpot v0 σ).bind (fun x3 => if x3 = 0 then if v2 = 0 ∨ gNode (mT σ v2) = true then if mT σ v2 = 17 then if bAnd (bShr (mI σ v0 5) v1) 1 ≠ 1 then some 0 else some 1 else some 1 else none else if v2 = 0 ∨ gNode (mT σ v2) = true then if mT σ v2 = 15 then some 1 else if v2 = 0 ∨ gNode (mT σ v2) = true then if mT σ v2 = 13 then some 1 else some 0 else none else none) else if v2 = 0 ∨ gNode (mT σ v2) = true then if mT σ v2 = 17 then some 1 else if v2 = 0 ∨ gNode (mT σ v2) = true then if mT σ v2 = 13 then some 1 else some 0 else none else none else none
set_option maxRecDepth 100000 in
theorem ok_x7_takes {ω : gW} {l : Launch} {d : Nat} {σ : gMem} {v0 : Nat} {v1 : Int} {v2 : Nat} (hl : l.stackTraces = false) (hdp : 1 ≤ d) (hv1 : g32 v1) : gK (fun x : Int => (.inl (some (vI x)), σ)) gE ω l d mu_x7_takes [vR v0, vI v1, vR v2] σ (x7_takes v0 v1 v2 σ) := by
  refine gK.of hp_X7 (Nat.le_of_ble_eq_true rfl) ?_
  unfold x7_takes
  refine x_aload_n (μ := mu_x7_takes) (pc := 0) 0 dX7_takes_0 rfl ?_
  refine x_if (fun hT1 => ?_)
  refine x_ei (μ := mu_x7_takes) (pc := 1) (k := 4) (List.mem_of_getElem? (i := 3) rfl) (by decide) q3793 dX7_takes_1 hT1 (fun hr2 => ?_)
  refine x_iload_n (μ := mu_x7_takes) (pc := 4) 1 dX7_takes_4 rfl ?_
  refine x_ishr (μ := mu_x7_takes) (pc := 5) dX7_takes_5 ?_
  refine x_iconst (μ := mu_x7_takes) (pc := 6) dX7_takes_6 ?_
  refine x_iand (μ := mu_x7_takes) (pc := 7) dX7_takes_7 ?_
  refine x_iconst (μ := mu_x7_takes) (pc := 8) dX7_takes_8 ?_
  refine x_icmp_ne (μ := mu_x7_takes) (pc := 9) (tgt := 32) dX7_takes_9 rfl (bAnd_rng _ _) (by decide) ?_ ?_
  · refine x_aload_n (μ := mu_x7_takes) (pc := 32) 0 dX7_takes_32 rfl ?_
    refine x_callE_pi (μ := mu_x7_takes) (pc := 33) (ok_x7_wantsSpot (ω := ω) (l := l) (d := d - 1) hl (by omega) ) gRel_E gRel_E (fun _ q => q) q2033 q877 qs8 q228 q879 dX7_takes_33 rfl hT1 hy_x7_wantsSpot (by omega) (Nat.le_of_ble_eq_true rfl) rfl (Nat.le_of_ble_eq_true rfl) (fun x3 hr4 => ?_)
    refine x_if_eq (μ := mu_x7_takes) (pc := 36) (tgt := 59) dX7_takes_36 rfl hr4 ?_ ?_
    · refine x_aload_n (μ := mu_x7_takes) (pc := 59) 2 dX7_takes_59 rfl ?_
      refine x_if (fun hg5 => ?_)
      refine x_inst (μ := mu_x7_takes) (pc := 60) (ci := 16) (by decide) rfl q2031 dX7_takes_60 hg5 ?_ ?_
      · refine x_if_eqF (μ := mu_x7_takes) (pc := 63) (tgt := 78) dX7_takes_63 rfl (by decide) (by decide) ?_
        refine x_aload_n (μ := mu_x7_takes) (pc := 66) 0 dX7_takes_66 rfl ?_
        refine x_ei (μ := mu_x7_takes) (pc := 67) (k := 5) (List.mem_of_getElem? (i := 4) rfl) (by decide) q3794 dX7_takes_67 hT1 (fun hr6 => ?_)
        refine x_iload_n (μ := mu_x7_takes) (pc := 70) 1 dX7_takes_70 rfl ?_
        refine x_ishr (μ := mu_x7_takes) (pc := 71) dX7_takes_71 ?_
        refine x_iconst (μ := mu_x7_takes) (pc := 72) dX7_takes_72 ?_
        refine x_iand (μ := mu_x7_takes) (pc := 73) dX7_takes_73 ?_
        refine x_iconst (μ := mu_x7_takes) (pc := 74) dX7_takes_74 ?_
        refine x_icmp_ne (μ := mu_x7_takes) (pc := 75) (tgt := 82) dX7_takes_75 rfl (bAnd_rng _ _) (by decide) ?_ ?_
        · refine x_iconst (μ := mu_x7_takes) (pc := 82) dX7_takes_82 ?_
          exact x_zret (μ := mu_x7_takes) (pc := 83) dX7_takes_83 rfl (by decide) rfl (gRel_E.1 _) (show g32 0 from (by decide))
        · refine x_iconst (μ := mu_x7_takes) (pc := 78) dX7_takes_78 ?_
          refine x_goto (μ := mu_x7_takes) (pc := 79) (tgt := 83) dX7_takes_79 rfl ?_
          exact x_zret (μ := mu_x7_takes) (pc := 83) dX7_takes_83 rfl (by decide) rfl (gRel_E.1 _) (show g32 1 from (by decide))
      · refine x_if_eqT (μ := mu_x7_takes) (pc := 63) (tgt := 78) dX7_takes_63 rfl (by decide) (by decide) ?_
        refine x_iconst (μ := mu_x7_takes) (pc := 78) dX7_takes_78 ?_
        refine x_goto (μ := mu_x7_takes) (pc := 79) (tgt := 83) dX7_takes_79 rfl ?_
        exact x_zret (μ := mu_x7_takes) (pc := 83) dX7_takes_83 rfl (by decide) rfl (gRel_E.1 _) (show g32 1 from (by decide))
    · refine x_aload_n (μ := mu_x7_takes) (pc := 39) 2 dX7_takes_39 rfl ?_
      refine x_if (fun hg7 => ?_)
      refine x_inst (μ := mu_x7_takes) (pc := 40) (ci := 14) (by decide) rfl q2034 dX7_takes_40 hg7 ?_ ?_
      · refine x_if_neT (μ := mu_x7_takes) (pc := 43) (tgt := 53) dX7_takes_43 rfl (by decide) (by decide) ?_
        refine x_iconst (μ := mu_x7_takes) (pc := 53) dX7_takes_53 ?_
        refine x_goto (μ := mu_x7_takes) (pc := 54) (tgt := 58) dX7_takes_54 rfl ?_
        exact x_zret (μ := mu_x7_takes) (pc := 58) dX7_takes_58 rfl (by decide) rfl (gRel_E.1 _) (show g32 1 from (by decide))
      · refine x_if_neF (μ := mu_x7_takes) (pc := 43) (tgt := 53) dX7_takes_43 rfl (by decide) (by decide) ?_
        refine x_aload_n (μ := mu_x7_takes) (pc := 46) 2 dX7_takes_46 rfl ?_
        refine x_if (fun hg8 => ?_)
        refine x_inst (μ := mu_x7_takes) (pc := 47) (ci := 12) (by decide) rfl q2032 dX7_takes_47 hg8 ?_ ?_
        · refine x_if_eqF (μ := mu_x7_takes) (pc := 50) (tgt := 57) dX7_takes_50 rfl (by decide) (by decide) ?_
          refine x_iconst (μ := mu_x7_takes) (pc := 53) dX7_takes_53 ?_
          refine x_goto (μ := mu_x7_takes) (pc := 54) (tgt := 58) dX7_takes_54 rfl ?_
          exact x_zret (μ := mu_x7_takes) (pc := 58) dX7_takes_58 rfl (by decide) rfl (gRel_E.1 _) (show g32 1 from (by decide))
        · refine x_if_eqT (μ := mu_x7_takes) (pc := 50) (tgt := 57) dX7_takes_50 rfl (by decide) (by decide) ?_
          refine x_iconst (μ := mu_x7_takes) (pc := 57) dX7_takes_57 ?_
          exact x_zret (μ := mu_x7_takes) (pc := 58) dX7_takes_58 rfl (by decide) rfl (gRel_E.1 _) (show g32 0 from (by decide))
  · refine x_aload_n (μ := mu_x7_takes) (pc := 12) 2 dX7_takes_12 rfl ?_
    refine x_if (fun hg9 => ?_)
    refine x_inst (μ := mu_x7_takes) (pc := 13) (ci := 16) (by decide) rfl q2031 dX7_takes_13 hg9 ?_ ?_
    · refine x_if_neT (μ := mu_x7_takes) (pc := 16) (tgt := 26) dX7_takes_16 rfl (by decide) (by decide) ?_
      refine x_iconst (μ := mu_x7_takes) (pc := 26) dX7_takes_26 ?_
      refine x_goto (μ := mu_x7_takes) (pc := 27) (tgt := 31) dX7_takes_27 rfl ?_
      exact x_zret (μ := mu_x7_takes) (pc := 31) dX7_takes_31 rfl (by decide) rfl (gRel_E.1 _) (show g32 1 from (by decide))
    · refine x_if_neF (μ := mu_x7_takes) (pc := 16) (tgt := 26) dX7_takes_16 rfl (by decide) (by decide) ?_
      refine x_aload_n (μ := mu_x7_takes) (pc := 19) 2 dX7_takes_19 rfl ?_
      refine x_if (fun hg10 => ?_)
      refine x_inst (μ := mu_x7_takes) (pc := 20) (ci := 12) (by decide) rfl q2032 dX7_takes_20 hg10 ?_ ?_
      · refine x_if_eqF (μ := mu_x7_takes) (pc := 23) (tgt := 30) dX7_takes_23 rfl (by decide) (by decide) ?_
        refine x_iconst (μ := mu_x7_takes) (pc := 26) dX7_takes_26 ?_
        refine x_goto (μ := mu_x7_takes) (pc := 27) (tgt := 31) dX7_takes_27 rfl ?_
        exact x_zret (μ := mu_x7_takes) (pc := 31) dX7_takes_31 rfl (by decide) rfl (gRel_E.1 _) (show g32 1 from (by decide))
      · refine x_if_eqT (μ := mu_x7_takes) (pc := 23) (tgt := 30) dX7_takes_23 rfl (by decide) (by decide) ?_
        refine x_iconst (μ := mu_x7_takes) (pc := 30) dX7_takes_30 ?_
        exact x_zret (μ := mu_x7_takes) (pc := 31) dX7_takes_31 rfl (by decide) rfl (gRel_E.1 _) (show g32 0 from (by decide))
def x8_init (v0 : Nat) (v1 : Nat) (σ : gMem) : Option gMem := if mT σ v0 = 7 then if 0 ≤ (4000 : Int) ∧ (4000 : Int) < 1000000 then gLet (wN σ 102 (4000 : Int).toNat) (fun s4 => gLet (wR s4 v0 0 (mZ σ)) (fun s6 => gLet (wR s6 v0 3 v1) (fun s8 => some s8))) else none else none
set_option maxRecDepth 100000 in
theorem ok_x8_init {ω : gW} {l : Launch} {d : Nat} {σ : gMem} {v0 : Nat} {v1 : Nat} (hl : l.stackTraces = false) (hdp : 1 ≤ d) : gK (fun p : gMem => (.inl none, p)) gE ω l d mu_x8_init [vR v0, vR v1] σ (x8_init v0 v1 σ) := by
  refine gK.of hp_X8 (Nat.le_of_ble_eq_true rfl) ?_
  unfold x8_init
  refine x_aload_n (μ := mu_x8_init) (pc := 0) 0 dX8_init_0 rfl ?_
  refine x_if (fun hT1 => ?_)
  refine x_objI (μ := mu_x8_init) (pc := 1) (ci := 6) rfl q541 dX8_init_1 hT1 (by omega) (Nat.le_of_ble_eq_true rfl) ?_
  refine x_aload_n (μ := mu_x8_init) (pc := 4) 0 dX8_init_4 rfl ?_
  refine x_sipush (μ := mu_x8_init) (pc := 5) dX8_init_5 (by decide) ?_
  refine x_if (fun hg2 => ?_)
  refine x_ok (fun ok3 => ?_)
  refine x_newab (μ := mu_x8_init) (pc := 8) dX8_init_8 hg2 ?_
  refine x_let (fun s4 e5 => ?_)
  refine x_fprF (μ := mu_x8_init) (pc := 10) fX8_0 q542 rfl rfl (by first | exact Or.inl ⟨_, rfl⟩ | exact Or.inr ⟨_, rfl⟩) dX8_init_10 (gT_N e5 ok3 hT1 (by decide)) (fun _ q => gE_wR q) ?_
  refine x_let (fun s6 e7 => ?_)
  refine x_aload_n (μ := mu_x8_init) (pc := 13) 0 dX8_init_13 rfl ?_
  refine x_aload_n (μ := mu_x8_init) (pc := 14) 1 dX8_init_14 rfl ?_
  refine x_fprF (μ := mu_x8_init) (pc := 15) fX8_3 q547 rfl rfl (by first | exact Or.inl ⟨_, rfl⟩ | exact Or.inr ⟨_, rfl⟩) dX8_init_15 (gT_R e7 (gT_N e5 ok3 hT1 (by decide))) (fun _ q => gE_wR q) ?_
  refine x_let (fun s8 e9 => ?_)
  exact x_vret (μ := mu_x8_init) (pc := 18) (a1 := s8) dX8_init_18 rfl rfl (gRel_E.1 _) trivial
def x8_clear (v0 : Nat) (σ : gMem) : Option gMem := if mT σ v0 = 7 then gLet (wI σ v0 1 0) (fun s2 => gLet (wI s2 v0 2 0) (fun s4 => some s4)) else none
set_option maxRecDepth 100000 in
theorem ok_x8_clear {ω : gW} {l : Launch} {d : Nat} {σ : gMem} {v0 : Nat} (hl : l.stackTraces = false) (hdp : 0 ≤ d) : gK (fun p : gMem => (.inl none, p)) gE ω l d mu_x8_clear [vR v0] σ (x8_clear v0 σ) := by
  refine gK.of hp_X8 (Nat.le_of_ble_eq_true rfl) ?_
  unfold x8_clear
  refine x_aload_n (μ := mu_x8_clear) (pc := 0) 0 dX8_clear_0 rfl ?_
  refine x_iconst (μ := mu_x8_clear) (pc := 1) dX8_clear_1 ?_
  refine x_if (fun hT1 => ?_)
  refine x_fpi (μ := mu_x8_clear) (pc := 2) fX8_1 q544 dX8_clear_2 hT1 (fun _ q => gE_wI q) ?_
  refine x_let (fun s2 e3 => ?_)
  refine x_aload_n (μ := mu_x8_clear) (pc := 5) 0 dX8_clear_5 rfl ?_
  refine x_iconst (μ := mu_x8_clear) (pc := 6) dX8_clear_6 ?_
  refine x_fpz (μ := mu_x8_clear) (pc := 7) fX8_2 q546 (by decide) dX8_clear_7 (gT_I e3 hT1) (fun _ q => gE_wI q) ?_
  refine x_let (fun s4 e5 => ?_)
  exact x_vret (μ := mu_x8_clear) (pc := 10) (a1 := s4) dX8_clear_10 rfl rfl (gRel_E.1 _) trivial
def x8_put (v0 : Nat) (v1 : Int) (σ : gMem) : Option gMem := if mT σ v0 = 7 then if mT σ (mR σ v0 0) = 102 then if 0 ≤ (mI σ v0 1) ∧ (mI σ v0 1) < (mN σ (mR σ v0 0) : Int) then gLet (wI σ (mR σ v0 0) (mI σ v0 1).toNat (bByte v1)) (fun s4 => gLet (wI s4 v0 1 (w32 ((mI s4 v0 1) + 1))) (fun s7 => some s7)) else none else none else none
set_option maxRecDepth 100000 in
theorem ok_x8_put {ω : gW} {l : Launch} {d : Nat} {σ : gMem} {v0 : Nat} {v1 : Int} (hl : l.stackTraces = false) (hdp : 0 ≤ d) (hv1 : g32 v1) : gK (fun p : gMem => (.inl none, p)) gE ω l d mu_x8_put [vR v0, vI v1] σ (x8_put v0 v1 σ) := by
  refine gK.of hp_X8 (Nat.le_of_ble_eq_true rfl) ?_
  unfold x8_put
  refine x_aload_n (μ := mu_x8_put) (pc := 0) 0 dX8_put_0 rfl ?_
  refine x_if (fun hT1 => ?_)
  refine x_fgr (μ := mu_x8_put) (pc := 1) fX8_0 (by first | exact Or.inl ⟨_, rfl⟩ | exact Or.inr ⟨_, rfl⟩) q542 dX8_put_1 hT1 ?_
  refine x_aload_n (μ := mu_x8_put) (pc := 4) 0 dX8_put_4 rfl ?_
  refine x_fgi (μ := mu_x8_put) (pc := 5) fX8_1 q544 dX8_put_5 hT1 (fun hr2 => ?_)
  refine x_iload_n (μ := mu_x8_put) (pc := 8) 1 dX8_put_8 rfl ?_
  refine x_i2b (μ := mu_x8_put) (pc := 9) dX8_put_9 ?_
  refine x_if (fun hT3 => ?_)
  refine x_bast (μ := mu_x8_put) (pc := 10) dX8_put_10 hT3 rfl (bByte_b _) (fun _ _ q => gE_wI q) ?_
  refine x_let (fun s4 e5 => ?_)
  refine x_aload_n (μ := mu_x8_put) (pc := 11) 0 dX8_put_11 rfl ?_
  refine x_dup (μ := mu_x8_put) (pc := 12) dX8_put_12 rfl ?_
  refine x_fgi (μ := mu_x8_put) (pc := 13) fX8_1 q544 dX8_put_13 (gT_I e5 hT1) (fun hr6 => ?_)
  refine x_iconst (μ := mu_x8_put) (pc := 16) dX8_put_16 ?_
  refine x_iadd (μ := mu_x8_put) (pc := 17) dX8_put_17 ?_
  refine x_w1 ?_
  refine x_fpi (μ := mu_x8_put) (pc := 18) fX8_1 q544 dX8_put_18 (gT_I e5 hT1) (fun _ q => gE_wI q) ?_
  refine x_let (fun s7 e8 => ?_)
  exact x_vret (μ := mu_x8_put) (pc := 21) (a1 := s7) dX8_put_21 rfl rfl (gRel_E.1 _) trivial
def x8_sheetOf (v0 : Nat) (v1 : Int) (v2 : Nat) (σ : gMem) : Option Nat := if v1 ≠ (-1) then if mT σ v0 = 7 then if mT σ (mR σ v0 3) = 104 then if 0 ≤ v1 ∧ v1 < (mN σ (mR σ v0 3) : Int) then if mT σ (mR σ (mR σ v0 3) v1.toNat) = 9 then some (mR σ (mR σ (mR σ v0 3) v1.toNat) 0) else none else none else none else none else some v2
set_option maxRecDepth 100000 in
theorem ok_x8_sheetOf {ω : gW} {l : Launch} {d : Nat} {σ : gMem} {v0 : Nat} {v1 : Int} {v2 : Nat} (hl : l.stackTraces = false) (hdp : 0 ≤ d) (hv1 : g32 v1) : gK (fun x : Nat => (.inl (some (vR x)), σ)) gE ω l d mu_x8_sheetOf [vR v0, vI v1, vR v2] σ (x8_sheetOf v0 v1 v2 σ) := by
  refine gK.of hp_X8 (Nat.le_of_ble_eq_true rfl) ?_
  unfold x8_sheetOf
  refine x_iload_n (μ := mu_x8_sheetOf) (pc := 0) 1 dX8_sheetOf_0 rfl ?_
  refine x_iconst (μ := mu_x8_sheetOf) (pc := 1) dX8_sheetOf_1 ?_
  refine x_icmp_ne (μ := mu_x8_sheetOf) (pc := 2) (tgt := 9) dX8_sheetOf_2 rfl hv1 (by decide) ?_ ?_
  · refine x_aload_n (μ := mu_x8_sheetOf) (pc := 9) 0 dX8_sheetOf_9 rfl ?_
    refine x_if (fun hT1 => ?_)
    refine x_fgr (μ := mu_x8_sheetOf) (pc := 10) fX8_3 (by first | exact Or.inl ⟨_, rfl⟩ | exact Or.inr ⟨_, rfl⟩) q547 dX8_sheetOf_10 hT1 ?_
    refine x_iload_n (μ := mu_x8_sheetOf) (pc := 13) 1 dX8_sheetOf_13 rfl ?_
    refine x_if (fun hT2 => ?_)
    refine x_aald (μ := mu_x8_sheetOf) (pc := 14) 4 (fun _ => rfl) rfl rfl dX8_sheetOf_14 hT2 rfl ?_
    refine x_if (fun hT3 => ?_)
    refine x_fgrN (μ := mu_x8_sheetOf) (pc := 15) fX10_0 (by first | exact Or.inl ⟨_, rfl⟩ | exact Or.inr ⟨_, rfl⟩) q601 dX8_sheetOf_15 hT3 ?_
    exact x_aret (μ := mu_x8_sheetOf) (pc := 18) dX8_sheetOf_18 rfl (by first | exact Or.inl ⟨_, rfl⟩ | exact Or.inr ⟨_, rfl⟩) rfl (gRel_E.1 _) trivial
  · refine x_aload_n (μ := mu_x8_sheetOf) (pc := 5) 2 dX8_sheetOf_5 rfl ?_
    refine x_goto (μ := mu_x8_sheetOf) (pc := 6) (tgt := 18) dX8_sheetOf_6 rfl ?_
    exact x_aret (μ := mu_x8_sheetOf) (pc := 18) dX8_sheetOf_18 rfl (by first | exact Or.inl ⟨_, rfl⟩ | exact Or.inr ⟨_, rfl⟩) rfl (gRel_E.1 _) trivial
def x8_word_l2 (N : Nat) (v0 : Nat) (v1 : Nat) (K : gMem → Option gMem) : Nat → Int → gMem → Option gMem
  | 0, _, _ => none
  | n + 1, v2, s => if mT s v1 = 90 then if w32 (mN s v1 : Int) ≤ v2 then K s else if 0 ≤ v2 ∧ v2 < (mN s v1 : Int) then if mT s v0 = 7 then (x8_put v0 (mI s v1 v2.toNat) s).bind (fun x5 => x8_word_l2 N v0 v1 K n (w32 (v2 + 1)) x5) else none else none else none
set_option maxRecDepth 100000 in
theorem okl_x8_word_l2 {ω : gW} {l : Launch} {d : Nat} {N : Nat} {σ0 : gMem} {v0 : Nat} {v1 : Nat} {K : gMem → Option gMem} (hl : l.stackTraces = false) (hdp : 5 ≤ d) (hK : ∀ (s : gMem) , GG (fun p : gMem => (.inl none, p)) gE ω l d mu_x8_word σ0 25 [] [] s (K s)) : ∀ (n : Nat) (v2 : Int) (s : gMem) , g32 v2 → GG (fun p : gMem => (.inl none, p)) gE ω l d mu_x8_word σ0 2 [(0, vR v0), (1, vR v1), (2, vI v2)] [] s (x8_word_l2 N v0 v1 K n v2 s) := by
  intro n
  induction n with
  | zero => intros; exact x_none
  | succ n ih =>
    intro v2 s hv2
    unfold x8_word_l2
    refine x_iload_n (μ := mu_x8_word) (pc := 2) 2 dX8_word_2 rfl ?_
    refine x_aload_n (μ := mu_x8_word) (pc := 3) 1 dX8_word_3 rfl ?_
    refine x_if (fun hT1 => ?_)
    refine x_slen (μ := mu_x8_word) (pc := 4) q1387 dX8_word_4 hT1 (by omega) (Nat.le_of_ble_eq_true rfl) ?_
    refine x_w1 ?_
    refine x_icmp_ge (μ := mu_x8_word) (pc := 7) (tgt := 25) dX8_word_7 rfl hv2 (w32_rng _) ?_ ?_
    · refine x_loc (lv' := []) [] rfl ?_
      exact hK s
    · refine x_aload_n (μ := mu_x8_word) (pc := 10) 0 dX8_word_10 rfl ?_
      refine x_aload_n (μ := mu_x8_word) (pc := 11) 1 dX8_word_11 rfl ?_
      refine x_iload_n (μ := mu_x8_word) (pc := 12) 2 dX8_word_12 rfl ?_
      refine x_schar (μ := mu_x8_word) (pc := 13) q1388 dX8_word_13 hT1 hv2 (by omega) (Nat.le_of_ble_eq_true rfl) (fun hr3 => ?_)
      refine x_if (fun hT4 => ?_)
      refine x_callV_mv (μ := mu_x8_word) (pc := 16) (ok_x8_put (ω := ω) (l := l) (d := d - 1) hl (by omega) hr3) gRel_E gRel_E (fun _ q => q) q1365 q1366 q1367 q229 q1368 dX8_word_16 rfl hT4 hy_x8_put (by omega) (Nat.le_of_ble_eq_true rfl) rfl (Nat.le_of_ble_eq_true rfl) (fun x5 k6 => ?_)
      refine x_iincw (μ := mu_x8_word) (pc := 19) (lv' := [(2, vI (w32 (v2 + 1))), (0, vR v0), (1, vR v1)]) 2 dX8_word_19 rfl (by decide) rfl ?_
      refine x_goto (μ := mu_x8_word) (pc := 22) (tgt := 2) dX8_word_22 rfl ?_
      refine x_loc (lv' := [(0, vR v0), (1, vR v1), (2, vI (w32 (v2 + 1)))]) [1, 2, 0] rfl ?_
      exact ih (w32 (v2 + 1)) x5 (w32_rng _)
def x8_word (N : Nat) (v0 : Nat) (v1 : Nat) (σ : gMem) : Option gMem := x8_word_l2 N v0 v1 (fun s7 => some s7) N 0 σ
set_option maxRecDepth 100000 in
theorem ok_x8_word {ω : gW} {l : Launch} {d : Nat} {N : Nat} {σ : gMem} {v0 : Nat} {v1 : Nat} (hl : l.stackTraces = false) (hdp : 5 ≤ d) : gK (fun p : gMem => (.inl none, p)) gE ω l d mu_x8_word [vR v0, vR v1] σ (x8_word N v0 v1 σ) := by
  refine gK.of hp_X8 (Nat.le_of_ble_eq_true rfl) ?_
  unfold x8_word
  refine x_iconst (μ := mu_x8_word) (pc := 0) dX8_word_0 ?_
  refine x_istore_n (μ := mu_x8_word) (pc := 1) (lv' := [(2, vI 0), (0, vR v0), (1, vR v1)]) dX8_word_1 rfl (by decide) rfl ?_
  refine x_loc (lv' := [(0, vR v0), (1, vR v1), (2, vI 0)]) [1, 2, 0] rfl ?_
  refine okl_x8_word_l2 hl hdp (fun s7 => ?_) N 0 σ (by decide)
  exact x_vret (μ := mu_x8_word) (pc := 25) (a1 := s7) dX8_word_25 rfl rfl (gRel_E.1 _) trivial
def x8_number_o_j36 (W : Nat → Int → gMem → Option gMem) (v0 : Nat) (v1 : Int) (s : gMem) : Option gMem := if mT s v0 = 7 then (x8_put v0 (w32 (48 + (Int.tmod v1 10))) s).bind (fun x2 => some x2) else none
set_option maxRecDepth 100000 in
theorem okj_x8_number_o_j36 {ω : gW} {l : Launch} {d : Nat} {W : Nat → Int → gMem → Option gMem} {dW : Nat} {σ0 : gMem} {s : gMem} {v0 : Nat} {v1 : Int} (hl : l.stackTraces = false) (hW : ∀ (a0 : Nat) (a1 : Int) (s : gMem), g64 a1 → gK (fun p : gMem => (.inl none, p)) gE ω l dW mu_x8_number [vR a0, vL a1] s (W a0 a1 s)) (hdp : 1 ≤ d) (hdw : dW + 1 ≤ d) (hv1 : g64 v1) : GG (fun p : gMem => (.inl none, p)) gE ω l d mu_x8_number σ0 36 [(0, vR v0), (1, vL v1)] [] s (x8_number_o_j36 W v0 v1 s) := by
  unfold x8_number_o_j36
  refine x_aload_n (μ := mu_x8_number) (pc := 36) 0 dX8_number_36 rfl ?_
  refine x_ldc2 (μ := mu_x8_number) (pc := 37) (n := 48) dX8_number_37 q1401 ?_
  refine x_lload_n (μ := mu_x8_number) (pc := 40) 1 dX8_number_40 rfl ?_
  refine x_ldc2 (μ := mu_x8_number) (pc := 41) (n := 10) dX8_number_41 q1400 ?_
  refine x_lremc (μ := mu_x8_number) (pc := 44) dX8_number_44 hv1 (by decide) (by decide) ?_
  refine x_ladd (μ := mu_x8_number) (pc := 45) dX8_number_45 ?_
  refine x_l2i (μ := mu_x8_number) (pc := 46) dX8_number_46 ?_
  refine x_w1 ?_
  refine x_if (fun hT1 => ?_)
  refine x_callV_mv (μ := mu_x8_number) (pc := 47) (ok_x8_put (ω := ω) (l := l) (d := d - 1) hl (by omega) (w32_rng _)) gRel_E gRel_E (fun _ q => q) q1365 q1366 q1367 q229 q1368 dX8_number_47 rfl hT1 hy_x8_put (by omega) (Nat.le_of_ble_eq_true rfl) rfl (Nat.le_of_ble_eq_true rfl) (fun x2 k3 => ?_)
  exact x_vret (μ := mu_x8_number) (pc := 50) (a1 := x2) dX8_number_50 rfl rfl (gRel_E.1 _) trivial
def x8_number_o (W : Nat → Int → gMem → Option gMem) (v0 : Nat) (v1 : Int) (σ : gMem) : Option gMem := if 0 ≤ gcmp v1 (((0 : Fin 2) : Nat) : Int) then if gcmp v1 9 ≤ 0 then x8_number_o_j36 W v0 v1  σ else if mT σ v0 = 7 then (W v0 (w64 (Int.tdiv v1 10)) σ).bind (fun x5 => x8_number_o_j36 W v0 v1  x5) else none else if mT σ v0 = 7 then (x8_put v0 45 σ).bind (fun x8 => (W v0 (w64 (-v1)) x8).bind (fun x10 => some x10)) else none
set_option maxRecDepth 100000 in
theorem ok_x8_number_o {ω : gW} {l : Launch} {d : Nat} {W : Nat → Int → gMem → Option gMem} {dW : Nat} {σ : gMem} {v0 : Nat} {v1 : Int} (hl : l.stackTraces = false) (hW : ∀ (a0 : Nat) (a1 : Int) (s : gMem), g64 a1 → gK (fun p : gMem => (.inl none, p)) gE ω l dW mu_x8_number [vR a0, vL a1] s (W a0 a1 s)) (hdp : 1 ≤ d) (hdw : dW + 1 ≤ d) (hv1 : g64 v1) : gK (fun p : gMem => (.inl none, p)) gE ω l d mu_x8_number [vR v0, vL v1] σ (x8_number_o W v0 v1 σ) := by
  refine gK.of hp_X8 (Nat.le_of_ble_eq_true rfl) ?_
  unfold x8_number_o
  refine x_lload_n (μ := mu_x8_number) (pc := 0) 1 dX8_number_0 rfl ?_
  refine x_lconst (μ := mu_x8_number) (pc := 1) dX8_number_1 ?_
  refine x_lcmp (μ := mu_x8_number) (pc := 2) dX8_number_2 hv1 (by decide) ?_
  refine x_if_ge (μ := mu_x8_number) (pc := 3) (tgt := 19) dX8_number_3 rfl (gcmp_rng _ _) ?_ ?_
  · refine x_lload_n (μ := mu_x8_number) (pc := 19) 1 dX8_number_19 rfl ?_
    refine x_ldc2 (μ := mu_x8_number) (pc := 20) (n := 9) dX8_number_20 q1399 ?_
    refine x_lcmp (μ := mu_x8_number) (pc := 23) dX8_number_23 hv1 (by decide) ?_
    refine x_if_le (μ := mu_x8_number) (pc := 24) (tgt := 36) dX8_number_24 rfl (gcmp_rng _ _) ?_ ?_
    · exact okj_x8_number_o_j36 hl hW hdp hdw hv1
    · refine x_aload_n (μ := mu_x8_number) (pc := 27) 0 dX8_number_27 rfl ?_
      refine x_lload_n (μ := mu_x8_number) (pc := 28) 1 dX8_number_28 rfl ?_
      refine x_ldc2 (μ := mu_x8_number) (pc := 29) (n := 10) dX8_number_29 q1400 ?_
      refine x_ldivc (μ := mu_x8_number) (pc := 32) dX8_number_32 hv1 (by decide) (by decide) ?_
      refine x_W1 ?_
      refine x_if (fun hT4 => ?_)
      refine x_callV_mv (μ := mu_x8_number) (pc := 33) (hW v0 (w64 (Int.tdiv v1 10)) σ (w64_rng _)) gRel_E gRel_E (fun _ q => q) q1398 q1395 q1396 q229 q1397 dX8_number_33 rfl hT4 hy_x8_number (by omega) (Nat.le_of_ble_eq_true rfl) rfl (Nat.le_of_ble_eq_true rfl) (fun x5 k6 => ?_)
      exact okj_x8_number_o_j36 hl hW hdp hdw hv1
  · refine x_aload_n (μ := mu_x8_number) (pc := 6) 0 dX8_number_6 rfl ?_
    refine x_bipush (μ := mu_x8_number) (pc := 7) dX8_number_7 (by decide) ?_
    refine x_if (fun hT7 => ?_)
    refine x_callV_mv (μ := mu_x8_number) (pc := 9) (ok_x8_put (ω := ω) (l := l) (d := d - 1) hl (by omega) (by decide)) gRel_E gRel_E (fun _ q => q) q1365 q1366 q1367 q229 q1368 dX8_number_9 rfl hT7 hy_x8_put (by omega) (Nat.le_of_ble_eq_true rfl) rfl (Nat.le_of_ble_eq_true rfl) (fun x8 k9 => ?_)
    refine x_aload_n (μ := mu_x8_number) (pc := 12) 0 dX8_number_12 rfl ?_
    refine x_lload_n (μ := mu_x8_number) (pc := 13) 1 dX8_number_13 rfl ?_
    refine x_lneg (μ := mu_x8_number) (pc := 14) dX8_number_14 ?_
    refine x_W1 ?_
    refine x_callV_mv (μ := mu_x8_number) (pc := 15) (hW v0 (w64 (-v1)) x8 (w64_rng _)) gRel_E gRel_E (fun _ q => q) q1398 q1395 q1396 q229 q1397 dX8_number_15 rfl (gT_E k9 hT7 (by decide)) hy_x8_number (by omega) (Nat.le_of_ble_eq_true rfl) rfl (Nat.le_of_ble_eq_true rfl) (fun x10 k11 => ?_)
    exact x_vret (μ := mu_x8_number) (pc := 18) (a1 := x10) dX8_number_18 rfl rfl (gRel_E.1 _) trivial
def x8_number : Nat → Nat → Int → gMem → Option gMem
  | 0 => fun _ _ _ => none
  | n + 1 => fun a0 a1 s => x8_number_o (x8_number n) a0 a1 s
set_option maxRecDepth 100000 in
theorem ok_x8_number {ω : gW} {l : Launch} (hl : l.stackTraces = false) : ∀ (n : Nat) {d : Nat} (a0 : Nat) (a1 : Int) (s : gMem), g64 a1 → 1 + 1 * n ≤ d → gK (fun p : gMem => (.inl none, p)) gE ω l d mu_x8_number [vR a0, vL a1] s (x8_number n a0 a1 s) := by
  intro n
  induction n with
  | zero => intro d a0 a1 s h0 hd; exact gK.none
  | succ n ih =>
    intro d a0 a1 s h0 hd
    exact ok_x8_number_o (dW := 1 + 1 * n) hl (fun a0 a1 s h0 => ih a0 a1 s h0 (Nat.le_refl _)) (by omega) (by omega) h0
def x8_at (v0 : Nat) (v1 : Int) (σ : gMem) : Option gMem := if v1 ≠ (-1) then if mT σ v0 = 7 then (x8_put v0 64 σ).bind (fun x2 => (x8_number 20 v0 v1 x2).bind (fun x4 => some x4)) else none else some σ
set_option maxRecDepth 100000 in
theorem ok_x8_at {ω : gW} {l : Launch} {d : Nat} {σ : gMem} {v0 : Nat} {v1 : Int} (hl : l.stackTraces = false) (hdp : 22 ≤ d) (hv1 : g32 v1) : gK (fun p : gMem => (.inl none, p)) gE ω l d mu_x8_at [vR v0, vI v1] σ (x8_at v0 v1 σ) := by
  refine gK.of hp_X8 (Nat.le_of_ble_eq_true rfl) ?_
  unfold x8_at
  refine x_iload_n (μ := mu_x8_at) (pc := 0) 1 dX8_at_0 rfl ?_
  refine x_iconst (μ := mu_x8_at) (pc := 1) dX8_at_1 ?_
  refine x_icmp_ne (μ := mu_x8_at) (pc := 2) (tgt := 6) dX8_at_2 rfl hv1 (by decide) ?_ ?_
  · refine x_aload_n (μ := mu_x8_at) (pc := 6) 0 dX8_at_6 rfl ?_
    refine x_bipush (μ := mu_x8_at) (pc := 7) dX8_at_7 (by decide) ?_
    refine x_if (fun hT1 => ?_)
    refine x_callV_mv (μ := mu_x8_at) (pc := 9) (ok_x8_put (ω := ω) (l := l) (d := d - 1) hl (by omega) (by decide)) gRel_E gRel_E (fun _ q => q) q1365 q1366 q1367 q229 q1368 dX8_at_9 rfl hT1 hy_x8_put (by omega) (Nat.le_of_ble_eq_true rfl) rfl (Nat.le_of_ble_eq_true rfl) (fun x2 k3 => ?_)
    refine x_aload_n (μ := mu_x8_at) (pc := 12) 0 dX8_at_12 rfl ?_
    refine x_iload_n (μ := mu_x8_at) (pc := 13) 1 dX8_at_13 rfl ?_
    refine x_i2l (μ := mu_x8_at) (pc := 14) dX8_at_14 hv1 ?_
    refine x_callV_mv (μ := mu_x8_at) (pc := 15) (ok_x8_number (ω := ω) (l := l) (d := d - 1) hl 20 v0 v1 x2 (g32_64 hv1) (by omega)) gRel_E gRel_E (fun _ q => q) q1398 q1395 q1396 q229 q1397 dX8_at_15 rfl (gT_E k3 hT1 (by decide)) hy_x8_number (by omega) (Nat.le_of_ble_eq_true rfl) rfl (Nat.le_of_ble_eq_true rfl) (fun x4 k5 => ?_)
    exact x_vret (μ := mu_x8_at) (pc := 18) (a1 := x4) dX8_at_18 rfl rfl (gRel_E.1 _) trivial
  · exact x_vret (μ := mu_x8_at) (pc := 5) (a1 := σ) dX8_at_5 rfl rfl (gRel_E.1 _) trivial
def x8_part_j10 (N : Nat) (W : Nat → Nat → Nat → gMem → Option gMem) (v0 : Nat) (v1 : Nat) (v2 : Int) (v3 : Nat) (s : gMem) : Option gMem := (W v1 v0 v3 s).bind (fun x1 => if v2 = 0 then some x1 else if mT x1 v0 = 7 then (x8_put v0 41 x1).bind (fun x4 => some x4) else none)
set_option maxRecDepth 100000 in
theorem okj_x8_part_j10 {ω : gW} {l : Launch} {d : Nat} {N : Nat} {W : Nat → Nat → Nat → gMem → Option gMem} {dW : Nat} {σ0 : gMem} {s : gMem} {v0 : Nat} {v1 : Nat} {v2 : Int} {v3 : Nat} (hl : l.stackTraces = false) (hW : ∀ (a0 : Nat) (a1 : Nat) (a2 : Nat) (s : gMem), gKI (fun p : gMem => (.inl none, p)) gE ω l dW iy_Part_write none [vR a0, vR a1, vR a2] s (W a0 a1 a2 s)) (hdp : 1 ≤ d) (hdw : dW + 1 ≤ d) (hv2 : g32 v2) : GG (fun p : gMem => (.inl none, p)) gE ω l d mu_x8_part σ0 10 [(0, vR v0), (1, vR v1), (2, vI v2), (3, vR v3)] [] s (x8_part_j10 N W v0 v1 v2 v3 s) := by
  unfold x8_part_j10
  refine x_aload_n (μ := mu_x8_part) (pc := 10) 1 dX8_part_10 rfl ?_
  refine x_aload_n (μ := mu_x8_part) (pc := 11) 0 dX8_part_11 rfl ?_
  refine x_aload_n (μ := mu_x8_part) (pc := 12) 3 dX8_part_12 rfl ?_
  refine x_callF_mv (μ := mu_x8_part) (pc := 13) (hW v1 v0 v3 s ) gRel_E gRel_E (fun _ q => q) q1483 dX8_part_13 iy_Part_write_hy (by omega) rfl (Nat.le_of_ble_eq_true rfl) (fun x1 k2 => ?_)
  refine x_iload_n (μ := mu_x8_part) (pc := 18) 2 dX8_part_18 rfl ?_
  refine x_if_eq (μ := mu_x8_part) (pc := 19) (tgt := 28) dX8_part_19 rfl hv2 ?_ ?_
  · exact x_vret (μ := mu_x8_part) (pc := 28) (a1 := x1) dX8_part_28 rfl rfl (gRel_E.1 _) trivial
  · refine x_aload_n (μ := mu_x8_part) (pc := 22) 0 dX8_part_22 rfl ?_
    refine x_bipush (μ := mu_x8_part) (pc := 23) dX8_part_23 (by decide) ?_
    refine x_if (fun hT3 => ?_)
    refine x_callV_mv (μ := mu_x8_part) (pc := 25) (ok_x8_put (ω := ω) (l := l) (d := d - 1) hl (by omega) (by decide)) gRel_E gRel_E (fun _ q => q) q1365 q1366 q1367 q229 q1368 dX8_part_25 rfl hT3 hy_x8_put (by omega) (Nat.le_of_ble_eq_true rfl) rfl (Nat.le_of_ble_eq_true rfl) (fun x4 k5 => ?_)
    exact x_vret (μ := mu_x8_part) (pc := 28) (a1 := x4) dX8_part_28 rfl rfl (gRel_E.1 _) trivial
def x8_part (N : Nat) (W : Nat → Nat → Nat → gMem → Option gMem) (v0 : Nat) (v1 : Nat) (v2 : Int) (v3 : Nat) (σ : gMem) : Option gMem := if v2 = 0 then x8_part_j10 N W v0 v1 v2 v3  σ else if mT σ v0 = 7 then (x8_put v0 40 σ).bind (fun x7 => x8_part_j10 N W v0 v1 v2 v3  x7) else none
set_option maxRecDepth 100000 in
theorem ok_x8_part {ω : gW} {l : Launch} {d : Nat} {N : Nat} {W : Nat → Nat → Nat → gMem → Option gMem} {dW : Nat} {σ : gMem} {v0 : Nat} {v1 : Nat} {v2 : Int} {v3 : Nat} (hl : l.stackTraces = false) (hW : ∀ (a0 : Nat) (a1 : Nat) (a2 : Nat) (s : gMem), gKI (fun p : gMem => (.inl none, p)) gE ω l dW iy_Part_write none [vR a0, vR a1, vR a2] s (W a0 a1 a2 s)) (hdp : 1 ≤ d) (hdw : dW + 1 ≤ d) (hv2 : g32 v2) : gK (fun p : gMem => (.inl none, p)) gE ω l d mu_x8_part [vR v0, vR v1, vI v2, vR v3] σ (x8_part N W v0 v1 v2 v3 σ) := by
  refine gK.of hp_X8 (Nat.le_of_ble_eq_true rfl) ?_
  unfold x8_part
  refine x_iload_n (μ := mu_x8_part) (pc := 0) 2 dX8_part_0 rfl ?_
  refine x_if_eq (μ := mu_x8_part) (pc := 1) (tgt := 10) dX8_part_1 rfl hv2 ?_ ?_
  · exact okj_x8_part_j10 hl hW hdp hdw hv2
  · refine x_aload_n (μ := mu_x8_part) (pc := 4) 0 dX8_part_4 rfl ?_
    refine x_bipush (μ := mu_x8_part) (pc := 5) dX8_part_5 (by decide) ?_
    refine x_if (fun hT6 => ?_)
    refine x_callV_mv (μ := mu_x8_part) (pc := 7) (ok_x8_put (ω := ω) (l := l) (d := d - 1) hl (by omega) (by decide)) gRel_E gRel_E (fun _ q => q) q1365 q1366 q1367 q229 q1368 dX8_part_7 rfl hT6 hy_x8_put (by omega) (Nat.le_of_ble_eq_true rfl) rfl (Nat.le_of_ble_eq_true rfl) (fun x7 k8 => ?_)
    exact okj_x8_part_j10 hl hW hdp hdw hv2
def x8_isFormula (v0 : Nat) (σ : gMem) : Option Int := if mT σ v0 = 7 then if mI σ v0 2 = 0 ∨ mI σ v0 2 = 1 then some (mI σ v0 2) else none else none
set_option maxRecDepth 100000 in
theorem ok_x8_isFormula {ω : gW} {l : Launch} {d : Nat} {σ : gMem} {v0 : Nat} (hl : l.stackTraces = false) (hdp : 0 ≤ d) : gK (fun x : Int => (.inl (some (vI x)), σ)) gE ω l d mu_x8_isFormula [vR v0] σ (x8_isFormula v0 σ) := by
  refine gK.of hp_X8 (Nat.le_of_ble_eq_true rfl) ?_
  unfold x8_isFormula
  refine x_aload_n (μ := mu_x8_isFormula) (pc := 0) 0 dX8_isFormula_0 rfl ?_
  refine x_if (fun hT1 => ?_)
  refine x_fgz (μ := mu_x8_isFormula) (pc := 1) fX8_2 q546 dX8_isFormula_1 hT1 (fun hr2 => ?_)
  exact x_if (μ := mu_x8_isFormula) (pc := 4) (fun hz => x_zret dX8_isFormula_4 rfl hz rfl (gRel_E.1 _) (show g32 (mI σ v0 2) from hr2))
def x8_all_l2 (N : Nat) (v0 : Nat) (v1 : Nat) (K : gMem → Option gMem) : Nat → Int → gMem → Option gMem
  | 0, _, _ => none
  | n + 1, v2, s => if mT s v1 = 102 then if w32 (mN s v1 : Int) ≤ v2 then K s else if 0 ≤ v2 ∧ v2 < (mN s v1 : Int) then if mT s v0 = 7 then (x8_put v0 (mI s v1 v2.toNat) s).bind (fun x4 => x8_all_l2 N v0 v1 K n (w32 (v2 + 1)) x4) else none else none else none
set_option maxRecDepth 100000 in
theorem okl_x8_all_l2 {ω : gW} {l : Launch} {d : Nat} {N : Nat} {σ0 : gMem} {v0 : Nat} {v1 : Nat} {K : gMem → Option gMem} (hl : l.stackTraces = false) (hdp : 1 ≤ d) (hK : ∀ (s : gMem) , GG (fun p : gMem => (.inl none, p)) gE ω l d mu_x8_all σ0 21 [] [] s (K s)) : ∀ (n : Nat) (v2 : Int) (s : gMem) , g32 v2 → GG (fun p : gMem => (.inl none, p)) gE ω l d mu_x8_all σ0 2 [(0, vR v0), (1, vR v1), (2, vI v2)] [] s (x8_all_l2 N v0 v1 K n v2 s) := by
  intro n
  induction n with
  | zero => intros; exact x_none
  | succ n ih =>
    intro v2 s hv2
    unfold x8_all_l2
    refine x_iload_n (μ := mu_x8_all) (pc := 2) 2 dX8_all_2 rfl ?_
    refine x_aload_n (μ := mu_x8_all) (pc := 3) 1 dX8_all_3 rfl ?_
    refine x_if (fun hT1 => ?_)
    refine x_len (μ := mu_x8_all) (pc := 4) 2 (fun _ => rfl) dX8_all_4 hT1 ?_
    refine x_w1 ?_
    refine x_icmp_ge (μ := mu_x8_all) (pc := 5) (tgt := 21) dX8_all_5 rfl hv2 (w32_rng _) ?_ ?_
    · refine x_loc (lv' := []) [] rfl ?_
      exact hK s
    · refine x_aload_n (μ := mu_x8_all) (pc := 8) 0 dX8_all_8 rfl ?_
      refine x_aload_n (μ := mu_x8_all) (pc := 9) 1 dX8_all_9 rfl ?_
      refine x_iload_n (μ := mu_x8_all) (pc := 10) 2 dX8_all_10 rfl ?_
      refine x_bald (μ := mu_x8_all) (pc := 11) dX8_all_11 hT1 rfl (fun hr2 => ?_)
      refine x_if (fun hT3 => ?_)
      refine x_callV_mv (μ := mu_x8_all) (pc := 12) (ok_x8_put (ω := ω) (l := l) (d := d - 1) hl (by omega) hr2) gRel_E gRel_E (fun _ q => q) q1365 q1366 q1367 q229 q1368 dX8_all_12 rfl hT3 hy_x8_put (by omega) (Nat.le_of_ble_eq_true rfl) rfl (Nat.le_of_ble_eq_true rfl) (fun x4 k5 => ?_)
      refine x_iincw (μ := mu_x8_all) (pc := 15) (lv' := [(2, vI (w32 (v2 + 1))), (0, vR v0), (1, vR v1)]) 2 dX8_all_15 rfl (by decide) rfl ?_
      refine x_goto (μ := mu_x8_all) (pc := 18) (tgt := 2) dX8_all_18 rfl ?_
      refine x_loc (lv' := [(0, vR v0), (1, vR v1), (2, vI (w32 (v2 + 1)))]) [1, 2, 0] rfl ?_
      exact ih (w32 (v2 + 1)) x4 (w32_rng _)
def x8_all (N : Nat) (v0 : Nat) (v1 : Nat) (σ : gMem) : Option gMem := x8_all_l2 N v0 v1 (fun s6 => some s6) N 0 σ
set_option maxRecDepth 100000 in
theorem ok_x8_all {ω : gW} {l : Launch} {d : Nat} {N : Nat} {σ : gMem} {v0 : Nat} {v1 : Nat} (hl : l.stackTraces = false) (hdp : 1 ≤ d) : gK (fun p : gMem => (.inl none, p)) gE ω l d mu_x8_all [vR v0, vR v1] σ (x8_all N v0 v1 σ) := by
  refine gK.of hp_X8 (Nat.le_of_ble_eq_true rfl) ?_
  unfold x8_all
  refine x_iconst (μ := mu_x8_all) (pc := 0) dX8_all_0 ?_
  refine x_istore_n (μ := mu_x8_all) (pc := 1) (lv' := [(2, vI 0), (0, vR v0), (1, vR v1)]) dX8_all_1 rfl (by decide) rfl ?_
  refine x_loc (lv' := [(0, vR v0), (1, vR v1), (2, vI 0)]) [1, 2, 0] rfl ?_
  refine okl_x8_all_l2 hl hdp (fun s6 => ?_) N 0 σ (by decide)
  exact x_vret (μ := mu_x8_all) (pc := 21) (a1 := s6) dX8_all_21 rfl rfl (gRel_E.1 _) trivial
def x9_init (v0 : Nat) (v1 : Nat) (v2 : Nat) (σ : gMem) : Option gMem := if mT σ v0 = 8 then gLet (wR σ v0 0 v1) (fun s2 => gLet (wR s2 v0 1 v2) (fun s4 => if mT s4 v1 = 100 then if mT s4 v2 = 100 then if (0 ≤ (w32 (mN s4 v1 : Int)) ∧ (w32 (mN s4 v1 : Int)) < 1000) ∧ 0 ≤ (w32 (mN s4 v2 : Int)) ∧ (w32 (mN s4 v2 : Int)) < 1000 then gLet (wM s4 (w32 (mN s4 v1 : Int)).toNat (w32 (mN s4 v2 : Int)).toNat) (fun s10 => gLet (wR s10 v0 2 (mZ s4)) (fun s12 => some s12)) else none else none else none)) else none
set_option maxRecDepth 100000 in
theorem ok_x9_init {ω : gW} {l : Launch} {d : Nat} {σ : gMem} {v0 : Nat} {v1 : Nat} {v2 : Nat} (hl : l.stackTraces = false) (hdp : 1 ≤ d) : gK (fun p : gMem => (.inl none, p)) gE ω l d mu_x9_init [vR v0, vR v1, vR v2] σ (x9_init v0 v1 v2 σ) := by
  refine gK.of hp_X9 (Nat.le_of_ble_eq_true rfl) ?_
  unfold x9_init
  refine x_aload_n (μ := mu_x9_init) (pc := 0) 0 dX9_init_0 rfl ?_
  refine x_if (fun hT1 => ?_)
  refine x_objI (μ := mu_x9_init) (pc := 1) (ci := 7) rfl q563 dX9_init_1 hT1 (by omega) (Nat.le_of_ble_eq_true rfl) ?_
  refine x_aload_n (μ := mu_x9_init) (pc := 4) 0 dX9_init_4 rfl ?_
  refine x_aload_n (μ := mu_x9_init) (pc := 5) 1 dX9_init_5 rfl ?_
  refine x_fpr (μ := mu_x9_init) (pc := 6) fX9_0 q568 (by first | exact Or.inl ⟨_, rfl⟩ | exact Or.inr ⟨_, rfl⟩) dX9_init_6 hT1 (fun _ q => gE_wR q) ?_
  refine x_let (fun s2 e3 => ?_)
  refine x_aload_n (μ := mu_x9_init) (pc := 9) 0 dX9_init_9 rfl ?_
  refine x_aload_n (μ := mu_x9_init) (pc := 10) 2 dX9_init_10 rfl ?_
  refine x_fpr (μ := mu_x9_init) (pc := 11) fX9_1 q573 (by first | exact Or.inl ⟨_, rfl⟩ | exact Or.inr ⟨_, rfl⟩) dX9_init_11 (gT_R e3 hT1) (fun _ q => gE_wR q) ?_
  refine x_let (fun s4 e5 => ?_)
  refine x_aload_n (μ := mu_x9_init) (pc := 14) 0 dX9_init_14 rfl ?_
  refine x_aload_n (μ := mu_x9_init) (pc := 15) 1 dX9_init_15 rfl ?_
  refine x_if (fun hT6 => ?_)
  refine x_len (μ := mu_x9_init) (pc := 16) 0 (fun _ => rfl) dX9_init_16 hT6 ?_
  refine x_aload_n (μ := mu_x9_init) (pc := 17) 2 dX9_init_17 rfl ?_
  refine x_if (fun hT7 => ?_)
  refine x_len (μ := mu_x9_init) (pc := 18) 0 (fun _ => rfl) dX9_init_18 hT7 ?_
  refine x_w1 ?_
  refine x_w2 ?_
  refine x_if (fun hg8 => ?_)
  refine x_ok (fun ok9 => ?_)
  refine x_multi (μ := mu_x9_init) (pc := 19) q564 dX9_init_19 hg8 ?_
  refine x_let (fun s10 e11 => ?_)
  refine x_fpr (μ := mu_x9_init) (pc := 23) fX9_2 q578 (by first | exact Or.inl ⟨_, rfl⟩ | exact Or.inr ⟨_, rfl⟩) dX9_init_23 (gT_M e11 ok9 (gT_R e5 (gT_R e3 hT1)) (by decide)) (fun _ q => gE_wR q) ?_
  refine x_let (fun s12 e13 => ?_)
  exact x_vret (μ := mu_x9_init) (pc := 26) (a1 := s12) dX9_init_26 rfl rfl (gRel_E.1 _) trivial
def x9_init_2 (v0 : Nat) (v1 : Nat) (v2 : Nat) (v3 : Nat) (σ : gMem) : Option gMem := if mT σ v0 = 8 then gLet (wR σ v0 0 v1) (fun s2 => gLet (wR s2 v0 1 v2) (fun s4 => gLet (wR s4 v0 2 v3) (fun s6 => some s6))) else none
set_option maxRecDepth 100000 in
theorem ok_x9_init_2 {ω : gW} {l : Launch} {d : Nat} {σ : gMem} {v0 : Nat} {v1 : Nat} {v2 : Nat} {v3 : Nat} (hl : l.stackTraces = false) (hdp : 1 ≤ d) : gK (fun p : gMem => (.inl none, p)) gE ω l d mu_x9_init_2 [vR v0, vR v1, vR v2, vR v3] σ (x9_init_2 v0 v1 v2 v3 σ) := by
  refine gK.of hp_X9 (Nat.le_of_ble_eq_true rfl) ?_
  unfold x9_init_2
  refine x_aload_n (μ := mu_x9_init_2) (pc := 0) 0 dX9_init_2_0 rfl ?_
  refine x_if (fun hT1 => ?_)
  refine x_objI (μ := mu_x9_init_2) (pc := 1) (ci := 7) rfl q563 dX9_init_2_1 hT1 (by omega) (Nat.le_of_ble_eq_true rfl) ?_
  refine x_aload_n (μ := mu_x9_init_2) (pc := 4) 0 dX9_init_2_4 rfl ?_
  refine x_aload_n (μ := mu_x9_init_2) (pc := 5) 1 dX9_init_2_5 rfl ?_
  refine x_fpr (μ := mu_x9_init_2) (pc := 6) fX9_0 q568 (by first | exact Or.inl ⟨_, rfl⟩ | exact Or.inr ⟨_, rfl⟩) dX9_init_2_6 hT1 (fun _ q => gE_wR q) ?_
  refine x_let (fun s2 e3 => ?_)
  refine x_aload_n (μ := mu_x9_init_2) (pc := 9) 0 dX9_init_2_9 rfl ?_
  refine x_aload_n (μ := mu_x9_init_2) (pc := 10) 2 dX9_init_2_10 rfl ?_
  refine x_fpr (μ := mu_x9_init_2) (pc := 11) fX9_1 q573 (by first | exact Or.inl ⟨_, rfl⟩ | exact Or.inr ⟨_, rfl⟩) dX9_init_2_11 (gT_R e3 hT1) (fun _ q => gE_wR q) ?_
  refine x_let (fun s4 e5 => ?_)
  refine x_aload_n (μ := mu_x9_init_2) (pc := 14) 0 dX9_init_2_14 rfl ?_
  refine x_aload_n (μ := mu_x9_init_2) (pc := 15) 3 dX9_init_2_15 rfl ?_
  refine x_fpr (μ := mu_x9_init_2) (pc := 16) fX9_2 q578 (by first | exact Or.inl ⟨_, rfl⟩ | exact Or.inr ⟨_, rfl⟩) dX9_init_2_16 (gT_R e5 (gT_R e3 hT1)) (fun _ q => gE_wR q) ?_
  refine x_let (fun s6 e7 => ?_)
  exact x_vret (μ := mu_x9_init_2) (pc := 19) (a1 := s6) dX9_init_2_19 rfl rfl (gRel_E.1 _) trivial
def x9_placeOf_l2 (N : Nat) (σ : gMem) (v0 : Nat) (v1 : Int) (K : Option Int) : Nat → Int → Option Int
  | 0, _ => none
  | n + 1, v2 => if mT σ v0 = 100 then if w32 (mN σ v0 : Int) ≤ v2 then K else if 0 ≤ v2 ∧ v2 < (mN σ v0 : Int) then if mI σ v0 v2.toNat ≠ v1 then x9_placeOf_l2 N σ v0 v1 K n (w32 (v2 + 1)) else some v2 else none else none
set_option maxRecDepth 100000 in
theorem okl_x9_placeOf_l2 {ω : gW} {l : Launch} {d : Nat} {N : Nat} {σ : gMem} {v0 : Nat} {v1 : Int} {K : Option Int} (hl : l.stackTraces = false) (hdp : 0 ≤ d) (hv1 : g32 v1) (hK : GG (fun x : Int => (.inl (some (vI x)), σ)) gE ω l d mu_x9_placeOf σ 23 [] [] σ (K)) : ∀ (n : Nat) (v2 : Int) , g32 v2 → GG (fun x : Int => (.inl (some (vI x)), σ)) gE ω l d mu_x9_placeOf σ 2 [(0, vR v0), (1, vI v1), (2, vI v2)] [] σ (x9_placeOf_l2 N σ v0 v1 K n v2) := by
  intro n
  induction n with
  | zero => intros; exact x_none
  | succ n ih =>
    intro v2 hv2
    unfold x9_placeOf_l2
    refine x_iload_n (μ := mu_x9_placeOf) (pc := 2) 2 dX9_placeOf_2 rfl ?_
    refine x_aload_n (μ := mu_x9_placeOf) (pc := 3) 0 dX9_placeOf_3 rfl ?_
    refine x_if (fun hT1 => ?_)
    refine x_len (μ := mu_x9_placeOf) (pc := 4) 0 (fun _ => rfl) dX9_placeOf_4 hT1 ?_
    refine x_w1 ?_
    refine x_icmp_ge (μ := mu_x9_placeOf) (pc := 5) (tgt := 23) dX9_placeOf_5 rfl hv2 (w32_rng _) ?_ ?_
    · refine x_loc (lv' := []) [] rfl ?_
      exact hK
    · refine x_aload_n (μ := mu_x9_placeOf) (pc := 8) 0 dX9_placeOf_8 rfl ?_
      refine x_iload_n (μ := mu_x9_placeOf) (pc := 9) 2 dX9_placeOf_9 rfl ?_
      refine x_iald (μ := mu_x9_placeOf) (pc := 10) dX9_placeOf_10 hT1 rfl (fun hr2 => ?_)
      refine x_iload_n (μ := mu_x9_placeOf) (pc := 11) 1 dX9_placeOf_11 rfl ?_
      refine x_icmp_ne (μ := mu_x9_placeOf) (pc := 12) (tgt := 17) dX9_placeOf_12 rfl hr2 hv1 ?_ ?_
      · refine x_iincw (μ := mu_x9_placeOf) (pc := 17) (lv' := [(2, vI (w32 (v2 + 1))), (0, vR v0), (1, vI v1)]) 2 dX9_placeOf_17 rfl (by decide) rfl ?_
        refine x_goto (μ := mu_x9_placeOf) (pc := 20) (tgt := 2) dX9_placeOf_20 rfl ?_
        refine x_loc (lv' := [(0, vR v0), (1, vI v1), (2, vI (w32 (v2 + 1)))]) [1, 2, 0] rfl ?_
        exact ih (w32 (v2 + 1)) (w32_rng _)
      · refine x_iload_n (μ := mu_x9_placeOf) (pc := 15) 2 dX9_placeOf_15 rfl ?_
        exact x_iret (μ := mu_x9_placeOf) (pc := 16) dX9_placeOf_16 rfl rfl (gRel_E.1 _) (show g32 v2 from hv2)
def x9_placeOf (N : Nat) (v0 : Nat) (v1 : Int) (σ : gMem) : Option Int := x9_placeOf_l2 N σ v0 v1 (some (-1)) N 0
set_option maxRecDepth 100000 in
theorem ok_x9_placeOf {ω : gW} {l : Launch} {d : Nat} {N : Nat} {σ : gMem} {v0 : Nat} {v1 : Int} (hl : l.stackTraces = false) (hdp : 0 ≤ d) (hv1 : g32 v1) : gK (fun x : Int => (.inl (some (vI x)), σ)) gE ω l d mu_x9_placeOf [vR v0, vI v1] σ (x9_placeOf N v0 v1 σ) := by
  refine gK.of hp_X9 (Nat.le_of_ble_eq_true rfl) ?_
  unfold x9_placeOf
  refine x_iconst (μ := mu_x9_placeOf) (pc := 0) dX9_placeOf_0 ?_
  refine x_istore_n (μ := mu_x9_placeOf) (pc := 1) (lv' := [(2, vI 0), (0, vR v0), (1, vI v1)]) dX9_placeOf_1 rfl (by decide) rfl ?_
  refine x_loc (lv' := [(0, vR v0), (1, vI v1), (2, vI 0)]) [1, 2, 0] rfl ?_
  refine okl_x9_placeOf_l2 hl hdp hv1 ?_ N 0 (by decide)
  refine x_iconst (μ := mu_x9_placeOf) (pc := 23) dX9_placeOf_23 ?_
  exact x_iret (μ := mu_x9_placeOf) (pc := 24) dX9_placeOf_24 rfl rfl (gRel_E.1 _) (show g32 (-1) from (by decide))
def x9_column (N : Nat) (v0 : Nat) (v1 : Int) (σ : gMem) : Option Int := if mT σ v0 = 8 then (x9_placeOf N (mR σ v0 1) v1 σ).bind (fun x2 => some x2) else none
set_option maxRecDepth 100000 in
theorem ok_x9_column {ω : gW} {l : Launch} {d : Nat} {N : Nat} {σ : gMem} {v0 : Nat} {v1 : Int} (hl : l.stackTraces = false) (hdp : 1 ≤ d) (hv1 : g32 v1) : gK (fun x : Int => (.inl (some (vI x)), σ)) gE ω l d mu_x9_column [vR v0, vI v1] σ (x9_column N v0 v1 σ) := by
  refine gK.of hp_X9 (Nat.le_of_ble_eq_true rfl) ?_
  unfold x9_column
  refine x_aload_n (μ := mu_x9_column) (pc := 0) 0 dX9_column_0 rfl ?_
  refine x_if (fun hT1 => ?_)
  refine x_fgr (μ := mu_x9_column) (pc := 1) fX9_1 (by first | exact Or.inl ⟨_, rfl⟩ | exact Or.inr ⟨_, rfl⟩) q573 dX9_column_1 hT1 ?_
  refine x_iload_n (μ := mu_x9_column) (pc := 4) 1 dX9_column_4 rfl ?_
  refine x_callS_pi (μ := mu_x9_column) (pc := 5) (ok_x9_placeOf (ω := ω) (l := l) (d := d - 1) hl (by omega) hv1) gRel_E gRel_E (fun _ q => q) q782 q783 q230 q784 dX9_column_5 hy_x9_placeOf (by omega) (Nat.le_of_ble_eq_true rfl) rfl (Nat.le_of_ble_eq_true rfl) (fun x2 hr3 => ?_)
  exact x_iret (μ := mu_x9_column) (pc := 8) dX9_column_8 rfl rfl (gRel_E.1 _) (show g32 x2 from hr3)
def x9_has (v0 : Nat) (v1 : Int) (v2 : Int) (σ : gMem) : Option Int := if v1 < 0 then some 0 else if mT σ v0 = 8 then if mT σ (mR σ v0 0) = 100 then if w32 (mN σ (mR σ v0 0) : Int) ≤ v1 then some 0 else if v2 < 0 then some 0 else if mT σ (mR σ v0 1) = 100 then if w32 (mN σ (mR σ v0 1) : Int) ≤ v2 then some 0 else some 1 else none else none else none
set_option maxRecDepth 100000 in
theorem ok_x9_has {ω : gW} {l : Launch} {d : Nat} {σ : gMem} {v0 : Nat} {v1 : Int} {v2 : Int} (hl : l.stackTraces = false) (hdp : 0 ≤ d) (hv1 : g32 v1) (hv2 : g32 v2) : gK (fun x : Int => (.inl (some (vI x)), σ)) gE ω l d mu_x9_has [vR v0, vI v1, vI v2] σ (x9_has v0 v1 v2 σ) := by
  refine gK.of hp_X9 (Nat.le_of_ble_eq_true rfl) ?_
  unfold x9_has
  refine x_iload_n (μ := mu_x9_has) (pc := 0) 1 dX9_has_0 rfl ?_
  refine x_if_lt (μ := mu_x9_has) (pc := 1) (tgt := 30) dX9_has_1 rfl hv1 ?_ ?_
  · refine x_iconst (μ := mu_x9_has) (pc := 30) dX9_has_30 ?_
    exact x_zret (μ := mu_x9_has) (pc := 31) dX9_has_31 rfl (by decide) rfl (gRel_E.1 _) (show g32 0 from (by decide))
  · refine x_iload_n (μ := mu_x9_has) (pc := 4) 1 dX9_has_4 rfl ?_
    refine x_aload_n (μ := mu_x9_has) (pc := 5) 0 dX9_has_5 rfl ?_
    refine x_if (fun hT1 => ?_)
    refine x_fgr (μ := mu_x9_has) (pc := 6) fX9_0 (by first | exact Or.inl ⟨_, rfl⟩ | exact Or.inr ⟨_, rfl⟩) q568 dX9_has_6 hT1 ?_
    refine x_if (fun hT2 => ?_)
    refine x_len (μ := mu_x9_has) (pc := 9) 0 (fun _ => rfl) dX9_has_9 hT2 ?_
    refine x_w1 ?_
    refine x_icmp_ge (μ := mu_x9_has) (pc := 10) (tgt := 30) dX9_has_10 rfl hv1 (w32_rng _) ?_ ?_
    · refine x_iconst (μ := mu_x9_has) (pc := 30) dX9_has_30 ?_
      exact x_zret (μ := mu_x9_has) (pc := 31) dX9_has_31 rfl (by decide) rfl (gRel_E.1 _) (show g32 0 from (by decide))
    · refine x_iload_n (μ := mu_x9_has) (pc := 13) 2 dX9_has_13 rfl ?_
      refine x_if_lt (μ := mu_x9_has) (pc := 14) (tgt := 30) dX9_has_14 rfl hv2 ?_ ?_
      · refine x_iconst (μ := mu_x9_has) (pc := 30) dX9_has_30 ?_
        exact x_zret (μ := mu_x9_has) (pc := 31) dX9_has_31 rfl (by decide) rfl (gRel_E.1 _) (show g32 0 from (by decide))
      · refine x_iload_n (μ := mu_x9_has) (pc := 17) 2 dX9_has_17 rfl ?_
        refine x_aload_n (μ := mu_x9_has) (pc := 18) 0 dX9_has_18 rfl ?_
        refine x_fgr (μ := mu_x9_has) (pc := 19) fX9_1 (by first | exact Or.inl ⟨_, rfl⟩ | exact Or.inr ⟨_, rfl⟩) q573 dX9_has_19 hT1 ?_
        refine x_if (fun hT3 => ?_)
        refine x_len (μ := mu_x9_has) (pc := 22) 0 (fun _ => rfl) dX9_has_22 hT3 ?_
        refine x_w1 ?_
        refine x_icmp_ge (μ := mu_x9_has) (pc := 23) (tgt := 30) dX9_has_23 rfl hv2 (w32_rng _) ?_ ?_
        · refine x_iconst (μ := mu_x9_has) (pc := 30) dX9_has_30 ?_
          exact x_zret (μ := mu_x9_has) (pc := 31) dX9_has_31 rfl (by decide) rfl (gRel_E.1 _) (show g32 0 from (by decide))
        · refine x_iconst (μ := mu_x9_has) (pc := 26) dX9_has_26 ?_
          refine x_goto (μ := mu_x9_has) (pc := 27) (tgt := 31) dX9_has_27 rfl ?_
          exact x_zret (μ := mu_x9_has) (pc := 31) dX9_has_31 rfl (by decide) rfl (gRel_E.1 _) (show g32 1 from (by decide))
def x9_isAlike_l15_j39 (N : Nat) (σ : gMem) (v0 : Nat) (v1 : Nat) (v3 : Int) (t0 : Int) (Kh : Int → Int → Option Int) (K : Int → Option Int) : Option Int := Kh t0 (w32 (v3 + 1))
set_option maxRecDepth 100000 in
theorem okj_x9_isAlike_l15_j39 {ω : gW} {l : Launch} {d : Nat} {N : Nat} {σ : gMem} {v0 : Nat} {v1 : Nat} {v3 : Int} {t0 : Int} {Kh : Int → Int → Option Int} {K : Int → Option Int} (hl : l.stackTraces = false) (hdp : 0 ≤ d) (hv3 : g32 v3) (ht0 : g32 t0) (hKh : ∀ (v2 : Int) (v3 : Int) , g32 v2 → g32 v3 → GG (fun x : Int => (.inl (some (vI x)), σ)) gE ω l d mu_x9_isAlike σ 15 [(0, vR v0), (1, vR v1), (2, vI v2), (3, vI v3)] [] σ (Kh v2 v3)) (hK : ∀ (v2 : Int) , g32 v2 → GG (fun x : Int => (.inl (some (vI x)), σ)) gE ω l d mu_x9_isAlike σ 46 [(2, vI v2)] [] σ (K v2)) : GG (fun x : Int => (.inl (some (vI x)), σ)) gE ω l d mu_x9_isAlike σ 39 [(0, vR v0), (1, vR v1), (3, vI v3)] [vI t0] σ (x9_isAlike_l15_j39 N σ v0 v1 v3 t0 Kh K ) := by
  unfold x9_isAlike_l15_j39
  refine x_istore_n (μ := mu_x9_isAlike) (pc := 39) (lv' := [(2, vI t0), (0, vR v0), (1, vR v1), (3, vI v3)]) dX9_isAlike_39 rfl (by decide) rfl ?_
  refine x_iincw (μ := mu_x9_isAlike) (pc := 40) (lv' := [(3, vI (w32 (v3 + 1))), (2, vI t0), (0, vR v0), (1, vR v1)]) 3 dX9_isAlike_40 rfl (by decide) rfl ?_
  refine x_goto (μ := mu_x9_isAlike) (pc := 43) (tgt := 15) dX9_isAlike_43 rfl ?_
  refine x_loc (lv' := [(0, vR v0), (1, vR v1), (2, vI t0), (3, vI (w32 (v3 + 1)))]) [2, 3, 1, 0] rfl ?_
  exact hKh t0 (w32 (v3 + 1)) ht0 (w32_rng _)
def x9_isAlike_l15 (N : Nat) (σ : gMem) (v0 : Nat) (v1 : Nat) (K : Int → Option Int) : Nat → Int → Int → Option Int
  | 0, _, _ => none
  | n + 1, v2, v3 => if v2 = 0 then K v2 else if mT σ v0 = 100 then if w32 (mN σ v0 : Int) ≤ v3 then K v2 else if 0 ≤ v3 ∧ v3 < (mN σ v0 : Int) then if mT σ v1 = 100 then if 0 ≤ v3 ∧ v3 < (mN σ v1 : Int) then if mI σ v0 v3.toNat ≠ mI σ v1 v3.toNat then x9_isAlike_l15_j39 N σ v0 v1 v3 0 (x9_isAlike_l15 N σ v0 v1 K n) K else x9_isAlike_l15_j39 N σ v0 v1 v3 1 (x9_isAlike_l15 N σ v0 v1 K n) K else none else none else none else none
set_option maxRecDepth 100000 in
theorem okl_x9_isAlike_l15 {ω : gW} {l : Launch} {d : Nat} {N : Nat} {σ : gMem} {v0 : Nat} {v1 : Nat} {K : Int → Option Int} (hl : l.stackTraces = false) (hdp : 0 ≤ d) (hK : ∀ (v2 : Int) , g32 v2 → GG (fun x : Int => (.inl (some (vI x)), σ)) gE ω l d mu_x9_isAlike σ 46 [(2, vI v2)] [] σ (K v2)) : ∀ (n : Nat) (v2 : Int) (v3 : Int) , g32 v2 → g32 v3 → GG (fun x : Int => (.inl (some (vI x)), σ)) gE ω l d mu_x9_isAlike σ 15 [(0, vR v0), (1, vR v1), (2, vI v2), (3, vI v3)] [] σ (x9_isAlike_l15 N σ v0 v1 K n v2 v3) := by
  intro n
  induction n with
  | zero => intros; exact x_none
  | succ n ih =>
    intro v2 v3 hv2 hv3
    unfold x9_isAlike_l15
    refine x_iload_n (μ := mu_x9_isAlike) (pc := 15) 2 dX9_isAlike_15 rfl ?_
    refine x_if_eq (μ := mu_x9_isAlike) (pc := 16) (tgt := 46) dX9_isAlike_16 rfl hv2 ?_ ?_
    · refine x_loc (lv' := [(2, vI v2)]) [2] rfl ?_
      exact hK v2 hv2
    · refine x_iload_n (μ := mu_x9_isAlike) (pc := 19) 3 dX9_isAlike_19 rfl ?_
      refine x_aload_n (μ := mu_x9_isAlike) (pc := 20) 0 dX9_isAlike_20 rfl ?_
      refine x_if (fun hT3 => ?_)
      refine x_len (μ := mu_x9_isAlike) (pc := 21) 0 (fun _ => rfl) dX9_isAlike_21 hT3 ?_
      refine x_w1 ?_
      refine x_icmp_ge (μ := mu_x9_isAlike) (pc := 22) (tgt := 46) dX9_isAlike_22 rfl hv3 (w32_rng _) ?_ ?_
      · refine x_loc (lv' := [(2, vI v2)]) [2] rfl ?_
        exact hK v2 hv2
      · refine x_aload_n (μ := mu_x9_isAlike) (pc := 25) 0 dX9_isAlike_25 rfl ?_
        refine x_iload_n (μ := mu_x9_isAlike) (pc := 26) 3 dX9_isAlike_26 rfl ?_
        refine x_iald (μ := mu_x9_isAlike) (pc := 27) dX9_isAlike_27 hT3 rfl (fun hr4 => ?_)
        refine x_aload_n (μ := mu_x9_isAlike) (pc := 28) 1 dX9_isAlike_28 rfl ?_
        refine x_iload_n (μ := mu_x9_isAlike) (pc := 29) 3 dX9_isAlike_29 rfl ?_
        refine x_if (fun hT5 => ?_)
        refine x_iald (μ := mu_x9_isAlike) (pc := 30) dX9_isAlike_30 hT5 rfl (fun hr6 => ?_)
        refine x_icmp_ne (μ := mu_x9_isAlike) (pc := 31) (tgt := 38) dX9_isAlike_31 rfl hr4 hr6 ?_ ?_
        · refine x_iconst (μ := mu_x9_isAlike) (pc := 38) dX9_isAlike_38 ?_
          refine x_loc (lv' := [(0, vR v0), (1, vR v1), (3, vI v3)]) [0, 1, 3] rfl ?_
          exact okj_x9_isAlike_l15_j39 hl hdp hv3 (by decide) ih hK
        · refine x_iconst (μ := mu_x9_isAlike) (pc := 34) dX9_isAlike_34 ?_
          refine x_goto (μ := mu_x9_isAlike) (pc := 35) (tgt := 39) dX9_isAlike_35 rfl ?_
          refine x_loc (lv' := [(0, vR v0), (1, vR v1), (3, vI v3)]) [0, 1, 3] rfl ?_
          exact okj_x9_isAlike_l15_j39 hl hdp hv3 (by decide) ih hK
def x9_isAlike_j12 (N : Nat) (σ : gMem) (v0 : Nat) (v1 : Nat) (t0 : Int) : Option Int := x9_isAlike_l15 N σ v0 v1 (fun y7 => if y7 = 0 ∨ y7 = 1 then some y7 else none) N t0 0
set_option maxRecDepth 100000 in
theorem okj_x9_isAlike_j12 {ω : gW} {l : Launch} {d : Nat} {N : Nat} {σ : gMem} {v0 : Nat} {v1 : Nat} {t0 : Int} (hl : l.stackTraces = false) (hdp : 0 ≤ d) (ht0 : g32 t0) : GG (fun x : Int => (.inl (some (vI x)), σ)) gE ω l d mu_x9_isAlike σ 12 [(0, vR v0), (1, vR v1)] [vI t0] σ (x9_isAlike_j12 N σ v0 v1 t0 ) := by
  unfold x9_isAlike_j12
  refine x_istore_n (μ := mu_x9_isAlike) (pc := 12) (lv' := [(2, vI t0), (0, vR v0), (1, vR v1)]) dX9_isAlike_12 rfl (by decide) rfl ?_
  refine x_iconst (μ := mu_x9_isAlike) (pc := 13) dX9_isAlike_13 ?_
  refine x_istore_n (μ := mu_x9_isAlike) (pc := 14) (lv' := [(3, vI 0), (2, vI t0), (0, vR v0), (1, vR v1)]) dX9_isAlike_14 rfl (by decide) rfl ?_
  refine x_loc (lv' := [(0, vR v0), (1, vR v1), (2, vI t0), (3, vI 0)]) [2, 3, 1, 0] rfl ?_
  refine okl_x9_isAlike_l15 hl hdp (fun y7 hy7 => ?_) N t0 0 ht0 (by decide)
  refine x_iload_n (μ := mu_x9_isAlike) (pc := 46) 0 dX9_isAlike_46 rfl ?_
  exact x_if (μ := mu_x9_isAlike) (pc := 47) (fun hz => x_zret dX9_isAlike_47 rfl hz rfl (gRel_E.1 _) (show g32 y7 from hy7))
def x9_isAlike (N : Nat) (v0 : Nat) (v1 : Nat) (σ : gMem) : Option Int := if mT σ v0 = 100 then if mT σ v1 = 100 then if w32 (mN σ v0 : Int) ≠ w32 (mN σ v1 : Int) then x9_isAlike_j12 N σ v0 v1 0 else x9_isAlike_j12 N σ v0 v1 1 else none else none
set_option maxRecDepth 100000 in
theorem ok_x9_isAlike {ω : gW} {l : Launch} {d : Nat} {N : Nat} {σ : gMem} {v0 : Nat} {v1 : Nat} (hl : l.stackTraces = false) (hdp : 0 ≤ d) : gK (fun x : Int => (.inl (some (vI x)), σ)) gE ω l d mu_x9_isAlike [vR v0, vR v1] σ (x9_isAlike N v0 v1 σ) := by
  refine gK.of hp_X9 (Nat.le_of_ble_eq_true rfl) ?_
  unfold x9_isAlike
  refine x_aload_n (μ := mu_x9_isAlike) (pc := 0) 0 dX9_isAlike_0 rfl ?_
  refine x_if (fun hT1 => ?_)
  refine x_len (μ := mu_x9_isAlike) (pc := 1) 0 (fun _ => rfl) dX9_isAlike_1 hT1 ?_
  refine x_aload_n (μ := mu_x9_isAlike) (pc := 2) 1 dX9_isAlike_2 rfl ?_
  refine x_if (fun hT2 => ?_)
  refine x_len (μ := mu_x9_isAlike) (pc := 3) 0 (fun _ => rfl) dX9_isAlike_3 hT2 ?_
  refine x_w1 ?_
  refine x_w2 ?_
  refine x_icmp_ne (μ := mu_x9_isAlike) (pc := 4) (tgt := 11) dX9_isAlike_4 rfl (w32_rng _) (w32_rng _) ?_ ?_
  · refine x_iconst (μ := mu_x9_isAlike) (pc := 11) dX9_isAlike_11 ?_
    exact okj_x9_isAlike_j12 hl hdp (by decide)
  · refine x_iconst (μ := mu_x9_isAlike) (pc := 7) dX9_isAlike_7 ?_
    refine x_goto (μ := mu_x9_isAlike) (pc := 8) (tgt := 12) dX9_isAlike_8 rfl ?_
    exact okj_x9_isAlike_j12 hl hdp (by decide)
def x9_marks (v0 : Nat) (v1 : Int) (σ : gMem) : Option Nat := if v1 ≠ 0 then if mT σ v0 = 8 then some (mR σ v0 1) else none else if mT σ v0 = 8 then some (mR σ v0 0) else none
set_option maxRecDepth 100000 in
theorem ok_x9_marks {ω : gW} {l : Launch} {d : Nat} {σ : gMem} {v0 : Nat} {v1 : Int} (hl : l.stackTraces = false) (hdp : 0 ≤ d) (hv1 : g32 v1) : gK (fun x : Nat => (.inl (some (vR x)), σ)) gE ω l d mu_x9_marks [vR v0, vI v1] σ (x9_marks v0 v1 σ) := by
  refine gK.of hp_X9 (Nat.le_of_ble_eq_true rfl) ?_
  unfold x9_marks
  refine x_iload_n (μ := mu_x9_marks) (pc := 0) 1 dX9_marks_0 rfl ?_
  refine x_if_ne (μ := mu_x9_marks) (pc := 1) (tgt := 11) dX9_marks_1 rfl hv1 ?_ ?_
  · refine x_aload_n (μ := mu_x9_marks) (pc := 11) 0 dX9_marks_11 rfl ?_
    refine x_if (fun hT1 => ?_)
    refine x_fgr (μ := mu_x9_marks) (pc := 12) fX9_1 (by first | exact Or.inl ⟨_, rfl⟩ | exact Or.inr ⟨_, rfl⟩) q573 dX9_marks_12 hT1 ?_
    exact x_aret (μ := mu_x9_marks) (pc := 15) dX9_marks_15 rfl (by first | exact Or.inl ⟨_, rfl⟩ | exact Or.inr ⟨_, rfl⟩) rfl (gRel_E.1 _) trivial
  · refine x_aload_n (μ := mu_x9_marks) (pc := 4) 0 dX9_marks_4 rfl ?_
    refine x_if (fun hT2 => ?_)
    refine x_fgr (μ := mu_x9_marks) (pc := 5) fX9_0 (by first | exact Or.inl ⟨_, rfl⟩ | exact Or.inr ⟨_, rfl⟩) q568 dX9_marks_5 hT2 ?_
    refine x_goto (μ := mu_x9_marks) (pc := 8) (tgt := 15) dX9_marks_8 rfl ?_
    exact x_aret (μ := mu_x9_marks) (pc := 15) dX9_marks_15 rfl (by first | exact Or.inl ⟨_, rfl⟩ | exact Or.inr ⟨_, rfl⟩) rfl (gRel_E.1 _) trivial
def j15_compare (v0 : Int) (v2 : Int) (σ : gMem) : Option Int := if 0 ≤ gcmp v0 v2 then if gcmp v0 v2 ≠ 0 then some 1 else some 0 else some (-1)
set_option maxRecDepth 100000 in
theorem ok_j15_compare {ω : gW} {l : Launch} {d : Nat} {σ : gMem} {v0 : Int} {v2 : Int} (hl : l.stackTraces = false) (hdp : 0 ≤ d) (hv0 : g64 v0) (hv2 : g64 v2) : gK (fun x : Int => (.inl (some (vI x)), σ)) gE ω l d mu_j15_compare [vL v0, vL v2] σ (j15_compare v0 v2 σ) := by
  refine gK.of hp_J15 (Nat.le_of_ble_eq_true rfl) ?_
  unfold j15_compare
  refine x_lload_n (μ := mu_j15_compare) (pc := 0) 0 dJ15_compare_0 rfl ?_
  refine x_lload_n (μ := mu_j15_compare) (pc := 1) 1 dJ15_compare_1 rfl ?_
  refine x_lcmp (μ := mu_j15_compare) (pc := 2) dJ15_compare_2 hv0 hv2 ?_
  refine x_if_ge (μ := mu_j15_compare) (pc := 3) (tgt := 10) dJ15_compare_3 rfl (gcmp_rng _ _) ?_ ?_
  · refine x_lload_n (μ := mu_j15_compare) (pc := 10) 0 dJ15_compare_10 rfl ?_
    refine x_lload_n (μ := mu_j15_compare) (pc := 11) 1 dJ15_compare_11 rfl ?_
    refine x_lcmp (μ := mu_j15_compare) (pc := 12) dJ15_compare_12 hv0 hv2 ?_
    refine x_if_ne (μ := mu_j15_compare) (pc := 13) (tgt := 20) dJ15_compare_13 rfl (gcmp_rng _ _) ?_ ?_
    · refine x_iconst (μ := mu_j15_compare) (pc := 20) dJ15_compare_20 ?_
      exact x_iret (μ := mu_j15_compare) (pc := 21) dJ15_compare_21 rfl rfl (gRel_E.1 _) (show g32 1 from (by decide))
    · refine x_iconst (μ := mu_j15_compare) (pc := 16) dJ15_compare_16 ?_
      refine x_goto (μ := mu_j15_compare) (pc := 17) (tgt := 21) dJ15_compare_17 rfl ?_
      exact x_iret (μ := mu_j15_compare) (pc := 21) dJ15_compare_21 rfl rfl (gRel_E.1 _) (show g32 0 from (by decide))
  · refine x_iconst (μ := mu_j15_compare) (pc := 6) dJ15_compare_6 ?_
    refine x_goto (μ := mu_j15_compare) (pc := 7) (tgt := 21) dJ15_compare_7 rfl ?_
    exact x_iret (μ := mu_j15_compare) (pc := 21) dJ15_compare_21 rfl rfl (gRel_E.1 _) (show g32 (-1) from (by decide))
def j16_numberOfLeadingZeros_j61 (σ : gMem) (v0 : Int) (v1 : Int) : Option Int := if v0 < 4 then some (w32 (v1 - (bUshr v0 1))) else some (w32 ((w32 (v1 + (-2))) - (bUshr (bUshr v0 2) 1)))
set_option maxRecDepth 100000 in
theorem okj_j16_numberOfLeadingZeros_j61 {ω : gW} {l : Launch} {d : Nat} {σ : gMem} {v0 : Int} {v1 : Int} (hl : l.stackTraces = false) (hdp : 0 ≤ d) (hv0 : g32 v0) (hv1 : g32 v1) : GG (fun x : Int => (.inl (some (vI x)), σ)) gE ω l d mu_j16_numberOfLeadingZeros σ 61 [(0, vI v0), (1, vI v1)] [] σ (j16_numberOfLeadingZeros_j61 σ v0 v1 ) := by
  unfold j16_numberOfLeadingZeros_j61
  refine x_iload_n (μ := mu_j16_numberOfLeadingZeros) (pc := 61) 0 dJ16_numberOfLeadingZeros_61 rfl ?_
  refine x_iconst (μ := mu_j16_numberOfLeadingZeros) (pc := 62) dJ16_numberOfLeadingZeros_62 ?_
  refine x_icmp_lt (μ := mu_j16_numberOfLeadingZeros) (pc := 63) (tgt := 73) dJ16_numberOfLeadingZeros_63 rfl hv0 (by decide) ?_ ?_
  · refine x_iload_n (μ := mu_j16_numberOfLeadingZeros) (pc := 73) 1 dJ16_numberOfLeadingZeros_73 rfl ?_
    refine x_iload_n (μ := mu_j16_numberOfLeadingZeros) (pc := 74) 0 dJ16_numberOfLeadingZeros_74 rfl ?_
    refine x_iconst (μ := mu_j16_numberOfLeadingZeros) (pc := 75) dJ16_numberOfLeadingZeros_75 ?_
    refine x_iushr (μ := mu_j16_numberOfLeadingZeros) (pc := 76) dJ16_numberOfLeadingZeros_76 ?_
    refine x_isub (μ := mu_j16_numberOfLeadingZeros) (pc := 77) dJ16_numberOfLeadingZeros_77 ?_
    refine x_w1 ?_
    exact x_iret (μ := mu_j16_numberOfLeadingZeros) (pc := 78) dJ16_numberOfLeadingZeros_78 rfl rfl (gRel_E.1 _) (show g32 (w32 (v1 - (bUshr v0 1))) from (w32_rng _))
  · refine x_iincw (μ := mu_j16_numberOfLeadingZeros) (pc := 66) (lv' := [(1, vI (w32 (v1 + (-2)))), (0, vI v0)]) 1 dJ16_numberOfLeadingZeros_66 rfl (by decide) rfl ?_
    refine x_iload_n (μ := mu_j16_numberOfLeadingZeros) (pc := 69) 1 dJ16_numberOfLeadingZeros_69 rfl ?_
    refine x_iconst (μ := mu_j16_numberOfLeadingZeros) (pc := 70) dJ16_numberOfLeadingZeros_70 ?_
    refine x_iushr (μ := mu_j16_numberOfLeadingZeros) (pc := 71) dJ16_numberOfLeadingZeros_71 ?_
    refine x_istore_n (μ := mu_j16_numberOfLeadingZeros) (pc := 72) (lv' := [(0, vI (bUshr v0 2)), (1, vI (w32 (v1 + (-2))))]) dJ16_numberOfLeadingZeros_72 rfl (by decide) rfl ?_
    refine x_iload_n (μ := mu_j16_numberOfLeadingZeros) (pc := 73) 1 dJ16_numberOfLeadingZeros_73 rfl ?_
    refine x_iload_n (μ := mu_j16_numberOfLeadingZeros) (pc := 74) 0 dJ16_numberOfLeadingZeros_74 rfl ?_
    refine x_iconst (μ := mu_j16_numberOfLeadingZeros) (pc := 75) dJ16_numberOfLeadingZeros_75 ?_
    refine x_iushr (μ := mu_j16_numberOfLeadingZeros) (pc := 76) dJ16_numberOfLeadingZeros_76 ?_
    refine x_isub (μ := mu_j16_numberOfLeadingZeros) (pc := 77) dJ16_numberOfLeadingZeros_77 ?_
    refine x_w1 ?_
    exact x_iret (μ := mu_j16_numberOfLeadingZeros) (pc := 78) dJ16_numberOfLeadingZeros_78 rfl rfl (gRel_E.1 _) (show g32 (w32 ((w32 (v1 + (-2))) - (bUshr (bUshr v0 2) 1))) from (w32_rng _))
def j16_numberOfLeadingZeros_j48 (σ : gMem) (v0 : Int) (v1 : Int) : Option Int := if v0 < 16 then j16_numberOfLeadingZeros_j61 σ v0 v1  else j16_numberOfLeadingZeros_j61 σ (bUshr v0 4) (w32 (v1 + (-4))) 
set_option maxRecDepth 100000 in
theorem okj_j16_numberOfLeadingZeros_j48 {ω : gW} {l : Launch} {d : Nat} {σ : gMem} {v0 : Int} {v1 : Int} (hl : l.stackTraces = false) (hdp : 0 ≤ d) (hv0 : g32 v0) (hv1 : g32 v1) : GG (fun x : Int => (.inl (some (vI x)), σ)) gE ω l d mu_j16_numberOfLeadingZeros σ 48 [(0, vI v0), (1, vI v1)] [] σ (j16_numberOfLeadingZeros_j48 σ v0 v1 ) := by
  unfold j16_numberOfLeadingZeros_j48
  refine x_iload_n (μ := mu_j16_numberOfLeadingZeros) (pc := 48) 0 dJ16_numberOfLeadingZeros_48 rfl ?_
  refine x_bipush (μ := mu_j16_numberOfLeadingZeros) (pc := 49) dJ16_numberOfLeadingZeros_49 (by decide) ?_
  refine x_icmp_lt (μ := mu_j16_numberOfLeadingZeros) (pc := 51) (tgt := 61) dJ16_numberOfLeadingZeros_51 rfl hv0 (by decide) ?_ ?_
  · exact okj_j16_numberOfLeadingZeros_j61 hl hdp hv0 hv1
  · refine x_iincw (μ := mu_j16_numberOfLeadingZeros) (pc := 54) (lv' := [(1, vI (w32 (v1 + (-4)))), (0, vI v0)]) 1 dJ16_numberOfLeadingZeros_54 rfl (by decide) rfl ?_
    refine x_iload_n (μ := mu_j16_numberOfLeadingZeros) (pc := 57) 1 dJ16_numberOfLeadingZeros_57 rfl ?_
    refine x_iconst (μ := mu_j16_numberOfLeadingZeros) (pc := 58) dJ16_numberOfLeadingZeros_58 ?_
    refine x_iushr (μ := mu_j16_numberOfLeadingZeros) (pc := 59) dJ16_numberOfLeadingZeros_59 ?_
    refine x_istore_n (μ := mu_j16_numberOfLeadingZeros) (pc := 60) (lv' := [(0, vI (bUshr v0 4)), (1, vI (w32 (v1 + (-4))))]) dJ16_numberOfLeadingZeros_60 rfl (by decide) rfl ?_
    exact okj_j16_numberOfLeadingZeros_j61 hl hdp (bUshr_rng _ _) (w32_rng _)
def j16_numberOfLeadingZeros_j33 (σ : gMem) (v0 : Int) (v1 : Int) : Option Int := if v0 < 256 then j16_numberOfLeadingZeros_j48 σ v0 v1  else j16_numberOfLeadingZeros_j48 σ (bUshr v0 8) (w32 (v1 + (-8))) 
set_option maxRecDepth 100000 in
theorem okj_j16_numberOfLeadingZeros_j33 {ω : gW} {l : Launch} {d : Nat} {σ : gMem} {v0 : Int} {v1 : Int} (hl : l.stackTraces = false) (hdp : 0 ≤ d) (hv0 : g32 v0) (hv1 : g32 v1) : GG (fun x : Int => (.inl (some (vI x)), σ)) gE ω l d mu_j16_numberOfLeadingZeros σ 33 [(0, vI v0), (1, vI v1)] [] σ (j16_numberOfLeadingZeros_j33 σ v0 v1 ) := by
  unfold j16_numberOfLeadingZeros_j33
  refine x_iload_n (μ := mu_j16_numberOfLeadingZeros) (pc := 33) 0 dJ16_numberOfLeadingZeros_33 rfl ?_
  refine x_sipush (μ := mu_j16_numberOfLeadingZeros) (pc := 34) dJ16_numberOfLeadingZeros_34 (by decide) ?_
  refine x_icmp_lt (μ := mu_j16_numberOfLeadingZeros) (pc := 37) (tgt := 48) dJ16_numberOfLeadingZeros_37 rfl hv0 (by decide) ?_ ?_
  · exact okj_j16_numberOfLeadingZeros_j48 hl hdp hv0 hv1
  · refine x_iincw (μ := mu_j16_numberOfLeadingZeros) (pc := 40) (lv' := [(1, vI (w32 (v1 + (-8)))), (0, vI v0)]) 1 dJ16_numberOfLeadingZeros_40 rfl (by decide) rfl ?_
    refine x_iload_n (μ := mu_j16_numberOfLeadingZeros) (pc := 43) 1 dJ16_numberOfLeadingZeros_43 rfl ?_
    refine x_bipush (μ := mu_j16_numberOfLeadingZeros) (pc := 44) dJ16_numberOfLeadingZeros_44 (by decide) ?_
    refine x_iushr (μ := mu_j16_numberOfLeadingZeros) (pc := 46) dJ16_numberOfLeadingZeros_46 ?_
    refine x_istore_n (μ := mu_j16_numberOfLeadingZeros) (pc := 47) (lv' := [(0, vI (bUshr v0 8)), (1, vI (w32 (v1 + (-8))))]) dJ16_numberOfLeadingZeros_47 rfl (by decide) rfl ?_
    exact okj_j16_numberOfLeadingZeros_j48 hl hdp (bUshr_rng _ _) (w32_rng _)
def j16_numberOfLeadingZeros (v0 : Int) (σ : gMem) : Option Int := if 0 < v0 then if v0 < 65536 then j16_numberOfLeadingZeros_j33 σ v0 31  else j16_numberOfLeadingZeros_j33 σ (bUshr v0 16) (w32 (31 + (-16)))  else if v0 ≠ 0 then some 0 else some 32
set_option maxRecDepth 100000 in
theorem ok_j16_numberOfLeadingZeros {ω : gW} {l : Launch} {d : Nat} {σ : gMem} {v0 : Int} (hl : l.stackTraces = false) (hdp : 0 ≤ d) (hv0 : g32 v0) : gK (fun x : Int => (.inl (some (vI x)), σ)) gE ω l d mu_j16_numberOfLeadingZeros [vI v0] σ (j16_numberOfLeadingZeros v0 σ) := by
  refine gK.of hp_J16 (Nat.le_of_ble_eq_true rfl) ?_
  unfold j16_numberOfLeadingZeros
  refine x_iload_n (μ := mu_j16_numberOfLeadingZeros) (pc := 0) 0 dJ16_numberOfLeadingZeros_0 rfl ?_
  refine x_if_gt (μ := mu_j16_numberOfLeadingZeros) (pc := 1) (tgt := 15) dJ16_numberOfLeadingZeros_1 rfl hv0 ?_ ?_
  · refine x_bipush (μ := mu_j16_numberOfLeadingZeros) (pc := 15) dJ16_numberOfLeadingZeros_15 (by decide) ?_
    refine x_istore_n (μ := mu_j16_numberOfLeadingZeros) (pc := 17) (lv' := [(1, vI 31), (0, vI v0)]) dJ16_numberOfLeadingZeros_17 rfl (by decide) rfl ?_
    refine x_iload_n (μ := mu_j16_numberOfLeadingZeros) (pc := 18) 1 dJ16_numberOfLeadingZeros_18 rfl ?_
    refine x_ldcw (μ := mu_j16_numberOfLeadingZeros) (pc := 19) (n := 65536) dJ16_numberOfLeadingZeros_19 q799 ?_
    refine x_icmp_lt (μ := mu_j16_numberOfLeadingZeros) (pc := 22) (tgt := 33) dJ16_numberOfLeadingZeros_22 rfl hv0 (by decide) ?_ ?_
    · refine x_loc (lv' := [(0, vI v0), (1, vI 31)]) [1, 0] rfl ?_
      exact okj_j16_numberOfLeadingZeros_j33 hl hdp hv0 (by decide)
    · refine x_iincw (μ := mu_j16_numberOfLeadingZeros) (pc := 25) (lv' := [(1, vI (w32 (31 + (-16)))), (0, vI v0)]) 0 dJ16_numberOfLeadingZeros_25 rfl (by decide) rfl ?_
      refine x_iload_n (μ := mu_j16_numberOfLeadingZeros) (pc := 28) 1 dJ16_numberOfLeadingZeros_28 rfl ?_
      refine x_bipush (μ := mu_j16_numberOfLeadingZeros) (pc := 29) dJ16_numberOfLeadingZeros_29 (by decide) ?_
      refine x_iushr (μ := mu_j16_numberOfLeadingZeros) (pc := 31) dJ16_numberOfLeadingZeros_31 ?_
      refine x_istore_n (μ := mu_j16_numberOfLeadingZeros) (pc := 32) (lv' := [(0, vI (bUshr v0 16)), (1, vI (w32 (31 + (-16))))]) dJ16_numberOfLeadingZeros_32 rfl (by decide) rfl ?_
      exact okj_j16_numberOfLeadingZeros_j33 hl hdp (bUshr_rng _ _) (w32_rng _)
  · refine x_iload_n (μ := mu_j16_numberOfLeadingZeros) (pc := 4) 0 dJ16_numberOfLeadingZeros_4 rfl ?_
    refine x_if_ne (μ := mu_j16_numberOfLeadingZeros) (pc := 5) (tgt := 13) dJ16_numberOfLeadingZeros_5 rfl hv0 ?_ ?_
    · refine x_iconst (μ := mu_j16_numberOfLeadingZeros) (pc := 13) dJ16_numberOfLeadingZeros_13 ?_
      exact x_iret (μ := mu_j16_numberOfLeadingZeros) (pc := 14) dJ16_numberOfLeadingZeros_14 rfl rfl (gRel_E.1 _) (show g32 0 from (by decide))
    · refine x_bipush (μ := mu_j16_numberOfLeadingZeros) (pc := 8) dJ16_numberOfLeadingZeros_8 (by decide) ?_
      refine x_goto (μ := mu_j16_numberOfLeadingZeros) (pc := 10) (tgt := 14) dJ16_numberOfLeadingZeros_10 rfl ?_
      exact x_iret (μ := mu_j16_numberOfLeadingZeros) (pc := 14) dJ16_numberOfLeadingZeros_14 rfl rfl (gRel_E.1 _) (show g32 32 from (by decide))
def j16_numberOfTrailingZeros_j62 (σ : gMem) (v0 : Int) (v1 : Int) : Option Int := if v0 ≤ 4 then some (w32 (v1 + (bUshr v0 1))) else some (w32 ((w32 (v1 + 2)) + (bUshr (bUshr v0 2) 1)))
set_option maxRecDepth 100000 in
theorem okj_j16_numberOfTrailingZeros_j62 {ω : gW} {l : Launch} {d : Nat} {σ : gMem} {v0 : Int} {v1 : Int} (hl : l.stackTraces = false) (hdp : 0 ≤ d) (hv0 : g32 v0) (hv1 : g32 v1) : GG (fun x : Int => (.inl (some (vI x)), σ)) gE ω l d mu_j16_numberOfTrailingZeros σ 62 [(0, vI v0), (1, vI v1)] [] σ (j16_numberOfTrailingZeros_j62 σ v0 v1 ) := by
  unfold j16_numberOfTrailingZeros_j62
  refine x_iload_n (μ := mu_j16_numberOfTrailingZeros) (pc := 62) 0 dJ16_numberOfTrailingZeros_62 rfl ?_
  refine x_iconst (μ := mu_j16_numberOfTrailingZeros) (pc := 63) dJ16_numberOfTrailingZeros_63 ?_
  refine x_icmp_le (μ := mu_j16_numberOfTrailingZeros) (pc := 64) (tgt := 74) dJ16_numberOfTrailingZeros_64 rfl hv0 (by decide) ?_ ?_
  · refine x_iload_n (μ := mu_j16_numberOfTrailingZeros) (pc := 74) 1 dJ16_numberOfTrailingZeros_74 rfl ?_
    refine x_iload_n (μ := mu_j16_numberOfTrailingZeros) (pc := 75) 0 dJ16_numberOfTrailingZeros_75 rfl ?_
    refine x_iconst (μ := mu_j16_numberOfTrailingZeros) (pc := 76) dJ16_numberOfTrailingZeros_76 ?_
    refine x_iushr (μ := mu_j16_numberOfTrailingZeros) (pc := 77) dJ16_numberOfTrailingZeros_77 ?_
    refine x_iadd (μ := mu_j16_numberOfTrailingZeros) (pc := 78) dJ16_numberOfTrailingZeros_78 ?_
    refine x_w1 ?_
    exact x_iret (μ := mu_j16_numberOfTrailingZeros) (pc := 79) dJ16_numberOfTrailingZeros_79 rfl rfl (gRel_E.1 _) (show g32 (w32 (v1 + (bUshr v0 1))) from (w32_rng _))
  · refine x_iincw (μ := mu_j16_numberOfTrailingZeros) (pc := 67) (lv' := [(1, vI (w32 (v1 + 2))), (0, vI v0)]) 1 dJ16_numberOfTrailingZeros_67 rfl (by decide) rfl ?_
    refine x_iload_n (μ := mu_j16_numberOfTrailingZeros) (pc := 70) 1 dJ16_numberOfTrailingZeros_70 rfl ?_
    refine x_iconst (μ := mu_j16_numberOfTrailingZeros) (pc := 71) dJ16_numberOfTrailingZeros_71 ?_
    refine x_iushr (μ := mu_j16_numberOfTrailingZeros) (pc := 72) dJ16_numberOfTrailingZeros_72 ?_
    refine x_istore_n (μ := mu_j16_numberOfTrailingZeros) (pc := 73) (lv' := [(0, vI (bUshr v0 2)), (1, vI (w32 (v1 + 2)))]) dJ16_numberOfTrailingZeros_73 rfl (by decide) rfl ?_
    refine x_iload_n (μ := mu_j16_numberOfTrailingZeros) (pc := 74) 1 dJ16_numberOfTrailingZeros_74 rfl ?_
    refine x_iload_n (μ := mu_j16_numberOfTrailingZeros) (pc := 75) 0 dJ16_numberOfTrailingZeros_75 rfl ?_
    refine x_iconst (μ := mu_j16_numberOfTrailingZeros) (pc := 76) dJ16_numberOfTrailingZeros_76 ?_
    refine x_iushr (μ := mu_j16_numberOfTrailingZeros) (pc := 77) dJ16_numberOfTrailingZeros_77 ?_
    refine x_iadd (μ := mu_j16_numberOfTrailingZeros) (pc := 78) dJ16_numberOfTrailingZeros_78 ?_
    refine x_w1 ?_
    exact x_iret (μ := mu_j16_numberOfTrailingZeros) (pc := 79) dJ16_numberOfTrailingZeros_79 rfl rfl (gRel_E.1 _) (show g32 (w32 ((w32 (v1 + 2)) + (bUshr (bUshr v0 2) 1))) from (w32_rng _))
def j16_numberOfTrailingZeros_j49 (σ : gMem) (v0 : Int) (v1 : Int) : Option Int := if v0 ≤ 16 then j16_numberOfTrailingZeros_j62 σ v0 v1  else j16_numberOfTrailingZeros_j62 σ (bUshr v0 4) (w32 (v1 + 4)) 
set_option maxRecDepth 100000 in
theorem okj_j16_numberOfTrailingZeros_j49 {ω : gW} {l : Launch} {d : Nat} {σ : gMem} {v0 : Int} {v1 : Int} (hl : l.stackTraces = false) (hdp : 0 ≤ d) (hv0 : g32 v0) (hv1 : g32 v1) : GG (fun x : Int => (.inl (some (vI x)), σ)) gE ω l d mu_j16_numberOfTrailingZeros σ 49 [(0, vI v0), (1, vI v1)] [] σ (j16_numberOfTrailingZeros_j49 σ v0 v1 ) := by
  unfold j16_numberOfTrailingZeros_j49
  refine x_iload_n (μ := mu_j16_numberOfTrailingZeros) (pc := 49) 0 dJ16_numberOfTrailingZeros_49 rfl ?_
  refine x_bipush (μ := mu_j16_numberOfTrailingZeros) (pc := 50) dJ16_numberOfTrailingZeros_50 (by decide) ?_
  refine x_icmp_le (μ := mu_j16_numberOfTrailingZeros) (pc := 52) (tgt := 62) dJ16_numberOfTrailingZeros_52 rfl hv0 (by decide) ?_ ?_
  · exact okj_j16_numberOfTrailingZeros_j62 hl hdp hv0 hv1
  · refine x_iincw (μ := mu_j16_numberOfTrailingZeros) (pc := 55) (lv' := [(1, vI (w32 (v1 + 4))), (0, vI v0)]) 1 dJ16_numberOfTrailingZeros_55 rfl (by decide) rfl ?_
    refine x_iload_n (μ := mu_j16_numberOfTrailingZeros) (pc := 58) 1 dJ16_numberOfTrailingZeros_58 rfl ?_
    refine x_iconst (μ := mu_j16_numberOfTrailingZeros) (pc := 59) dJ16_numberOfTrailingZeros_59 ?_
    refine x_iushr (μ := mu_j16_numberOfTrailingZeros) (pc := 60) dJ16_numberOfTrailingZeros_60 ?_
    refine x_istore_n (μ := mu_j16_numberOfTrailingZeros) (pc := 61) (lv' := [(0, vI (bUshr v0 4)), (1, vI (w32 (v1 + 4)))]) dJ16_numberOfTrailingZeros_61 rfl (by decide) rfl ?_
    exact okj_j16_numberOfTrailingZeros_j62 hl hdp (bUshr_rng _ _) (w32_rng _)
def j16_numberOfTrailingZeros_j34 (σ : gMem) (v0 : Int) (v1 : Int) : Option Int := if v0 ≤ 256 then j16_numberOfTrailingZeros_j49 σ v0 v1  else j16_numberOfTrailingZeros_j49 σ (bUshr v0 8) (w32 (v1 + 8)) 
set_option maxRecDepth 100000 in
theorem okj_j16_numberOfTrailingZeros_j34 {ω : gW} {l : Launch} {d : Nat} {σ : gMem} {v0 : Int} {v1 : Int} (hl : l.stackTraces = false) (hdp : 0 ≤ d) (hv0 : g32 v0) (hv1 : g32 v1) : GG (fun x : Int => (.inl (some (vI x)), σ)) gE ω l d mu_j16_numberOfTrailingZeros σ 34 [(0, vI v0), (1, vI v1)] [] σ (j16_numberOfTrailingZeros_j34 σ v0 v1 ) := by
  unfold j16_numberOfTrailingZeros_j34
  refine x_iload_n (μ := mu_j16_numberOfTrailingZeros) (pc := 34) 0 dJ16_numberOfTrailingZeros_34 rfl ?_
  refine x_sipush (μ := mu_j16_numberOfTrailingZeros) (pc := 35) dJ16_numberOfTrailingZeros_35 (by decide) ?_
  refine x_icmp_le (μ := mu_j16_numberOfTrailingZeros) (pc := 38) (tgt := 49) dJ16_numberOfTrailingZeros_38 rfl hv0 (by decide) ?_ ?_
  · exact okj_j16_numberOfTrailingZeros_j49 hl hdp hv0 hv1
  · refine x_iincw (μ := mu_j16_numberOfTrailingZeros) (pc := 41) (lv' := [(1, vI (w32 (v1 + 8))), (0, vI v0)]) 1 dJ16_numberOfTrailingZeros_41 rfl (by decide) rfl ?_
    refine x_iload_n (μ := mu_j16_numberOfTrailingZeros) (pc := 44) 1 dJ16_numberOfTrailingZeros_44 rfl ?_
    refine x_bipush (μ := mu_j16_numberOfTrailingZeros) (pc := 45) dJ16_numberOfTrailingZeros_45 (by decide) ?_
    refine x_iushr (μ := mu_j16_numberOfTrailingZeros) (pc := 47) dJ16_numberOfTrailingZeros_47 ?_
    refine x_istore_n (μ := mu_j16_numberOfTrailingZeros) (pc := 48) (lv' := [(0, vI (bUshr v0 8)), (1, vI (w32 (v1 + 8)))]) dJ16_numberOfTrailingZeros_48 rfl (by decide) rfl ?_
    exact okj_j16_numberOfTrailingZeros_j49 hl hdp (bUshr_rng _ _) (w32_rng _)
def j16_numberOfTrailingZeros (v0 : Int) (σ : gMem) : Option Int := if 0 < bAnd (bXor v0 (-1)) (v0 - 1) then if bAnd (bXor v0 (-1)) (v0 - 1) ≤ 65536 then j16_numberOfTrailingZeros_j34 σ (bAnd (bXor v0 (-1)) (v0 - 1)) 1  else j16_numberOfTrailingZeros_j34 σ (bUshr (bAnd (bXor v0 (-1)) (v0 - 1)) 16) (w32 (1 + 16))  else some (bAnd (bAnd (bXor v0 (-1)) (v0 - 1)) 32)
set_option maxRecDepth 100000 in
theorem ok_j16_numberOfTrailingZeros {ω : gW} {l : Launch} {d : Nat} {σ : gMem} {v0 : Int} (hl : l.stackTraces = false) (hdp : 0 ≤ d) (hv0 : g32 v0) : gK (fun x : Int => (.inl (some (vI x)), σ)) gE ω l d mu_j16_numberOfTrailingZeros [vI v0] σ (j16_numberOfTrailingZeros v0 σ) := by
  refine gK.of hp_J16 (Nat.le_of_ble_eq_true rfl) ?_
  unfold j16_numberOfTrailingZeros
  refine x_iload_n (μ := mu_j16_numberOfTrailingZeros) (pc := 0) 0 dJ16_numberOfTrailingZeros_0 rfl ?_
  refine x_iconst (μ := mu_j16_numberOfTrailingZeros) (pc := 1) dJ16_numberOfTrailingZeros_1 ?_
  refine x_ixor (μ := mu_j16_numberOfTrailingZeros) (pc := 2) dJ16_numberOfTrailingZeros_2 ?_
  refine x_iload_n (μ := mu_j16_numberOfTrailingZeros) (pc := 3) 0 dJ16_numberOfTrailingZeros_3 rfl ?_
  refine x_iconst (μ := mu_j16_numberOfTrailingZeros) (pc := 4) dJ16_numberOfTrailingZeros_4 ?_
  refine x_isub (μ := mu_j16_numberOfTrailingZeros) (pc := 5) dJ16_numberOfTrailingZeros_5 ?_
  refine x_iand (μ := mu_j16_numberOfTrailingZeros) (pc := 6) dJ16_numberOfTrailingZeros_6 ?_
  refine x_istore_n (μ := mu_j16_numberOfTrailingZeros) (pc := 7) (lv' := [(0, vI (bAnd (bXor v0 (-1)) (v0 - 1)))]) dJ16_numberOfTrailingZeros_7 rfl (by decide) rfl ?_
  refine x_iload_n (μ := mu_j16_numberOfTrailingZeros) (pc := 8) 0 dJ16_numberOfTrailingZeros_8 rfl ?_
  refine x_if_gt (μ := mu_j16_numberOfTrailingZeros) (pc := 9) (tgt := 17) dJ16_numberOfTrailingZeros_9 rfl (bAnd_rng _ _) ?_ ?_
  · refine x_iconst (μ := mu_j16_numberOfTrailingZeros) (pc := 17) dJ16_numberOfTrailingZeros_17 ?_
    refine x_istore_n (μ := mu_j16_numberOfTrailingZeros) (pc := 18) (lv' := [(1, vI 1), (0, vI (bAnd (bXor v0 (-1)) (v0 - 1)))]) dJ16_numberOfTrailingZeros_18 rfl (by decide) rfl ?_
    refine x_iload_n (μ := mu_j16_numberOfTrailingZeros) (pc := 19) 1 dJ16_numberOfTrailingZeros_19 rfl ?_
    refine x_ldcw (μ := mu_j16_numberOfTrailingZeros) (pc := 20) (n := 65536) dJ16_numberOfTrailingZeros_20 q799 ?_
    refine x_icmp_le (μ := mu_j16_numberOfTrailingZeros) (pc := 23) (tgt := 34) dJ16_numberOfTrailingZeros_23 rfl (bAnd_rng _ _) (by decide) ?_ ?_
    · refine x_loc (lv' := [(0, vI (bAnd (bXor v0 (-1)) (v0 - 1))), (1, vI 1)]) [1, 0] rfl ?_
      exact okj_j16_numberOfTrailingZeros_j34 hl hdp (bAnd_rng _ _) (by decide)
    · refine x_iincw (μ := mu_j16_numberOfTrailingZeros) (pc := 26) (lv' := [(1, vI (w32 (1 + 16))), (0, vI (bAnd (bXor v0 (-1)) (v0 - 1)))]) 0 dJ16_numberOfTrailingZeros_26 rfl (by decide) rfl ?_
      refine x_iload_n (μ := mu_j16_numberOfTrailingZeros) (pc := 29) 1 dJ16_numberOfTrailingZeros_29 rfl ?_
      refine x_bipush (μ := mu_j16_numberOfTrailingZeros) (pc := 30) dJ16_numberOfTrailingZeros_30 (by decide) ?_
      refine x_iushr (μ := mu_j16_numberOfTrailingZeros) (pc := 32) dJ16_numberOfTrailingZeros_32 ?_
      refine x_istore_n (μ := mu_j16_numberOfTrailingZeros) (pc := 33) (lv' := [(0, vI (bUshr (bAnd (bXor v0 (-1)) (v0 - 1)) 16)), (1, vI (w32 (1 + 16)))]) dJ16_numberOfTrailingZeros_33 rfl (by decide) rfl ?_
      exact okj_j16_numberOfTrailingZeros_j34 hl hdp (bUshr_rng _ _) (w32_rng _)
  · refine x_iload_n (μ := mu_j16_numberOfTrailingZeros) (pc := 12) 0 dJ16_numberOfTrailingZeros_12 rfl ?_
    refine x_bipush (μ := mu_j16_numberOfTrailingZeros) (pc := 13) dJ16_numberOfTrailingZeros_13 (by decide) ?_
    refine x_iand (μ := mu_j16_numberOfTrailingZeros) (pc := 15) dJ16_numberOfTrailingZeros_15 ?_
    exact x_iret (μ := mu_j16_numberOfTrailingZeros) (pc := 16) dJ16_numberOfTrailingZeros_16 rfl rfl (gRel_E.1 _) (show g32 (bAnd (bAnd (bXor v0 (-1)) (v0 - 1)) 32) from (bAnd_rng _ _))
def j16_compare (v0 : Int) (v1 : Int) (σ : gMem) : Option Int := if v1 ≤ v0 then if v0 ≠ v1 then some 1 else some 0 else some (-1)
set_option maxRecDepth 100000 in
theorem ok_j16_compare {ω : gW} {l : Launch} {d : Nat} {σ : gMem} {v0 : Int} {v1 : Int} (hl : l.stackTraces = false) (hdp : 0 ≤ d) (hv0 : g32 v0) (hv1 : g32 v1) : gK (fun x : Int => (.inl (some (vI x)), σ)) gE ω l d mu_j16_compare [vI v0, vI v1] σ (j16_compare v0 v1 σ) := by
  refine gK.of hp_J16 (Nat.le_of_ble_eq_true rfl) ?_
  unfold j16_compare
  refine x_iload_n (μ := mu_j16_compare) (pc := 0) 0 dJ16_compare_0 rfl ?_
  refine x_iload_n (μ := mu_j16_compare) (pc := 1) 1 dJ16_compare_1 rfl ?_
  refine x_icmp_ge (μ := mu_j16_compare) (pc := 2) (tgt := 9) dJ16_compare_2 rfl hv0 hv1 ?_ ?_
  · refine x_iload_n (μ := mu_j16_compare) (pc := 9) 0 dJ16_compare_9 rfl ?_
    refine x_iload_n (μ := mu_j16_compare) (pc := 10) 1 dJ16_compare_10 rfl ?_
    refine x_icmp_ne (μ := mu_j16_compare) (pc := 11) (tgt := 18) dJ16_compare_11 rfl hv0 hv1 ?_ ?_
    · refine x_iconst (μ := mu_j16_compare) (pc := 18) dJ16_compare_18 ?_
      exact x_iret (μ := mu_j16_compare) (pc := 19) dJ16_compare_19 rfl rfl (gRel_E.1 _) (show g32 1 from (by decide))
    · refine x_iconst (μ := mu_j16_compare) (pc := 14) dJ16_compare_14 ?_
      refine x_goto (μ := mu_j16_compare) (pc := 15) (tgt := 19) dJ16_compare_15 rfl ?_
      exact x_iret (μ := mu_j16_compare) (pc := 19) dJ16_compare_19 rfl rfl (gRel_E.1 _) (show g32 0 from (by decide))
  · refine x_iconst (μ := mu_j16_compare) (pc := 5) dJ16_compare_5 ?_
    refine x_goto (μ := mu_j16_compare) (pc := 6) (tgt := 19) dJ16_compare_6 rfl ?_
    exact x_iret (μ := mu_j16_compare) (pc := 19) dJ16_compare_19 rfl rfl (gRel_E.1 _) (show g32 (-1) from (by decide))
def dp_Content_parts : Nat → gMem → Option Int := fun a0 s => if mT s a0 = 11 then x13_parts a0 s else if mT s a0 = 12 then x14_parts a0 s else if mT s a0 = 16 then x18_parts a0 s else if mT s a0 = 21 then x23_parts a0 s else none
set_option maxRecDepth 100000 in
theorem ok_dp_Content_parts {ω : gW} {l : Launch} {d : Nat} (hl : l.stackTraces = false) (a0 : Nat) (s : gMem) (hd : 0 ≤ d) : gKI (fun x : Int => (.inl (some (vI x)), s)) gE ω l d iy_Content_parts (some .int) [vR a0] s (dp_Content_parts a0 s) := by
  unfold dp_Content_parts
  refine gKI.cls (ci := 10) rfl (List.mem_of_getElem? (i := 4) rfl) q2150 q2152 q241 q2154 (Nat.le_of_ble_eq_true rfl) (ok_x13_parts hl (by omega)) ?_
  refine gKI.cls (ci := 11) rfl (List.mem_of_getElem? (i := 5) rfl) q2155 q2157 q242 q2159 (Nat.le_of_ble_eq_true rfl) (ok_x14_parts hl (by omega)) ?_
  refine gKI.cls (ci := 15) rfl (List.mem_of_getElem? (i := 6) rfl) q2145 q2147 q250 q2149 (Nat.le_of_ble_eq_true rfl) (ok_x18_parts hl (by omega)) ?_
  refine gKI.cls (ci := 20) rfl (List.mem_of_getElem? (i := 7) rfl) q2140 q2142 q256 q2144 (Nat.le_of_ble_eq_true rfl) (ok_x23_parts hl (by omega)) ?_
  exact gKI.none
def dp_Part_rank : Nat → gMem → Option Int := fun a0 s => if mT s a0 = 11 then x13_rank a0 s else if mT s a0 = 12 then x14_rank a0 s else if mT s a0 = 16 then x18_rank a0 s else if mT s a0 = 13 then x15_rank a0 s else if mT s a0 = 15 then x17_rank a0 s else if mT s a0 = 17 then x19_rank a0 s else if mT s a0 = 19 then x21_rank a0 s else if mT s a0 = 20 then x22_rank a0 s else if mT s a0 = 18 then x20_rank a0 s else none
set_option maxRecDepth 100000 in
theorem ok_dp_Part_rank {ω : gW} {l : Launch} {d : Nat} (hl : l.stackTraces = false) (a0 : Nat) (s : gMem) (hd : 0 ≤ d) : gKI (fun x : Int => (.inl (some (vI x)), s)) gE ω l d iy_Part_rank (some .int) [vR a0] s (dp_Part_rank a0 s) := by
  unfold dp_Part_rank
  refine gKI.cls (ci := 10) rfl (List.mem_of_getElem? (i := 21) rfl) q1468 q1470 q241 q1472 (Nat.le_of_ble_eq_true rfl) (ok_x13_rank hl (by omega)) ?_
  refine gKI.cls (ci := 11) rfl (List.mem_of_getElem? (i := 22) rfl) q1473 q1475 q242 q1477 (Nat.le_of_ble_eq_true rfl) (ok_x14_rank hl (by omega)) ?_
  refine gKI.cls (ci := 15) rfl (List.mem_of_getElem? (i := 23) rfl) q1458 q1460 q250 q1462 (Nat.le_of_ble_eq_true rfl) (ok_x18_rank hl (by omega)) ?_
  refine gKI.cls (ci := 12) rfl (List.mem_of_getElem? (i := 24) rfl) q1443 q1445 q247 q1447 (Nat.le_of_ble_eq_true rfl) (ok_x15_rank hl (by omega)) ?_
  refine gKI.cls (ci := 14) rfl (List.mem_of_getElem? (i := 25) rfl) q1453 q1455 q249 q1457 (Nat.le_of_ble_eq_true rfl) (ok_x17_rank hl (by omega)) ?_
  refine gKI.cls (ci := 16) rfl (List.mem_of_getElem? (i := 26) rfl) q1433 q1435 q251 q1437 (Nat.le_of_ble_eq_true rfl) (ok_x19_rank hl (by omega)) ?_
  refine gKI.cls (ci := 18) rfl (List.mem_of_getElem? (i := 27) rfl) q1448 q1450 q253 q1452 (Nat.le_of_ble_eq_true rfl) (ok_x21_rank hl (by omega)) ?_
  refine gKI.cls (ci := 19) rfl (List.mem_of_getElem? (i := 28) rfl) q1463 q1465 q255 q1467 (Nat.le_of_ble_eq_true rfl) (ok_x22_rank hl (by omega)) ?_
  refine gKI.cls (ci := 17) rfl (List.mem_of_getElem? (i := 29) rfl) q1438 q1440 q252 q1442 (Nat.le_of_ble_eq_true rfl) (ok_x20_rank hl (by omega)) ?_
  exact gKI.none
def x0_undo (v0 : Nat) (v1 : Nat) (σ : gMem) : Option (Int × gMem) := if mT σ v0 = 1 then (x1_undo v0 σ).bind (fun p => gTryI p (fun x2 s5 => if mT s5 v1 = 101 then if 0 ≤ (0 : Int) ∧ (0 : Int) < (mN s5 v1 : Int) then gLet (wL s5 v1 (0 : Int).toNat x2) (fun s11 => some (0, s11)) else none else none) (fun E6 s7 => if E6 = "java/util/NoSuchElementException" then some (1, s7) else none)) else none
set_option maxRecDepth 100000 in
theorem ok_x0_undo {ω : gW} {l : Launch} {d : Nat} {σ : gMem} {v0 : Nat} {v1 : Nat} (hl : l.stackTraces = false) (hdp : 9 ≤ d) : gK (fun p : Int × gMem => (.inl (some (vI p.1)), p.2)) gE ω l d mu_x0_undo [vR v0, vR v1] σ (x0_undo v0 v1 σ) := by
  refine gK.ofH hp_X0 (Nat.le_of_ble_eq_true rfl) ?_
  unfold x0_undo
  refine x_aload_n (μ := mu_x0_undo) (pc := 0) 1 dX0_undo_0 rfl ?_
  refine x_iconst (μ := mu_x0_undo) (pc := 1) dX0_undo_1 ?_
  refine x_aload_n (μ := mu_x0_undo) (pc := 2) 0 dX0_undo_2 rfl ?_
  refine x_if (fun hT1 => ?_)
  refine x_callV_ti (μ := mu_x0_undo) (pc := 3) (ok_x1_undo (ω := ω) (l := l) (d := d - 1) hl (by omega) ) q2393 q2394 q2395 q221 q2396 dX0_undo_3 rfl hT1 hy_x1_undo (by omega) (Nat.le_of_ble_eq_true rfl) rfl (Nat.le_of_ble_eq_true rfl) (fun x2 s5 k4 hr3 => ?_) (fun E6 s7 k9 => ?_)
  · refine x_i2l (μ := mu_x0_undo) (pc := 6) dX0_undo_6 hr3 ?_
    refine x_if (fun hT10 => ?_)
    refine x_last (μ := mu_x0_undo) (pc := 7) dX0_undo_7 hT10 rfl (fun _ _ q => gE_wL q) ?_
    refine x_let (fun s11 e12 => ?_)
    refine x_goto (μ := mu_x0_undo) (pc := 8) (tgt := 14) dX0_undo_8 rfl ?_
    refine x_iconst (μ := mu_x0_undo) (pc := 14) dX0_undo_14 ?_
    exact x_iret (μ := mu_x0_undo) (pc := 15) dX0_undo_15 rfl rfl (gRel_E.1 _) (show g32 0 from (by decide))
  · refine x_eqE "java/util/NoSuchElementException" (fun _ => ?_) (fun _ => ?_)
    · refine x_catch0 (pc := 3) (tgt := 11) rfl  q2392 q2399 (by decide) (fun q13 => ?_)
      refine x_astore_n (μ := mu_x0_undo) (pc := 11) (lv' := [(2, vR q13), (0, vR v0), (1, vR v1)]) dX0_undo_11 rfl (by decide) rfl ?_
      refine x_iconst (μ := mu_x0_undo) (pc := 12) dX0_undo_12 ?_
      exact x_iret (μ := mu_x0_undo) (pc := 13) dX0_undo_13 rfl rfl (gRel_E.1 _) (show g32 1 from (by decide))
    exact x_xnone
def x0_redo (v0 : Nat) (v1 : Nat) (σ : gMem) : Option (Int × gMem) := if mT σ v0 = 1 then (x1_redo v0 σ).bind (fun p => gTryI p (fun x2 s5 => if mT s5 v1 = 101 then if 0 ≤ (0 : Int) ∧ (0 : Int) < (mN s5 v1 : Int) then gLet (wL s5 v1 (0 : Int).toNat x2) (fun s11 => some (0, s11)) else none else none) (fun E6 s7 => if E6 = "java/util/NoSuchElementException" then some (1, s7) else none)) else none
set_option maxRecDepth 100000 in
theorem ok_x0_redo {ω : gW} {l : Launch} {d : Nat} {σ : gMem} {v0 : Nat} {v1 : Nat} (hl : l.stackTraces = false) (hdp : 9 ≤ d) : gK (fun p : Int × gMem => (.inl (some (vI p.1)), p.2)) gE ω l d mu_x0_redo [vR v0, vR v1] σ (x0_redo v0 v1 σ) := by
  refine gK.ofH hp_X0 (Nat.le_of_ble_eq_true rfl) ?_
  unfold x0_redo
  refine x_aload_n (μ := mu_x0_redo) (pc := 0) 1 dX0_redo_0 rfl ?_
  refine x_iconst (μ := mu_x0_redo) (pc := 1) dX0_redo_1 ?_
  refine x_aload_n (μ := mu_x0_redo) (pc := 2) 0 dX0_redo_2 rfl ?_
  refine x_if (fun hT1 => ?_)
  refine x_callV_ti (μ := mu_x0_redo) (pc := 3) (ok_x1_redo (ω := ω) (l := l) (d := d - 1) hl (by omega) ) q2415 q2416 q2417 q221 q2418 dX0_redo_3 rfl hT1 hy_x1_redo (by omega) (Nat.le_of_ble_eq_true rfl) rfl (Nat.le_of_ble_eq_true rfl) (fun x2 s5 k4 hr3 => ?_) (fun E6 s7 k9 => ?_)
  · refine x_i2l (μ := mu_x0_redo) (pc := 6) dX0_redo_6 hr3 ?_
    refine x_if (fun hT10 => ?_)
    refine x_last (μ := mu_x0_redo) (pc := 7) dX0_redo_7 hT10 rfl (fun _ _ q => gE_wL q) ?_
    refine x_let (fun s11 e12 => ?_)
    refine x_goto (μ := mu_x0_redo) (pc := 8) (tgt := 14) dX0_redo_8 rfl ?_
    refine x_iconst (μ := mu_x0_redo) (pc := 14) dX0_redo_14 ?_
    exact x_iret (μ := mu_x0_redo) (pc := 15) dX0_redo_15 rfl rfl (gRel_E.1 _) (show g32 0 from (by decide))
  · refine x_eqE "java/util/NoSuchElementException" (fun _ => ?_) (fun _ => ?_)
    · refine x_catch0 (pc := 3) (tgt := 11) rfl  q2392 q2399 (by decide) (fun q13 => ?_)
      refine x_astore_n (μ := mu_x0_redo) (pc := 11) (lv' := [(2, vR q13), (0, vR v0), (1, vR v1)]) dX0_redo_11 rfl (by decide) rfl ?_
      refine x_iconst (μ := mu_x0_redo) (pc := 12) dX0_redo_12 ?_
      exact x_iret (μ := mu_x0_redo) (pc := 13) dX0_redo_13 rfl rfl (gRel_E.1 _) (show g32 1 from (by decide))
    exact x_xnone
def x1_feed (N : Nat) (v0 : Nat) (v1 : Int) (v2 : Int) (v3 : Int) (v4 : Int) (v5 : Int) (σ : gMem) : Option (Int × gMem) := if mT σ v0 = 1 then if w32 ((mI σ v0 1) + 20) ≤ 400 then (x1_word N v0 v1 σ).bind (fun x3 => (x1_word N v0 v2 x3).bind (fun x5 => (x1_word N v0 v3 x5).bind (fun x7 => (x1_word N v0 v4 x7).bind (fun x9 => (x1_word N v0 v5 x9).bind (fun x11 => some (mI x11 v0 1, x11)))))) else some ((-1), σ) else none
set_option maxRecDepth 100000 in
theorem ok_x1_feed {ω : gW} {l : Launch} {d : Nat} {N : Nat} {σ : gMem} {v0 : Nat} {v1 : Int} {v2 : Int} {v3 : Int} {v4 : Int} {v5 : Int} (hl : l.stackTraces = false) (hdp : 1 ≤ d) (hv1 : g32 v1) (hv2 : g32 v2) (hv3 : g32 v3) (hv4 : g32 v4) (hv5 : g32 v5) : gK (fun p : Int × gMem => (.inl (some (vI p.1)), p.2)) gE ω l d mu_x1_feed [vR v0, vI v1, vI v2, vI v3, vI v4, vI v5] σ (x1_feed N v0 v1 v2 v3 v4 v5 σ) := by
  refine gK.of hp_X1 (Nat.le_of_ble_eq_true rfl) ?_
  unfold x1_feed
  refine x_aload_n (μ := mu_x1_feed) (pc := 0) 0 dX1_feed_0 rfl ?_
  refine x_if (fun hT1 => ?_)
  refine x_fgi (μ := mu_x1_feed) (pc := 1) fX1_1 q646 dX1_feed_1 hT1 (fun hr2 => ?_)
  refine x_bipush (μ := mu_x1_feed) (pc := 4) dX1_feed_4 (by decide) ?_
  refine x_iadd (μ := mu_x1_feed) (pc := 6) dX1_feed_6 ?_
  refine x_sipush (μ := mu_x1_feed) (pc := 7) dX1_feed_7 (by decide) ?_
  refine x_w2 ?_
  refine x_icmp_le (μ := mu_x1_feed) (pc := 10) (tgt := 15) dX1_feed_10 rfl (w32_rng _) (by decide) ?_ ?_
  · refine x_aload_n (μ := mu_x1_feed) (pc := 15) 0 dX1_feed_15 rfl ?_
    refine x_iload_n (μ := mu_x1_feed) (pc := 16) 1 dX1_feed_16 rfl ?_
    refine x_callV_mv (μ := mu_x1_feed) (pc := 17) (ok_x1_word (ω := ω) (l := l) (d := d - 1) hl (by omega) hv1) gRel_E gRel_E (fun _ q => q) q746 q748 qs0 q221 q749 dX1_feed_17 rfl hT1 hy_x1_word (by omega) (Nat.le_of_ble_eq_true rfl) rfl (Nat.le_of_ble_eq_true rfl) (fun x3 k4 => ?_)
    refine x_aload_n (μ := mu_x1_feed) (pc := 20) 0 dX1_feed_20 rfl ?_
    refine x_iload_n (μ := mu_x1_feed) (pc := 21) 2 dX1_feed_21 rfl ?_
    refine x_callV_mv (μ := mu_x1_feed) (pc := 22) (ok_x1_word (ω := ω) (l := l) (d := d - 1) hl (by omega) hv2) gRel_E gRel_E (fun _ q => q) q746 q748 qs0 q221 q749 dX1_feed_22 rfl (gT_E k4 hT1 (by decide)) hy_x1_word (by omega) (Nat.le_of_ble_eq_true rfl) rfl (Nat.le_of_ble_eq_true rfl) (fun x5 k6 => ?_)
    refine x_aload_n (μ := mu_x1_feed) (pc := 25) 0 dX1_feed_25 rfl ?_
    refine x_iload_n (μ := mu_x1_feed) (pc := 26) 3 dX1_feed_26 rfl ?_
    refine x_callV_mv (μ := mu_x1_feed) (pc := 27) (ok_x1_word (ω := ω) (l := l) (d := d - 1) hl (by omega) hv3) gRel_E gRel_E (fun _ q => q) q746 q748 qs0 q221 q749 dX1_feed_27 rfl (gT_E k6 (gT_E k4 hT1 (by decide)) (by decide)) hy_x1_word (by omega) (Nat.le_of_ble_eq_true rfl) rfl (Nat.le_of_ble_eq_true rfl) (fun x7 k8 => ?_)
    refine x_aload_n (μ := mu_x1_feed) (pc := 30) 0 dX1_feed_30 rfl ?_
    refine x_iload (μ := mu_x1_feed) (pc := 31) 4 dX1_feed_31 rfl ?_
    refine x_callV_mv (μ := mu_x1_feed) (pc := 33) (ok_x1_word (ω := ω) (l := l) (d := d - 1) hl (by omega) hv4) gRel_E gRel_E (fun _ q => q) q746 q748 qs0 q221 q749 dX1_feed_33 rfl (gT_E k8 (gT_E k6 (gT_E k4 hT1 (by decide)) (by decide)) (by decide)) hy_x1_word (by omega) (Nat.le_of_ble_eq_true rfl) rfl (Nat.le_of_ble_eq_true rfl) (fun x9 k10 => ?_)
    refine x_aload_n (μ := mu_x1_feed) (pc := 36) 0 dX1_feed_36 rfl ?_
    refine x_iload (μ := mu_x1_feed) (pc := 37) 5 dX1_feed_37 rfl ?_
    refine x_callV_mv (μ := mu_x1_feed) (pc := 39) (ok_x1_word (ω := ω) (l := l) (d := d - 1) hl (by omega) hv5) gRel_E gRel_E (fun _ q => q) q746 q748 qs0 q221 q749 dX1_feed_39 rfl (gT_E k10 (gT_E k8 (gT_E k6 (gT_E k4 hT1 (by decide)) (by decide)) (by decide)) (by decide)) hy_x1_word (by omega) (Nat.le_of_ble_eq_true rfl) rfl (Nat.le_of_ble_eq_true rfl) (fun x11 k12 => ?_)
    refine x_aload_n (μ := mu_x1_feed) (pc := 42) 0 dX1_feed_42 rfl ?_
    refine x_fgi (μ := mu_x1_feed) (pc := 43) fX1_1 q646 dX1_feed_43 (gT_E k12 (gT_E k10 (gT_E k8 (gT_E k6 (gT_E k4 hT1 (by decide)) (by decide)) (by decide)) (by decide)) (by decide)) (fun hr13 => ?_)
    exact x_iret (μ := mu_x1_feed) (pc := 46) dX1_feed_46 rfl rfl (gRel_E.1 _) (show g32 (mI x11 v0 1) from hr13)
  · refine x_iconst (μ := mu_x1_feed) (pc := 13) dX1_feed_13 ?_
    exact x_iret (μ := mu_x1_feed) (pc := 14) dX1_feed_14 rfl rfl (gRel_E.1 _) (show g32 (-1) from (by decide))
def x1_sheet (v0 : Nat) (v1 : Int) (v2 : Int) (σ : gMem) : Option Int := if mT σ v0 = 1 then (x1_sheetOf v0 v1 σ).bind (fun x2 => if x2 ≠ 0 then if v2 = 0 then if mT σ x2 = 8 then if mT σ (mR σ x2 0) = 100 then some (w32 (mN σ (mR σ x2 0) : Int)) else none else none else if v2 = 1 then if mT σ x2 = 8 then if mT σ (mR σ x2 1) = 100 then some (w32 (mN σ (mR σ x2 1) : Int)) else none else none else if v2 = 2 then if v1 ≠ (-1) then if mT σ (mR σ v0 4) = 104 then if 0 ≤ v1 ∧ v1 < (mN σ (mR σ v0 4) : Int) then if mT σ (mR σ (mR σ v0 4) v1.toNat) = 9 then some (mI σ (mR σ (mR σ v0 4) v1.toNat) 2) else none else none else none else (x1_head v0 σ).bind (fun x13 => some x13) else if v2 = 3 then if v1 ≠ (-1) then if mT σ (mR σ v0 4) = 104 then if 0 ≤ v1 ∧ v1 < (mN σ (mR σ v0 4) : Int) then if mT σ (mR σ (mR σ v0 4) v1.toNat) = 9 then some (mI σ (mR σ (mR σ v0 4) v1.toNat) 3) else none else none else none else some (mI σ v0 15) else some (-1) else some (-1)) else none
set_option maxRecDepth 100000 in
theorem ok_x1_sheet {ω : gW} {l : Launch} {d : Nat} {σ : gMem} {v0 : Nat} {v1 : Int} {v2 : Int} (hl : l.stackTraces = false) (hdp : 1 ≤ d) (hv1 : g32 v1) (hv2 : g32 v2) : gK (fun x : Int => (.inl (some (vI x)), σ)) gE ω l d mu_x1_sheet [vR v0, vI v1, vI v2] σ (x1_sheet v0 v1 v2 σ) := by
  refine gK.of hp_X1 (Nat.le_of_ble_eq_true rfl) ?_
  unfold x1_sheet
  refine x_aload_n (μ := mu_x1_sheet) (pc := 0) 0 dX1_sheet_0 rfl ?_
  refine x_iload_n (μ := mu_x1_sheet) (pc := 1) 1 dX1_sheet_1 rfl ?_
  refine x_if (fun hT1 => ?_)
  refine x_callV_pr (μ := mu_x1_sheet) (pc := 2) (ok_x1_sheetOf (ω := ω) (l := l) (d := d - 1) hl (by omega) hv1) gRel_E gRel_E (fun _ q => q) q808 q810 qs4 q221 q811 dX1_sheet_2 rfl hT1 hy_x1_sheetOf (by omega) (Nat.le_of_ble_eq_true rfl) rfl (Nat.le_of_ble_eq_true rfl) (fun x2 => ?_)
  refine x_astore_n (μ := mu_x1_sheet) (pc := 5) (lv' := [(3, vR x2), (0, vR v0), (1, vI v1), (2, vI v2)]) dX1_sheet_5 rfl (by decide) rfl ?_
  refine x_aload_n (μ := mu_x1_sheet) (pc := 6) 0 dX1_sheet_6 rfl ?_
  refine x_ifnonnull (μ := mu_x1_sheet) (pc := 7) (tgt := 12) dX1_sheet_7 rfl ?_ ?_
  · refine x_iload_n (μ := mu_x1_sheet) (pc := 12) 3 dX1_sheet_12 rfl ?_
    refine x_tab (μ := mu_x1_sheet) (pc := 13) (tgt := 44) 0 dX1_sheet_13 (by decide) (by decide) (by decide) rfl rfl ?_ (fun hn3 => ?_)
    · refine x_aload_n (μ := mu_x1_sheet) (pc := 44) 0 dX1_sheet_44 rfl ?_
      refine x_if (fun hT4 => ?_)
      refine x_fgrN (μ := mu_x1_sheet) (pc := 45) fX9_0 (by first | exact Or.inl ⟨_, rfl⟩ | exact Or.inr ⟨_, rfl⟩) q571 dX1_sheet_45 hT4 ?_
      refine x_if (fun hT5 => ?_)
      refine x_len (μ := mu_x1_sheet) (pc := 48) 0 (fun _ => rfl) dX1_sheet_48 hT5 ?_
      refine x_w1 ?_
      exact x_iret (μ := mu_x1_sheet) (pc := 49) dX1_sheet_49 rfl rfl (gRel_E.1 _) (show g32 (w32 (mN σ (mR σ x2 0) : Int)) from (w32_rng _))
    refine x_tab (μ := mu_x1_sheet) (pc := 13) (tgt := 50) 1 dX1_sheet_13 (by decide) (by decide) (by decide) rfl rfl ?_ (fun hn6 => ?_)
    · refine x_aload_n (μ := mu_x1_sheet) (pc := 50) 0 dX1_sheet_50 rfl ?_
      refine x_if (fun hT7 => ?_)
      refine x_fgrN (μ := mu_x1_sheet) (pc := 51) fX9_1 (by first | exact Or.inl ⟨_, rfl⟩ | exact Or.inr ⟨_, rfl⟩) q576 dX1_sheet_51 hT7 ?_
      refine x_if (fun hT8 => ?_)
      refine x_len (μ := mu_x1_sheet) (pc := 54) 0 (fun _ => rfl) dX1_sheet_54 hT8 ?_
      refine x_w1 ?_
      exact x_iret (μ := mu_x1_sheet) (pc := 55) dX1_sheet_55 rfl rfl (gRel_E.1 _) (show g32 (w32 (mN σ (mR σ x2 1) : Int)) from (w32_rng _))
    refine x_tab (μ := mu_x1_sheet) (pc := 13) (tgt := 56) 2 dX1_sheet_13 (by decide) (by decide) (by decide) rfl rfl ?_ (fun hn9 => ?_)
    · refine x_iload_n (μ := mu_x1_sheet) (pc := 56) 2 dX1_sheet_56 rfl ?_
      refine x_iconst (μ := mu_x1_sheet) (pc := 57) dX1_sheet_57 ?_
      refine x_icmp_ne (μ := mu_x1_sheet) (pc := 58) (tgt := 68) dX1_sheet_58 rfl hv1 (by decide) ?_ ?_
      · refine x_aload_n (μ := mu_x1_sheet) (pc := 68) 1 dX1_sheet_68 rfl ?_
        refine x_fgr (μ := mu_x1_sheet) (pc := 69) fX1_4 (by first | exact Or.inl ⟨_, rfl⟩ | exact Or.inr ⟨_, rfl⟩) q649 dX1_sheet_69 hT1 ?_
        refine x_iload_n (μ := mu_x1_sheet) (pc := 72) 2 dX1_sheet_72 rfl ?_
        refine x_if (fun hT10 => ?_)
        refine x_aald (μ := mu_x1_sheet) (pc := 73) 4 (fun _ => rfl) rfl rfl dX1_sheet_73 hT10 rfl ?_
        refine x_if (fun hT11 => ?_)
        refine x_fgiN (μ := mu_x1_sheet) (pc := 74) fX10_2 q607 dX1_sheet_74 hT11 (fun hr12 => ?_)
        exact x_iret (μ := mu_x1_sheet) (pc := 77) dX1_sheet_77 rfl rfl (gRel_E.1 _) (show g32 (mI σ (mR σ (mR σ v0 4) v1.toNat) 2) from hr12)
      · refine x_aload_n (μ := mu_x1_sheet) (pc := 61) 1 dX1_sheet_61 rfl ?_
        refine x_callV_pi (μ := mu_x1_sheet) (pc := 62) (ok_x1_head (ω := ω) (l := l) (d := d - 1) hl (by omega) ) gRel_E gRel_E (fun _ q => q) q766 q768 qs2 q221 q769 dX1_sheet_62 rfl hT1 hy_x1_head (by omega) (Nat.le_of_ble_eq_true rfl) rfl (Nat.le_of_ble_eq_true rfl) (fun x13 hr14 => ?_)
        refine x_goto (μ := mu_x1_sheet) (pc := 65) (tgt := 77) dX1_sheet_65 rfl ?_
        exact x_iret (μ := mu_x1_sheet) (pc := 77) dX1_sheet_77 rfl rfl (gRel_E.1 _) (show g32 x13 from hr14)
    refine x_tab (μ := mu_x1_sheet) (pc := 13) (tgt := 78) 3 dX1_sheet_13 (by decide) (by decide) (by decide) rfl rfl ?_ (fun hn15 => ?_)
    · refine x_iload_n (μ := mu_x1_sheet) (pc := 78) 2 dX1_sheet_78 rfl ?_
      refine x_iconst (μ := mu_x1_sheet) (pc := 79) dX1_sheet_79 ?_
      refine x_icmp_ne (μ := mu_x1_sheet) (pc := 80) (tgt := 90) dX1_sheet_80 rfl hv1 (by decide) ?_ ?_
      · refine x_aload_n (μ := mu_x1_sheet) (pc := 90) 1 dX1_sheet_90 rfl ?_
        refine x_fgr (μ := mu_x1_sheet) (pc := 91) fX1_4 (by first | exact Or.inl ⟨_, rfl⟩ | exact Or.inr ⟨_, rfl⟩) q649 dX1_sheet_91 hT1 ?_
        refine x_iload_n (μ := mu_x1_sheet) (pc := 94) 2 dX1_sheet_94 rfl ?_
        refine x_if (fun hT16 => ?_)
        refine x_aald (μ := mu_x1_sheet) (pc := 95) 4 (fun _ => rfl) rfl rfl dX1_sheet_95 hT16 rfl ?_
        refine x_if (fun hT17 => ?_)
        refine x_fgiN (μ := mu_x1_sheet) (pc := 96) fX10_3 q609 dX1_sheet_96 hT17 (fun hr18 => ?_)
        exact x_iret (μ := mu_x1_sheet) (pc := 99) dX1_sheet_99 rfl rfl (gRel_E.1 _) (show g32 (mI σ (mR σ (mR σ v0 4) v1.toNat) 3) from hr18)
      · refine x_aload_n (μ := mu_x1_sheet) (pc := 83) 1 dX1_sheet_83 rfl ?_
        refine x_fgi (μ := mu_x1_sheet) (pc := 84) fX1_15 q660 dX1_sheet_84 hT1 (fun hr19 => ?_)
        refine x_goto (μ := mu_x1_sheet) (pc := 87) (tgt := 99) dX1_sheet_87 rfl ?_
        exact x_iret (μ := mu_x1_sheet) (pc := 99) dX1_sheet_99 rfl rfl (gRel_E.1 _) (show g32 (mI σ v0 15) from hr19)
    refine x_tabOut (μ := mu_x1_sheet) (pc := 13) (tgt := 100) dX1_sheet_13 hv2 (by omega) rfl ?_
    refine x_iconst (μ := mu_x1_sheet) (pc := 100) dX1_sheet_100 ?_
    exact x_iret (μ := mu_x1_sheet) (pc := 101) dX1_sheet_101 rfl rfl (gRel_E.1 _) (show g32 (-1) from (by decide))
  · refine x_iconst (μ := mu_x1_sheet) (pc := 10) dX1_sheet_10 ?_
    exact x_iret (μ := mu_x1_sheet) (pc := 11) dX1_sheet_11 rfl rfl (gRel_E.1 _) (show g32 (-1) from (by decide))
def x1_hasCell (v0 : Nat) (v1 : Int) (v2 : Int) (v3 : Int) (σ : gMem) : Option Int := if mT σ v0 = 1 then (x1_sheetOf v0 v1 σ).bind (fun x2 => if x2 = 0 then some 0 else if mT σ x2 = 8 then (x9_has x2 (w32 (v2 - 1)) (w32 (v3 - 1)) σ).bind (fun x4 => if x4 = 0 then some 0 else some 1) else none) else none
set_option maxRecDepth 100000 in
theorem ok_x1_hasCell {ω : gW} {l : Launch} {d : Nat} {σ : gMem} {v0 : Nat} {v1 : Int} {v2 : Int} {v3 : Int} (hl : l.stackTraces = false) (hdp : 1 ≤ d) (hv1 : g32 v1) (hv2 : g32 v2) (hv3 : g32 v3) : gK (fun x : Int => (.inl (some (vI x)), σ)) gE ω l d mu_x1_hasCell [vR v0, vI v1, vI v2, vI v3] σ (x1_hasCell v0 v1 v2 v3 σ) := by
  refine gK.of hp_X1 (Nat.le_of_ble_eq_true rfl) ?_
  unfold x1_hasCell
  refine x_aload_n (μ := mu_x1_hasCell) (pc := 0) 0 dX1_hasCell_0 rfl ?_
  refine x_iload_n (μ := mu_x1_hasCell) (pc := 1) 1 dX1_hasCell_1 rfl ?_
  refine x_if (fun hT1 => ?_)
  refine x_callV_pr (μ := mu_x1_hasCell) (pc := 2) (ok_x1_sheetOf (ω := ω) (l := l) (d := d - 1) hl (by omega) hv1) gRel_E gRel_E (fun _ q => q) q808 q810 qs4 q221 q811 dX1_hasCell_2 rfl hT1 hy_x1_sheetOf (by omega) (Nat.le_of_ble_eq_true rfl) rfl (Nat.le_of_ble_eq_true rfl) (fun x2 => ?_)
  refine x_astore (μ := mu_x1_hasCell) (pc := 5) (lv' := [(4, vR x2), (0, vR v0), (1, vI v1), (2, vI v2), (3, vI v3)]) dX1_hasCell_5 (by decide) rfl ?_
  refine x_aload (μ := mu_x1_hasCell) (pc := 7) 0 dX1_hasCell_7 rfl ?_
  refine x_ifnull (μ := mu_x1_hasCell) (pc := 9) (tgt := 30) dX1_hasCell_9 rfl ?_ ?_
  · refine x_iconst (μ := mu_x1_hasCell) (pc := 30) dX1_hasCell_30 ?_
    exact x_zret (μ := mu_x1_hasCell) (pc := 31) dX1_hasCell_31 rfl (by decide) rfl (gRel_E.1 _) (show g32 0 from (by decide))
  · refine x_aload (μ := mu_x1_hasCell) (pc := 12) 0 dX1_hasCell_12 rfl ?_
    refine x_iload_n (μ := mu_x1_hasCell) (pc := 14) 3 dX1_hasCell_14 rfl ?_
    refine x_iconst (μ := mu_x1_hasCell) (pc := 15) dX1_hasCell_15 ?_
    refine x_isub (μ := mu_x1_hasCell) (pc := 16) dX1_hasCell_16 ?_
    refine x_iload_n (μ := mu_x1_hasCell) (pc := 17) 4 dX1_hasCell_17 rfl ?_
    refine x_iconst (μ := mu_x1_hasCell) (pc := 18) dX1_hasCell_18 ?_
    refine x_isub (μ := mu_x1_hasCell) (pc := 19) dX1_hasCell_19 ?_
    refine x_w1 ?_
    refine x_w2 ?_
    refine x_if (fun hT3 => ?_)
    refine x_callV_pi (μ := mu_x1_hasCell) (pc := 20) (ok_x9_has (ω := ω) (l := l) (d := d - 1) hl (by omega) (w32_rng _) (w32_rng _)) gRel_E gRel_E (fun _ q => q) q820 q821 q822 q230 q823 dX1_hasCell_20 rfl hT3 hy_x9_has (by omega) (Nat.le_of_ble_eq_true rfl) rfl (Nat.le_of_ble_eq_true rfl) (fun x4 hr5 => ?_)
    refine x_if_eq (μ := mu_x1_hasCell) (pc := 23) (tgt := 30) dX1_hasCell_23 rfl hr5 ?_ ?_
    · refine x_iconst (μ := mu_x1_hasCell) (pc := 30) dX1_hasCell_30 ?_
      exact x_zret (μ := mu_x1_hasCell) (pc := 31) dX1_hasCell_31 rfl (by decide) rfl (gRel_E.1 _) (show g32 0 from (by decide))
    · refine x_iconst (μ := mu_x1_hasCell) (pc := 26) dX1_hasCell_26 ?_
      refine x_goto (μ := mu_x1_hasCell) (pc := 27) (tgt := 31) dX1_hasCell_27 rfl ?_
      exact x_zret (μ := mu_x1_hasCell) (pc := 31) dX1_hasCell_31 rfl (by decide) rfl (gRel_E.1 _) (show g32 1 from (by decide))
def x1_reckon_j96 (v1 : Nat) (v2 : Int) (v4 : Int) (s : gMem) : Option gMem := if mT s v1 = 5 then (x5_be v1 (w64 (v4 * v2)) s).bind (fun x13 => some x13) else none
set_option maxRecDepth 100000 in
theorem okj_x1_reckon_j96 {ω : gW} {l : Launch} {d : Nat} {σ0 : gMem} {s : gMem} {v1 : Nat} {v2 : Int} {v4 : Int} (hl : l.stackTraces = false) (hdp : 2 ≤ d) (hv2 : g64 v2) (hv4 : g64 v4) : GG (fun p : gMem => (.inl none, p)) gE ω l d mu_x1_reckon σ0 96 [(1, vR v1), (2, vL v2), (4, vL v4)] [] s (x1_reckon_j96 v1 v2 v4 s) := by
  unfold x1_reckon_j96
  refine x_aload_n (μ := mu_x1_reckon) (pc := 96) 0 dX1_reckon_96 rfl ?_
  refine x_lload (μ := mu_x1_reckon) (pc := 97) 2 dX1_reckon_97 rfl ?_
  refine x_lload_n (μ := mu_x1_reckon) (pc := 99) 1 dX1_reckon_99 rfl ?_
  refine x_lmul (μ := mu_x1_reckon) (pc := 100) dX1_reckon_100 ?_
  refine x_W1 ?_
  refine x_if (fun hT12 => ?_)
  refine x_callV_mv (μ := mu_x1_reckon) (pc := 101) (ok_x5_be (ω := ω) (l := l) (d := d - 1) hl (by omega) (w64_rng _)) gRel_E gRel_E (fun _ q => q) q1185 q1052 q1053 q225 q1054 dX1_reckon_101 rfl hT12 hy_x5_be (by omega) (Nat.le_of_ble_eq_true rfl) rfl (Nat.le_of_ble_eq_true rfl) (fun x13 k14 => ?_)
  refine x_goto (μ := mu_x1_reckon) (pc := 104) (tgt := 143) dX1_reckon_104 rfl ?_
  exact x_vret (μ := mu_x1_reckon) (pc := 143) (a1 := x13) dX1_reckon_143 rfl rfl (gRel_E.1 _) trivial
def x1_reckon (v0 : Nat) (v1 : Nat) (v2 : Int) (σ : gMem) : Option gMem := if mT σ v1 = 5 then if mT σ v0 = 92 then if mI σ v0 0 = 7 then (x5_be v1 (w64 ((mL σ v1 2) + v2)) σ).bind (fun x6 => some x6) else if mI σ v0 0 = 8 then (x5_be v1 (w64 ((mL σ v1 2) - v2)) σ).bind (fun x9 => some x9) else if mI σ v0 0 = 9 then if gcmp (mL σ v1 2) (((0 : Fin 2) : Nat) : Int) = 0 then x1_reckon_j96 v1 v2 (mL σ v1 2)  σ else if gcmp v2 (((0 : Fin 2) : Nat) : Int) = 0 then x1_reckon_j96 v1 v2 (mL σ v1 2)  σ else if w64 (if 0 < v2 then v2 else -v2) ≠ 0 then if gcmp (w64 (if 0 < (mL σ v1 2) then (mL σ v1 2) else -(mL σ v1 2))) (w64 (Int.tdiv 1000000000000000 (w64 (if 0 < v2 then v2 else -v2)))) ≤ 0 then x1_reckon_j96 v1 v2 (mL σ v1 2)  σ else (x5_fail v1 4 σ).bind (fun x15 => some x15) else none else if gcmp v2 (((0 : Fin 2) : Nat) : Int) ≠ 0 then if v0 ≠ mR σ 0 30 then if v2 ≠ 0 then (x5_be v1 (w64 (Int.tmod (mL σ v1 2) v2)) σ).bind (fun x17 => some x17) else none else if v2 ≠ 0 then (x5_be v1 (w64 (Int.tdiv (mL σ v1 2) v2)) σ).bind (fun x19 => some x19) else none else (x5_fail v1 2 σ).bind (fun x21 => some x21) else none else none
set_option maxRecDepth 100000 in
theorem ok_x1_reckon {ω : gW} {l : Launch} {d : Nat} {σ : gMem} {v0 : Nat} {v1 : Nat} {v2 : Int} (hl : l.stackTraces = false) (hdp : 2 ≤ d) (hv2 : g64 v2) : gK (fun p : gMem => (.inl none, p)) gE ω l d mu_x1_reckon [vR v0, vR v1, vL v2] σ (x1_reckon v0 v1 v2 σ) := by
  refine gK.of hp_X1 (Nat.le_of_ble_eq_true rfl) ?_
  unfold x1_reckon
  refine x_aload_n (μ := mu_x1_reckon) (pc := 0) 1 dX1_reckon_0 rfl ?_
  refine x_if (fun hT1 => ?_)
  refine x_fglN (μ := mu_x1_reckon) (pc := 1) fX5_2 q381 dX1_reckon_1 hT1 (fun hr2 => ?_)
  refine x_lstore (μ := mu_x1_reckon) (pc := 4) (lv' := [(4, vL (mL σ v1 2)), (0, vR v0), (1, vR v1), (2, vL v2)]) dX1_reckon_4 (by decide) rfl ?_
  refine x_aload_n (μ := mu_x1_reckon) (pc := 6) 1 dX1_reckon_6 rfl ?_
  refine x_if (fun hT3 => ?_)
  refine x_ord92 (μ := mu_x1_reckon) (pc := 7) q1105 dX1_reckon_7 hT3 (by omega) (Nat.le_of_ble_eq_true rfl) (fun hr4 => ?_)
  refine x_tab (μ := mu_x1_reckon) (pc := 10) (tgt := 36) 7 dX1_reckon_10 (by decide) (by decide) (by decide) rfl rfl ?_ (fun hn5 => ?_)
  · refine x_aload_n (μ := mu_x1_reckon) (pc := 36) 2 dX1_reckon_36 rfl ?_
    refine x_lload (μ := mu_x1_reckon) (pc := 37) 0 dX1_reckon_37 rfl ?_
    refine x_lload_n (μ := mu_x1_reckon) (pc := 39) 3 dX1_reckon_39 rfl ?_
    refine x_ladd (μ := mu_x1_reckon) (pc := 40) dX1_reckon_40 ?_
    refine x_W1 ?_
    refine x_callV_mv (μ := mu_x1_reckon) (pc := 41) (ok_x5_be (ω := ω) (l := l) (d := d - 1) hl (by omega) (w64_rng _)) gRel_E gRel_E (fun _ q => q) q1185 q1052 q1053 q225 q1054 dX1_reckon_41 rfl hT1 hy_x5_be (by omega) (Nat.le_of_ble_eq_true rfl) rfl (Nat.le_of_ble_eq_true rfl) (fun x6 k7 => ?_)
    refine x_goto (μ := mu_x1_reckon) (pc := 44) (tgt := 143) dX1_reckon_44 rfl ?_
    exact x_vret (μ := mu_x1_reckon) (pc := 143) (a1 := x6) dX1_reckon_143 rfl rfl (gRel_E.1 _) trivial
  refine x_tab (μ := mu_x1_reckon) (pc := 10) (tgt := 47) 8 dX1_reckon_10 (by decide) (by decide) (by decide) rfl rfl ?_ (fun hn8 => ?_)
  · refine x_aload_n (μ := mu_x1_reckon) (pc := 47) 2 dX1_reckon_47 rfl ?_
    refine x_lload (μ := mu_x1_reckon) (pc := 48) 0 dX1_reckon_48 rfl ?_
    refine x_lload_n (μ := mu_x1_reckon) (pc := 50) 3 dX1_reckon_50 rfl ?_
    refine x_lsub (μ := mu_x1_reckon) (pc := 51) dX1_reckon_51 ?_
    refine x_W1 ?_
    refine x_callV_mv (μ := mu_x1_reckon) (pc := 52) (ok_x5_be (ω := ω) (l := l) (d := d - 1) hl (by omega) (w64_rng _)) gRel_E gRel_E (fun _ q => q) q1185 q1052 q1053 q225 q1054 dX1_reckon_52 rfl hT1 hy_x5_be (by omega) (Nat.le_of_ble_eq_true rfl) rfl (Nat.le_of_ble_eq_true rfl) (fun x9 k10 => ?_)
    refine x_goto (μ := mu_x1_reckon) (pc := 55) (tgt := 143) dX1_reckon_55 rfl ?_
    exact x_vret (μ := mu_x1_reckon) (pc := 143) (a1 := x9) dX1_reckon_143 rfl rfl (gRel_E.1 _) trivial
  refine x_tab (μ := mu_x1_reckon) (pc := 10) (tgt := 58) 9 dX1_reckon_10 (by decide) (by decide) (by decide) rfl rfl ?_ (fun hn11 => ?_)
  · refine x_lload (μ := mu_x1_reckon) (pc := 58) 0 dX1_reckon_58 rfl ?_
    refine x_lconst (μ := mu_x1_reckon) (pc := 60) dX1_reckon_60 ?_
    refine x_lcmp (μ := mu_x1_reckon) (pc := 61) dX1_reckon_61 hr2 (by decide) ?_
    refine x_if_eq (μ := mu_x1_reckon) (pc := 62) (tgt := 96) dX1_reckon_62 rfl (gcmp_rng _ _) ?_ ?_
    · refine x_loc (lv' := [(1, vR v1), (2, vL v2), (4, vL (mL σ v1 2))]) [2, 3, 0] rfl ?_
      exact okj_x1_reckon_j96 hl hdp hv2 hr2
    · refine x_lload_n (μ := mu_x1_reckon) (pc := 65) 3 dX1_reckon_65 rfl ?_
      refine x_lconst (μ := mu_x1_reckon) (pc := 66) dX1_reckon_66 ?_
      refine x_lcmp (μ := mu_x1_reckon) (pc := 67) dX1_reckon_67 hv2 (by decide) ?_
      refine x_if_eq (μ := mu_x1_reckon) (pc := 68) (tgt := 96) dX1_reckon_68 rfl (gcmp_rng _ _) ?_ ?_
      · refine x_loc (lv' := [(1, vR v1), (2, vL v2), (4, vL (mL σ v1 2))]) [2, 3, 0] rfl ?_
        exact okj_x1_reckon_j96 hl hdp hv2 hr2
      · refine x_lload (μ := mu_x1_reckon) (pc := 71) 0 dX1_reckon_71 rfl ?_
        refine x_mabs_long (μ := mu_x1_reckon) (pc := 73) q1186 dX1_reckon_73 hr2 (by omega) (Nat.le_of_ble_eq_true rfl) ?_
        refine x_ldc2 (μ := mu_x1_reckon) (pc := 76) (n := 1000000000000000) dX1_reckon_76 q1189 ?_
        refine x_lload_n (μ := mu_x1_reckon) (pc := 79) 3 dX1_reckon_79 rfl ?_
        refine x_mabs_long (μ := mu_x1_reckon) (pc := 80) q1186 dX1_reckon_80 hv2 (by omega) (Nat.le_of_ble_eq_true rfl) ?_
        refine x_W1 ?_
        refine x_ldiv (μ := mu_x1_reckon) (pc := 83) dX1_reckon_83 (by decide) (w64_rng _) ?_
        refine x_W1 ?_
        refine x_W2 ?_
        refine x_lcmp (μ := mu_x1_reckon) (pc := 84) dX1_reckon_84 (w64_rng _) (w64_rng _) ?_
        refine x_if_le (μ := mu_x1_reckon) (pc := 85) (tgt := 96) dX1_reckon_85 rfl (gcmp_rng _ _) ?_ ?_
        · refine x_loc (lv' := [(1, vR v1), (2, vL v2), (4, vL (mL σ v1 2))]) [2, 3, 0] rfl ?_
          exact okj_x1_reckon_j96 hl hdp hv2 hr2
        · refine x_aload_n (μ := mu_x1_reckon) (pc := 88) 2 dX1_reckon_88 rfl ?_
          refine x_iconst (μ := mu_x1_reckon) (pc := 89) dX1_reckon_89 ?_
          refine x_callV_mv (μ := mu_x1_reckon) (pc := 90) (ok_x5_fail (ω := ω) (l := l) (d := d - 1) hl (by omega) (by decide)) gRel_E gRel_E (fun _ q => q) q1097 q969 q970 q225 q971 dX1_reckon_90 rfl hT1 hy_x5_fail (by omega) (Nat.le_of_ble_eq_true rfl) rfl (Nat.le_of_ble_eq_true rfl) (fun x15 k16 => ?_)
          refine x_goto (μ := mu_x1_reckon) (pc := 93) (tgt := 143) dX1_reckon_93 rfl ?_
          exact x_vret (μ := mu_x1_reckon) (pc := 143) (a1 := x15) dX1_reckon_143 rfl rfl (gRel_E.1 _) trivial
  refine x_tabOut (μ := mu_x1_reckon) (pc := 10) (tgt := 107) dX1_reckon_10 hr4 (by omega) rfl ?_
  refine x_lload_n (μ := mu_x1_reckon) (pc := 107) 3 dX1_reckon_107 rfl ?_
  refine x_lconst (μ := mu_x1_reckon) (pc := 108) dX1_reckon_108 ?_
  refine x_lcmp (μ := mu_x1_reckon) (pc := 109) dX1_reckon_109 hv2 (by decide) ?_
  refine x_if_ne (μ := mu_x1_reckon) (pc := 110) (tgt := 121) dX1_reckon_110 rfl (gcmp_rng _ _) ?_ ?_
  · refine x_aload_n (μ := mu_x1_reckon) (pc := 121) 2 dX1_reckon_121 rfl ?_
    refine x_aload_n (μ := mu_x1_reckon) (pc := 122) 1 dX1_reckon_122 rfl ?_
    refine x_gst (μ := mu_x1_reckon) (pc := 123) (j := 30) (List.mem_of_getElem? (i := 28) rfl) q1190 dX1_reckon_123 ?_
    refine x_acmp_ne (μ := mu_x1_reckon) (pc := 126) (tgt := 136) dX1_reckon_126 rfl ?_ ?_
    · refine x_lload (μ := mu_x1_reckon) (pc := 136) 0 dX1_reckon_136 rfl ?_
      refine x_lload_n (μ := mu_x1_reckon) (pc := 138) 3 dX1_reckon_138 rfl ?_
      refine x_lrem (μ := mu_x1_reckon) (pc := 139) dX1_reckon_139 hr2 hv2 ?_
      refine x_W1 ?_
      refine x_callV_mv (μ := mu_x1_reckon) (pc := 140) (ok_x5_be (ω := ω) (l := l) (d := d - 1) hl (by omega) (w64_rng _)) gRel_E gRel_E (fun _ q => q) q1185 q1052 q1053 q225 q1054 dX1_reckon_140 rfl hT1 hy_x5_be (by omega) (Nat.le_of_ble_eq_true rfl) rfl (Nat.le_of_ble_eq_true rfl) (fun x17 k18 => ?_)
      exact x_vret (μ := mu_x1_reckon) (pc := 143) (a1 := x17) dX1_reckon_143 rfl rfl (gRel_E.1 _) trivial
    · refine x_lload (μ := mu_x1_reckon) (pc := 129) 0 dX1_reckon_129 rfl ?_
      refine x_lload_n (μ := mu_x1_reckon) (pc := 131) 3 dX1_reckon_131 rfl ?_
      refine x_ldiv (μ := mu_x1_reckon) (pc := 132) dX1_reckon_132 hr2 hv2 ?_
      refine x_goto (μ := mu_x1_reckon) (pc := 133) (tgt := 140) dX1_reckon_133 rfl ?_
      refine x_W1 ?_
      refine x_callV_mv (μ := mu_x1_reckon) (pc := 140) (ok_x5_be (ω := ω) (l := l) (d := d - 1) hl (by omega) (w64_rng _)) gRel_E gRel_E (fun _ q => q) q1185 q1052 q1053 q225 q1054 dX1_reckon_140 rfl hT1 hy_x5_be (by omega) (Nat.le_of_ble_eq_true rfl) rfl (Nat.le_of_ble_eq_true rfl) (fun x19 k20 => ?_)
      exact x_vret (μ := mu_x1_reckon) (pc := 143) (a1 := x19) dX1_reckon_143 rfl rfl (gRel_E.1 _) trivial
  · refine x_aload_n (μ := mu_x1_reckon) (pc := 113) 2 dX1_reckon_113 rfl ?_
    refine x_iconst (μ := mu_x1_reckon) (pc := 114) dX1_reckon_114 ?_
    refine x_callV_mv (μ := mu_x1_reckon) (pc := 115) (ok_x5_fail (ω := ω) (l := l) (d := d - 1) hl (by omega) (by decide)) gRel_E gRel_E (fun _ q => q) q1097 q969 q970 q225 q971 dX1_reckon_115 rfl hT1 hy_x5_fail (by omega) (Nat.le_of_ble_eq_true rfl) rfl (Nat.le_of_ble_eq_true rfl) (fun x21 k22 => ?_)
    refine x_goto (μ := mu_x1_reckon) (pc := 118) (tgt := 143) dX1_reckon_118 rfl ?_
    exact x_vret (μ := mu_x1_reckon) (pc := 143) (a1 := x21) dX1_reckon_143 rfl rfl (gRel_E.1 _) trivial
def x1_look (v0 : Nat) (v1 : Int) (v2 : Int) (v3 : Int) (v4 : Int) (σ : gMem) : Option gR := if mT σ v0 = 1 then if mT σ (mR σ v0 8) = 8 then (x9_has (mR σ v0 8) (w32 (v1 - 1)) (w32 (v2 - 1)) σ).bind (fun x3 => if x3 = 0 then some (.inr "java/lang/IndexOutOfBoundsException", wX σ 6) else (x9_has (mR σ v0 8) (w32 (v3 - 1)) (w32 (v4 - 1)) σ).bind (fun x5 => if x5 ≠ 0 then if v3 < v1 then some (.inr "java/lang/IllegalArgumentException", wX σ 6) else if v2 ≤ v4 then some (.inl none, σ) else some (.inr "java/lang/IllegalArgumentException", wX σ 6) else some (.inr "java/lang/IndexOutOfBoundsException", wX σ 6))) else none else none
set_option maxRecDepth 100000 in
theorem ok_x1_look {ω : gW} {l : Launch} {d : Nat} {σ : gMem} {v0 : Nat} {v1 : Int} {v2 : Int} {v3 : Int} {v4 : Int} (hl : l.stackTraces = false) (hdp : 8 ≤ d) (hv1 : g32 v1) (hv2 : g32 v2) (hv3 : g32 v3) (hv4 : g32 v4) : gK (fun p : gR => p) gE ω l d mu_x1_look [vR v0, vI v1, vI v2, vI v3, vI v4] σ (x1_look v0 v1 v2 v3 v4 σ) := by
  refine gK.of hp_X1 (Nat.le_of_ble_eq_true rfl) ?_
  unfold x1_look
  refine x_aload_n (μ := mu_x1_look) (pc := 0) 0 dX1_look_0 rfl ?_
  refine x_if (fun hT1 => ?_)
  refine x_fgr (μ := mu_x1_look) (pc := 1) fX1_8 (by first | exact Or.inl ⟨_, rfl⟩ | exact Or.inr ⟨_, rfl⟩) q653 dX1_look_1 hT1 ?_
  refine x_iload_n (μ := mu_x1_look) (pc := 4) 1 dX1_look_4 rfl ?_
  refine x_iconst (μ := mu_x1_look) (pc := 5) dX1_look_5 ?_
  refine x_isub (μ := mu_x1_look) (pc := 6) dX1_look_6 ?_
  refine x_iload_n (μ := mu_x1_look) (pc := 7) 2 dX1_look_7 rfl ?_
  refine x_iconst (μ := mu_x1_look) (pc := 8) dX1_look_8 ?_
  refine x_isub (μ := mu_x1_look) (pc := 9) dX1_look_9 ?_
  refine x_w1 ?_
  refine x_w2 ?_
  refine x_if (fun hT2 => ?_)
  refine x_callV_pi (μ := mu_x1_look) (pc := 10) (ok_x9_has (ω := ω) (l := l) (d := d - 1) hl (by omega) (w32_rng _) (w32_rng _)) gRel_E gRel_E (fun _ q => q) q820 q821 q822 q230 q823 dX1_look_10 rfl hT2 hy_x9_has (by omega) (Nat.le_of_ble_eq_true rfl) rfl (Nat.le_of_ble_eq_true rfl) (fun x3 hr4 => ?_)
  refine x_if_eq (μ := mu_x1_look) (pc := 13) (tgt := 33) dX1_look_13 rfl hr4 ?_ ?_
  · exact x_throw0 (μ := mu_x1_look) (pc := 33) hl gex_IndexOutOfBoundsException (by decide) rfl q1762 q236 dX1_look_33 dX1_look_36 dX1_look_37 dX1_look_40 (by decide) (by omega) (Nat.le_of_ble_eq_true rfl)
  · refine x_aload_n (μ := mu_x1_look) (pc := 16) 0 dX1_look_16 rfl ?_
    refine x_fgr (μ := mu_x1_look) (pc := 17) fX1_8 (by first | exact Or.inl ⟨_, rfl⟩ | exact Or.inr ⟨_, rfl⟩) q653 dX1_look_17 hT1 ?_
    refine x_iload_n (μ := mu_x1_look) (pc := 20) 3 dX1_look_20 rfl ?_
    refine x_iconst (μ := mu_x1_look) (pc := 21) dX1_look_21 ?_
    refine x_isub (μ := mu_x1_look) (pc := 22) dX1_look_22 ?_
    refine x_iload (μ := mu_x1_look) (pc := 23) 4 dX1_look_23 rfl ?_
    refine x_iconst (μ := mu_x1_look) (pc := 25) dX1_look_25 ?_
    refine x_isub (μ := mu_x1_look) (pc := 26) dX1_look_26 ?_
    refine x_w1 ?_
    refine x_w2 ?_
    refine x_callV_pi (μ := mu_x1_look) (pc := 27) (ok_x9_has (ω := ω) (l := l) (d := d - 1) hl (by omega) (w32_rng _) (w32_rng _)) gRel_E gRel_E (fun _ q => q) q820 q821 q822 q230 q823 dX1_look_27 rfl hT2 hy_x9_has (by omega) (Nat.le_of_ble_eq_true rfl) rfl (Nat.le_of_ble_eq_true rfl) (fun x5 hr6 => ?_)
    refine x_if_ne (μ := mu_x1_look) (pc := 30) (tgt := 41) dX1_look_30 rfl hr6 ?_ ?_
    · refine x_iload_n (μ := mu_x1_look) (pc := 41) 3 dX1_look_41 rfl ?_
      refine x_iload_n (μ := mu_x1_look) (pc := 42) 1 dX1_look_42 rfl ?_
      refine x_icmp_lt (μ := mu_x1_look) (pc := 43) (tgt := 52) dX1_look_43 rfl hv3 hv1 ?_ ?_
      · exact x_throw0 (μ := mu_x1_look) (pc := 52) hl gex_IllegalArgumentException (by decide) rfl q2121 q257 dX1_look_52 dX1_look_55 dX1_look_56 dX1_look_59 (by decide) (by omega) (Nat.le_of_ble_eq_true rfl)
      · refine x_iload (μ := mu_x1_look) (pc := 46) 4 dX1_look_46 rfl ?_
        refine x_iload_n (μ := mu_x1_look) (pc := 48) 2 dX1_look_48 rfl ?_
        refine x_icmp_ge (μ := mu_x1_look) (pc := 49) (tgt := 60) dX1_look_49 rfl hv4 hv2 ?_ ?_
        · exact x_vret (μ := mu_x1_look) (pc := 60) (a1 := ((.inl none, σ) : gR)) dX1_look_60 rfl rfl (gRel_E.1 _) trivial
        · exact x_throw0 (μ := mu_x1_look) (pc := 52) hl gex_IllegalArgumentException (by decide) rfl q2121 q257 dX1_look_52 dX1_look_55 dX1_look_56 dX1_look_59 (by decide) (by omega) (Nat.le_of_ble_eq_true rfl)
    · exact x_throw0 (μ := mu_x1_look) (pc := 33) hl gex_IndexOutOfBoundsException (by decide) rfl q1762 q236 dX1_look_33 dX1_look_36 dX1_look_37 dX1_look_40 (by decide) (by omega) (Nat.le_of_ble_eq_true rfl)
def x1_marksOf (v0 : Nat) (v1 : Int) (σ : gMem) : Option gR := if v1 = 0 then if mT σ v0 = 1 then if mT σ (mR σ v0 8) = 8 then (x9_marks (mR σ v0 8) v1 σ).bind (fun x3 => some (.inl (some (vR x3)), σ)) else none else none else if v1 = 1 then if mT σ v0 = 1 then if mT σ (mR σ v0 8) = 8 then (x9_marks (mR σ v0 8) v1 σ).bind (fun x6 => some (.inl (some (vR x6)), σ)) else none else none else some (.inr "java/lang/IllegalArgumentException", wX σ 6)
set_option maxRecDepth 100000 in
theorem ok_x1_marksOf {ω : gW} {l : Launch} {d : Nat} {σ : gMem} {v0 : Nat} {v1 : Int} (hl : l.stackTraces = false) (hdp : 8 ≤ d) (hv1 : g32 v1) : gK (fun p : gR => p) gE ω l d mu_x1_marksOf [vR v0, vI v1] σ (x1_marksOf v0 v1 σ) := by
  refine gK.of hp_X1 (Nat.le_of_ble_eq_true rfl) ?_
  unfold x1_marksOf
  refine x_iload_n (μ := mu_x1_marksOf) (pc := 0) 1 dX1_marksOf_0 rfl ?_
  refine x_if_eq (μ := mu_x1_marksOf) (pc := 1) (tgt := 17) dX1_marksOf_1 rfl hv1 ?_ ?_
  · refine x_aload_n (μ := mu_x1_marksOf) (pc := 17) 0 dX1_marksOf_17 rfl ?_
    refine x_if (fun hT1 => ?_)
    refine x_fgr (μ := mu_x1_marksOf) (pc := 18) fX1_8 (by first | exact Or.inl ⟨_, rfl⟩ | exact Or.inr ⟨_, rfl⟩) q653 dX1_marksOf_18 hT1 ?_
    refine x_iload_n (μ := mu_x1_marksOf) (pc := 21) 1 dX1_marksOf_21 rfl ?_
    refine x_if (fun hT2 => ?_)
    refine x_callV_pr (μ := mu_x1_marksOf) (pc := 22) (ok_x9_marks (ω := ω) (l := l) (d := d - 1) hl (by omega) hv1) gRel_E gRel_E (fun _ q => q) q2203 q2204 q2205 q230 q2206 dX1_marksOf_22 rfl hT2 hy_x9_marks (by omega) (Nat.le_of_ble_eq_true rfl) rfl (Nat.le_of_ble_eq_true rfl) (fun x3 => ?_)
    exact x_aret (μ := mu_x1_marksOf) (pc := 25) (a1 := ((.inl (some (vR x3)), σ) : gR)) dX1_marksOf_25 rfl (by first | exact Or.inl ⟨_, rfl⟩ | exact Or.inr ⟨_, rfl⟩) rfl (gRel_E.1 _) trivial
  · refine x_iload_n (μ := mu_x1_marksOf) (pc := 4) 1 dX1_marksOf_4 rfl ?_
    refine x_iconst (μ := mu_x1_marksOf) (pc := 5) dX1_marksOf_5 ?_
    refine x_icmp_eq (μ := mu_x1_marksOf) (pc := 6) (tgt := 17) dX1_marksOf_6 rfl hv1 (by decide) ?_ ?_
    · refine x_aload_n (μ := mu_x1_marksOf) (pc := 17) 0 dX1_marksOf_17 rfl ?_
      refine x_if (fun hT4 => ?_)
      refine x_fgr (μ := mu_x1_marksOf) (pc := 18) fX1_8 (by first | exact Or.inl ⟨_, rfl⟩ | exact Or.inr ⟨_, rfl⟩) q653 dX1_marksOf_18 hT4 ?_
      refine x_iload_n (μ := mu_x1_marksOf) (pc := 21) 1 dX1_marksOf_21 rfl ?_
      refine x_if (fun hT5 => ?_)
      refine x_callV_pr (μ := mu_x1_marksOf) (pc := 22) (ok_x9_marks (ω := ω) (l := l) (d := d - 1) hl (by omega) hv1) gRel_E gRel_E (fun _ q => q) q2203 q2204 q2205 q230 q2206 dX1_marksOf_22 rfl hT5 hy_x9_marks (by omega) (Nat.le_of_ble_eq_true rfl) rfl (Nat.le_of_ble_eq_true rfl) (fun x6 => ?_)
      exact x_aret (μ := mu_x1_marksOf) (pc := 25) (a1 := ((.inl (some (vR x6)), σ) : gR)) dX1_marksOf_25 rfl (by first | exact Or.inl ⟨_, rfl⟩ | exact Or.inr ⟨_, rfl⟩) rfl (gRel_E.1 _) trivial
    · exact x_throw0 (μ := mu_x1_marksOf) (pc := 9) hl gex_IllegalArgumentException (by decide) rfl q2121 q257 dX1_marksOf_9 dX1_marksOf_12 dX1_marksOf_13 dX1_marksOf_16 (by decide) (by omega) (Nat.le_of_ble_eq_true rfl)
def x1_branch (v0 : Nat) (v1 : Int) (σ : gMem) : Option gR := (x1_isBranch v1 σ).bind (fun x1 => if x1 ≠ 0 then if mT σ v0 = 1 then if mT σ (mR σ v0 6) = 100 then if 0 ≤ v1 ∧ v1 < (mN σ (mR σ v0 6) : Int) then if mI σ (mR σ v0 6) v1.toNat = (-1) then (x1_head v0 σ).bind (fun x6 => if 0 ≤ v1 ∧ v1 < (mN σ (mR σ v0 6) : Int) then gLet (wI σ (mR σ v0 6) v1.toNat x6) (fun s8 => (x1_head v0 s8).bind (fun x10 => some (.inl (some (vI x10)), s8))) else none) else some (.inr "java/lang/IllegalStateException", wX σ 6) else none else none else none else some (.inr "java/lang/IndexOutOfBoundsException", wX σ 6))
set_option maxRecDepth 100000 in
theorem ok_x1_branch {ω : gW} {l : Launch} {d : Nat} {σ : gMem} {v0 : Nat} {v1 : Int} (hl : l.stackTraces = false) (hdp : 8 ≤ d) (hv1 : g32 v1) : gK (fun p : gR => p) gE ω l d mu_x1_branch [vR v0, vI v1] σ (x1_branch v0 v1 σ) := by
  refine gK.of hp_X1 (Nat.le_of_ble_eq_true rfl) ?_
  unfold x1_branch
  refine x_iload_n (μ := mu_x1_branch) (pc := 0) 1 dX1_branch_0 rfl ?_
  refine x_callS_pi (μ := mu_x1_branch) (pc := 1) (ok_x1_isBranch (ω := ω) (l := l) (d := d - 1) hl (by omega) hv1) gRel_E gRel_E (fun _ q => q) q2437 q2438 q221 q2439 dX1_branch_1 hy_x1_isBranch (by omega) (Nat.le_of_ble_eq_true rfl) rfl (Nat.le_of_ble_eq_true rfl) (fun x1 hr2 => ?_)
  refine x_if_ne (μ := mu_x1_branch) (pc := 4) (tgt := 15) dX1_branch_4 rfl hr2 ?_ ?_
  · refine x_aload_n (μ := mu_x1_branch) (pc := 15) 0 dX1_branch_15 rfl ?_
    refine x_if (fun hT3 => ?_)
    refine x_fgr (μ := mu_x1_branch) (pc := 16) fX1_6 (by first | exact Or.inl ⟨_, rfl⟩ | exact Or.inr ⟨_, rfl⟩) q651 dX1_branch_16 hT3 ?_
    refine x_iload_n (μ := mu_x1_branch) (pc := 19) 1 dX1_branch_19 rfl ?_
    refine x_if (fun hT4 => ?_)
    refine x_iald (μ := mu_x1_branch) (pc := 20) dX1_branch_20 hT4 rfl (fun hr5 => ?_)
    refine x_iconst (μ := mu_x1_branch) (pc := 21) dX1_branch_21 ?_
    refine x_icmp_eq (μ := mu_x1_branch) (pc := 22) (tgt := 33) dX1_branch_22 rfl hr5 (by decide) ?_ ?_
    · refine x_aload_n (μ := mu_x1_branch) (pc := 33) 0 dX1_branch_33 rfl ?_
      refine x_fgr (μ := mu_x1_branch) (pc := 34) fX1_6 (by first | exact Or.inl ⟨_, rfl⟩ | exact Or.inr ⟨_, rfl⟩) q651 dX1_branch_34 hT3 ?_
      refine x_iload_n (μ := mu_x1_branch) (pc := 37) 1 dX1_branch_37 rfl ?_
      refine x_aload_n (μ := mu_x1_branch) (pc := 38) 0 dX1_branch_38 rfl ?_
      refine x_callV_pi (μ := mu_x1_branch) (pc := 39) (ok_x1_head (ω := ω) (l := l) (d := d - 1) hl (by omega) ) gRel_E gRel_E (fun _ q => q) q766 q768 qs2 q221 q769 dX1_branch_39 rfl hT3 hy_x1_head (by omega) (Nat.le_of_ble_eq_true rfl) rfl (Nat.le_of_ble_eq_true rfl) (fun x6 hr7 => ?_)
      refine x_iast (μ := mu_x1_branch) (pc := 42) dX1_branch_42 hT4 rfl (fun _ _ q => gE_wI q) ?_
      refine x_let (fun s8 e9 => ?_)
      refine x_aload_n (μ := mu_x1_branch) (pc := 43) 0 dX1_branch_43 rfl ?_
      refine x_callV_pi (μ := mu_x1_branch) (pc := 44) (ok_x1_head (ω := ω) (l := l) (d := d - 1) hl (by omega) ) gRel_E gRel_E (fun _ q => q) q766 q768 qs2 q221 q769 dX1_branch_44 rfl (gT_I e9 hT3) hy_x1_head (by omega) (Nat.le_of_ble_eq_true rfl) rfl (Nat.le_of_ble_eq_true rfl) (fun x10 hr11 => ?_)
      exact x_iret (μ := mu_x1_branch) (pc := 47) (a1 := ((.inl (some (vI x10)), s8) : gR)) dX1_branch_47 rfl rfl (gRel_E.1 _) (show g32 x10 from hr11)
    · exact x_throw0 (μ := mu_x1_branch) (pc := 25) hl gex_IllegalStateException (by decide) rfl q2207 q259 dX1_branch_25 dX1_branch_28 dX1_branch_29 dX1_branch_32 (by decide) (by omega) (Nat.le_of_ble_eq_true rfl)
  · exact x_throw0 (μ := mu_x1_branch) (pc := 7) hl gex_IndexOutOfBoundsException (by decide) rfl q1762 q236 dX1_branch_7 dX1_branch_10 dX1_branch_11 dX1_branch_14 (by decide) (by omega) (Nat.le_of_ble_eq_true rfl)
def x1_differAlone_l10_j65 (N : Nat) (v0 : Nat) (v2 : Nat) (v3 : Int) (v4 : Int) (v5 : Nat) (v6 : Int) (Kh : Int → gMem → Option gMem) (K : gMem → Option gMem) (s : gMem) : Option gMem := Kh (w32 (v6 + 1)) s
set_option maxRecDepth 100000 in
theorem okj_x1_differAlone_l10_j65 {ω : gW} {l : Launch} {d : Nat} {N : Nat} {σ0 : gMem} {s : gMem} {v0 : Nat} {v2 : Nat} {v3 : Int} {v4 : Int} {v5 : Nat} {v6 : Int} {Kh : Int → gMem → Option gMem} {K : gMem → Option gMem} (hl : l.stackTraces = false) (hdp : 1 ≤ d) (hv3 : g32 v3) (hv4 : g32 v4) (hv6 : g32 v6) (hKh : ∀ (v6 : Int) (s : gMem) , g32 v6 → GG (fun p : gMem => (.inl none, p)) gE ω l d mu_x1_differAlone σ0 10 [(0, vR v0), (2, vR v2), (3, vI v3), (4, vI v4), (5, vR v5), (6, vI v6)] [] s (Kh v6 s)) (hK : ∀ (s : gMem) , GG (fun p : gMem => (.inl none, p)) gE ω l d mu_x1_differAlone σ0 71 [] [] s (K s)) : GG (fun p : gMem => (.inl none, p)) gE ω l d mu_x1_differAlone σ0 65 [(0, vR v0), (2, vR v2), (3, vI v3), (4, vI v4), (5, vR v5), (6, vI v6)] [] s (x1_differAlone_l10_j65 N v0 v2 v3 v4 v5 v6 Kh K s) := by
  unfold x1_differAlone_l10_j65
  refine x_iincw (μ := mu_x1_differAlone) (pc := 65) (lv' := [(6, vI (w32 (v6 + 1))), (0, vR v0), (2, vR v2), (3, vI v3), (4, vI v4), (5, vR v5)]) 5 dX1_differAlone_65 rfl (by decide) rfl ?_
  refine x_goto (μ := mu_x1_differAlone) (pc := 68) (tgt := 10) dX1_differAlone_68 rfl ?_
  refine x_loc (lv' := [(0, vR v0), (2, vR v2), (3, vI v3), (4, vI v4), (5, vR v5), (6, vI (w32 (v6 + 1)))]) [1, 2, 3, 4, 5, 0] rfl ?_
  exact hKh (w32 (v6 + 1)) s (w32_rng _)
def x1_differAlone_l10_j62 (N : Nat) (v0 : Nat) (v2 : Nat) (v3 : Int) (v4 : Int) (v5 : Nat) (v6 : Int) (t0 : Int) (t1 : Int) (t2 : Int) (t3 : Nat) (Kh : Int → gMem → Option gMem) (K : gMem → Option gMem) (s : gMem) : Option gMem := if mT s t3 = 1 then (x1_differ t3 t2 t1 t0 s).bind (fun x10 => x1_differAlone_l10_j65 N v0 v2 v3 v4 v5 v6  (Kh) K x10) else none
set_option maxRecDepth 100000 in
theorem okj_x1_differAlone_l10_j62 {ω : gW} {l : Launch} {d : Nat} {N : Nat} {σ0 : gMem} {s : gMem} {v0 : Nat} {v2 : Nat} {v3 : Int} {v4 : Int} {v5 : Nat} {v6 : Int} {t0 : Int} {t1 : Int} {t2 : Int} {t3 : Nat} {Kh : Int → gMem → Option gMem} {K : gMem → Option gMem} (hl : l.stackTraces = false) (hdp : 1 ≤ d) (hv3 : g32 v3) (hv4 : g32 v4) (hv6 : g32 v6) (ht0 : g32 t0) (ht1 : g32 t1) (ht2 : g32 t2) (hKh : ∀ (v6 : Int) (s : gMem) , g32 v6 → GG (fun p : gMem => (.inl none, p)) gE ω l d mu_x1_differAlone σ0 10 [(0, vR v0), (2, vR v2), (3, vI v3), (4, vI v4), (5, vR v5), (6, vI v6)] [] s (Kh v6 s)) (hK : ∀ (s : gMem) , GG (fun p : gMem => (.inl none, p)) gE ω l d mu_x1_differAlone σ0 71 [] [] s (K s)) : GG (fun p : gMem => (.inl none, p)) gE ω l d mu_x1_differAlone σ0 62 [(0, vR v0), (2, vR v2), (3, vI v3), (4, vI v4), (5, vR v5), (6, vI v6)] [vI t0, vI t1, vI t2, vR t3] s (x1_differAlone_l10_j62 N v0 v2 v3 v4 v5 v6 t0 t1 t2 t3 Kh K s) := by
  unfold x1_differAlone_l10_j62
  refine x_if (fun hT9 => ?_)
  refine x_callV_mv (μ := mu_x1_differAlone) (pc := 62) (ok_x1_differ (ω := ω) (l := l) (d := d - 1) hl (by omega) ht2 ht1 ht0) gRel_E gRel_E (fun _ q => q) q2601 q2603 qs74 q221 q2604 dX1_differAlone_62 rfl hT9 hy_x1_differ (by omega) (Nat.le_of_ble_eq_true rfl) rfl (Nat.le_of_ble_eq_true rfl) (fun x10 k11 => ?_)
  exact okj_x1_differAlone_l10_j65 hl hdp hv3 hv4 hv6 hKh hK
def x1_differAlone_l10_j50 (N : Nat) (v0 : Nat) (v2 : Nat) (v3 : Int) (v4 : Int) (v5 : Nat) (v6 : Int) (t0 : Int) (t1 : Int) (t2 : Nat) (Kh : Int → gMem → Option gMem) (K : gMem → Option gMem) (s : gMem) : Option gMem := if v3 ≠ 0 then x1_differAlone_l10_j62 N v0 v2 v3 v4 v5 v6 (w32 (v6 + 1)) t0 t1 t2 (Kh) K s else x1_differAlone_l10_j62 N v0 v2 v3 v4 v5 v6 0 t0 t1 t2 (Kh) K s
set_option maxRecDepth 100000 in
theorem okj_x1_differAlone_l10_j50 {ω : gW} {l : Launch} {d : Nat} {N : Nat} {σ0 : gMem} {s : gMem} {v0 : Nat} {v2 : Nat} {v3 : Int} {v4 : Int} {v5 : Nat} {v6 : Int} {t0 : Int} {t1 : Int} {t2 : Nat} {Kh : Int → gMem → Option gMem} {K : gMem → Option gMem} (hl : l.stackTraces = false) (hdp : 1 ≤ d) (hv3 : g32 v3) (hv4 : g32 v4) (hv6 : g32 v6) (ht0 : g32 t0) (ht1 : g32 t1) (hKh : ∀ (v6 : Int) (s : gMem) , g32 v6 → GG (fun p : gMem => (.inl none, p)) gE ω l d mu_x1_differAlone σ0 10 [(0, vR v0), (2, vR v2), (3, vI v3), (4, vI v4), (5, vR v5), (6, vI v6)] [] s (Kh v6 s)) (hK : ∀ (s : gMem) , GG (fun p : gMem => (.inl none, p)) gE ω l d mu_x1_differAlone σ0 71 [] [] s (K s)) : GG (fun p : gMem => (.inl none, p)) gE ω l d mu_x1_differAlone σ0 50 [(0, vR v0), (2, vR v2), (3, vI v3), (4, vI v4), (5, vR v5), (6, vI v6)] [vI t0, vI t1, vR t2] s (x1_differAlone_l10_j50 N v0 v2 v3 v4 v5 v6 t0 t1 t2 Kh K s) := by
  unfold x1_differAlone_l10_j50
  refine x_iload_n (μ := mu_x1_differAlone) (pc := 50) 2 dX1_differAlone_50 rfl ?_
  refine x_if_ne (μ := mu_x1_differAlone) (pc := 51) (tgt := 58) dX1_differAlone_51 rfl hv3 ?_ ?_
  · refine x_iload (μ := mu_x1_differAlone) (pc := 58) 5 dX1_differAlone_58 rfl ?_
    refine x_iconst (μ := mu_x1_differAlone) (pc := 60) dX1_differAlone_60 ?_
    refine x_iadd (μ := mu_x1_differAlone) (pc := 61) dX1_differAlone_61 ?_
    refine x_w1 ?_
    exact okj_x1_differAlone_l10_j62 hl hdp hv3 hv4 hv6 (w32_rng _) ht0 ht1 hKh hK
  · refine x_iconst (μ := mu_x1_differAlone) (pc := 54) dX1_differAlone_54 ?_
    refine x_goto (μ := mu_x1_differAlone) (pc := 55) (tgt := 62) dX1_differAlone_55 rfl ?_
    exact okj_x1_differAlone_l10_j62 hl hdp hv3 hv4 hv6 (by decide) ht0 ht1 hKh hK
def x1_differAlone_l10 (N : Nat) (v0 : Nat) (v2 : Nat) (v3 : Int) (v4 : Int) (v5 : Nat) (K : gMem → Option gMem) : Nat → Int → gMem → Option gMem
  | 0, _, _ => none
  | n + 1, v6, s => if mT s v5 = 100 then if w32 (mN s v5 : Int) ≤ v6 then K s else if mT s v2 = 8 then (x9_marks v2 v3 s).bind (fun x5 => if 0 ≤ v6 ∧ v6 < (mN s v5 : Int) then (x9_placeOf N x5 (mI s v5 v6.toNat) s).bind (fun x7 => if x7 ≠ (-1) then x1_differAlone_l10_j65 N v0 v2 v3 v4 v5 v6  (x1_differAlone_l10 N v0 v2 v3 v4 v5 K n) K s else if v3 ≠ 0 then x1_differAlone_l10_j50 N v0 v2 v3 v4 v5 v6 0 v4 v0 (x1_differAlone_l10 N v0 v2 v3 v4 v5 K n) K s else x1_differAlone_l10_j50 N v0 v2 v3 v4 v5 v6 (w32 (v6 + 1)) v4 v0 (x1_differAlone_l10 N v0 v2 v3 v4 v5 K n) K s) else none) else none else none
set_option maxRecDepth 100000 in
theorem okl_x1_differAlone_l10 {ω : gW} {l : Launch} {d : Nat} {N : Nat} {σ0 : gMem} {v0 : Nat} {v2 : Nat} {v3 : Int} {v4 : Int} {v5 : Nat} {K : gMem → Option gMem} (hl : l.stackTraces = false) (hdp : 1 ≤ d) (hv3 : g32 v3) (hv4 : g32 v4) (hK : ∀ (s : gMem) , GG (fun p : gMem => (.inl none, p)) gE ω l d mu_x1_differAlone σ0 71 [] [] s (K s)) : ∀ (n : Nat) (v6 : Int) (s : gMem) , g32 v6 → GG (fun p : gMem => (.inl none, p)) gE ω l d mu_x1_differAlone σ0 10 [(0, vR v0), (2, vR v2), (3, vI v3), (4, vI v4), (5, vR v5), (6, vI v6)] [] s (x1_differAlone_l10 N v0 v2 v3 v4 v5 K n v6 s) := by
  intro n
  induction n with
  | zero => intros; exact x_none
  | succ n ih =>
    intro v6 s hv6
    unfold x1_differAlone_l10
    refine x_iload (μ := mu_x1_differAlone) (pc := 10) 5 dX1_differAlone_10 rfl ?_
    refine x_aload (μ := mu_x1_differAlone) (pc := 12) 4 dX1_differAlone_12 rfl ?_
    refine x_if (fun hT3 => ?_)
    refine x_len (μ := mu_x1_differAlone) (pc := 14) 0 (fun _ => rfl) dX1_differAlone_14 hT3 ?_
    refine x_w1 ?_
    refine x_icmp_ge (μ := mu_x1_differAlone) (pc := 15) (tgt := 71) dX1_differAlone_15 rfl hv6 (w32_rng _) ?_ ?_
    · refine x_loc (lv' := []) [] rfl ?_
      exact hK s
    · refine x_aload_n (μ := mu_x1_differAlone) (pc := 18) 1 dX1_differAlone_18 rfl ?_
      refine x_iload_n (μ := mu_x1_differAlone) (pc := 19) 2 dX1_differAlone_19 rfl ?_
      refine x_if (fun hT4 => ?_)
      refine x_callV_pr (μ := mu_x1_differAlone) (pc := 20) (ok_x9_marks (ω := ω) (l := l) (d := d - 1) hl (by omega) hv3) gRel_E gRel_E (fun _ q => q) q2203 q2204 q2205 q230 q2206 dX1_differAlone_20 rfl hT4 hy_x9_marks (by omega) (Nat.le_of_ble_eq_true rfl) rfl (Nat.le_of_ble_eq_true rfl) (fun x5 => ?_)
      refine x_aload (μ := mu_x1_differAlone) (pc := 23) 4 dX1_differAlone_23 rfl ?_
      refine x_iload (μ := mu_x1_differAlone) (pc := 25) 5 dX1_differAlone_25 rfl ?_
      refine x_iald (μ := mu_x1_differAlone) (pc := 27) dX1_differAlone_27 hT3 rfl (fun hr6 => ?_)
      refine x_callSN_pi (μ := mu_x1_differAlone) (pc := 28) (ok_x9_placeOf (ω := ω) (l := l) (d := d - 1) hl (by omega) hr6) gRel_E gRel_E (fun _ q => q) q2589 q783 q230 q784 dX1_differAlone_28 hy_x9_placeOf (by omega) (Nat.le_of_ble_eq_true rfl) rfl (Nat.le_of_ble_eq_true rfl) (fun x7 hr8 => ?_)
      refine x_iconst (μ := mu_x1_differAlone) (pc := 31) dX1_differAlone_31 ?_
      refine x_icmp_ne (μ := mu_x1_differAlone) (pc := 32) (tgt := 65) dX1_differAlone_32 rfl hr8 (by decide) ?_ ?_
      · exact okj_x1_differAlone_l10_j65 hl hdp hv3 hv4 hv6 ih hK
      · refine x_aload_n (μ := mu_x1_differAlone) (pc := 35) 0 dX1_differAlone_35 rfl ?_
        refine x_iload (μ := mu_x1_differAlone) (pc := 36) 3 dX1_differAlone_36 rfl ?_
        refine x_iload_n (μ := mu_x1_differAlone) (pc := 38) 2 dX1_differAlone_38 rfl ?_
        refine x_if_ne (μ := mu_x1_differAlone) (pc := 39) (tgt := 49) dX1_differAlone_39 rfl hv3 ?_ ?_
        · refine x_iconst (μ := mu_x1_differAlone) (pc := 49) dX1_differAlone_49 ?_
          exact okj_x1_differAlone_l10_j50 hl hdp hv3 hv4 hv6 (by decide) hv4 ih hK
        · refine x_iload (μ := mu_x1_differAlone) (pc := 42) 5 dX1_differAlone_42 rfl ?_
          refine x_iconst (μ := mu_x1_differAlone) (pc := 44) dX1_differAlone_44 ?_
          refine x_iadd (μ := mu_x1_differAlone) (pc := 45) dX1_differAlone_45 ?_
          refine x_goto (μ := mu_x1_differAlone) (pc := 46) (tgt := 50) dX1_differAlone_46 rfl ?_
          refine x_w1 ?_
          exact okj_x1_differAlone_l10_j50 hl hdp hv3 hv4 hv6 (w32_rng _) hv4 ih hK
def x1_differAlone (N : Nat) (v0 : Nat) (v1 : Nat) (v2 : Nat) (v3 : Int) (v4 : Int) (σ : gMem) : Option gMem := if mT σ v1 = 8 then (x9_marks v1 v3 σ).bind (fun x2 => x1_differAlone_l10 N v0 v2 v3 v4 x2 (fun s12 => some s12) N 0 σ) else none
set_option maxRecDepth 100000 in
theorem ok_x1_differAlone {ω : gW} {l : Launch} {d : Nat} {N : Nat} {σ : gMem} {v0 : Nat} {v1 : Nat} {v2 : Nat} {v3 : Int} {v4 : Int} (hl : l.stackTraces = false) (hdp : 1 ≤ d) (hv3 : g32 v3) (hv4 : g32 v4) : gK (fun p : gMem => (.inl none, p)) gE ω l d mu_x1_differAlone [vR v0, vR v1, vR v2, vI v3, vI v4] σ (x1_differAlone N v0 v1 v2 v3 v4 σ) := by
  refine gK.of hp_X1 (Nat.le_of_ble_eq_true rfl) ?_
  unfold x1_differAlone
  refine x_aload_n (μ := mu_x1_differAlone) (pc := 0) 1 dX1_differAlone_0 rfl ?_
  refine x_iload_n (μ := mu_x1_differAlone) (pc := 1) 3 dX1_differAlone_1 rfl ?_
  refine x_if (fun hT1 => ?_)
  refine x_callV_pr (μ := mu_x1_differAlone) (pc := 2) (ok_x9_marks (ω := ω) (l := l) (d := d - 1) hl (by omega) hv3) gRel_E gRel_E (fun _ q => q) q2203 q2204 q2205 q230 q2206 dX1_differAlone_2 rfl hT1 hy_x9_marks (by omega) (Nat.le_of_ble_eq_true rfl) rfl (Nat.le_of_ble_eq_true rfl) (fun x2 => ?_)
  refine x_astore (μ := mu_x1_differAlone) (pc := 5) (lv' := [(5, vR x2), (0, vR v0), (1, vR v1), (2, vR v2), (3, vI v3), (4, vI v4)]) dX1_differAlone_5 (by decide) rfl ?_
  refine x_iconst (μ := mu_x1_differAlone) (pc := 7) dX1_differAlone_7 ?_
  refine x_istore (μ := mu_x1_differAlone) (pc := 8) (lv' := [(6, vI 0), (5, vR x2), (0, vR v0), (1, vR v1), (2, vR v2), (3, vI v3), (4, vI v4)]) dX1_differAlone_8 (by decide) rfl ?_
  refine x_loc (lv' := [(0, vR v0), (2, vR v2), (3, vI v3), (4, vI v4), (5, vR x2), (6, vI 0)]) [2, 4, 5, 6, 1, 0] rfl ?_
  refine okl_x1_differAlone_l10 hl hdp hv3 hv4 (fun s12 => ?_) N 0 σ (by decide)
  exact x_vret (μ := mu_x1_differAlone) (pc := 71) (a1 := s12) dX1_differAlone_71 rfl rfl (gRel_E.1 _) trivial
def x1_differInOrder_l13_j66 (N : Nat) (v0 : Nat) (v2 : Nat) (v3 : Int) (v4 : Nat) (v5 : Int) (v6 : Int) (Kh : Int → Int → gMem → Option gMem) (K : gMem → Option gMem) (s : gMem) : Option gMem := Kh v5 (w32 (v6 + 1)) s
set_option maxRecDepth 100000 in
theorem okj_x1_differInOrder_l13_j66 {ω : gW} {l : Launch} {d : Nat} {N : Nat} {σ0 : gMem} {s : gMem} {v0 : Nat} {v2 : Nat} {v3 : Int} {v4 : Nat} {v5 : Int} {v6 : Int} {Kh : Int → Int → gMem → Option gMem} {K : gMem → Option gMem} (hl : l.stackTraces = false) (hdp : 1 ≤ d) (hv3 : g32 v3) (hv5 : g32 v5) (hv6 : g32 v6) (hKh : ∀ (v5 : Int) (v6 : Int) (s : gMem) , g32 v5 → g32 v6 → GG (fun p : gMem => (.inl none, p)) gE ω l d mu_x1_differInOrder σ0 13 [(0, vR v0), (2, vR v2), (3, vI v3), (4, vR v4), (5, vI v5), (6, vI v6)] [] s (Kh v5 v6 s)) (hK : ∀ (s : gMem) , GG (fun p : gMem => (.inl none, p)) gE ω l d mu_x1_differInOrder σ0 72 [] [] s (K s)) : GG (fun p : gMem => (.inl none, p)) gE ω l d mu_x1_differInOrder σ0 66 [(0, vR v0), (2, vR v2), (3, vI v3), (4, vR v4), (5, vI v5), (6, vI v6)] [] s (x1_differInOrder_l13_j66 N v0 v2 v3 v4 v5 v6 Kh K s) := by
  unfold x1_differInOrder_l13_j66
  refine x_iincw (μ := mu_x1_differInOrder) (pc := 66) (lv' := [(6, vI (w32 (v6 + 1))), (0, vR v0), (2, vR v2), (3, vI v3), (4, vR v4), (5, vI v5)]) 5 dX1_differInOrder_66 rfl (by decide) rfl ?_
  refine x_goto (μ := mu_x1_differInOrder) (pc := 69) (tgt := 13) dX1_differInOrder_69 rfl ?_
  refine x_loc (lv' := [(0, vR v0), (2, vR v2), (3, vI v3), (4, vR v4), (5, vI v5), (6, vI (w32 (v6 + 1)))]) [1, 2, 3, 4, 5, 0] rfl ?_
  exact hKh v5 (w32 (v6 + 1)) s hv5 (w32_rng _)
def x1_differInOrder_l13 (N : Nat) (v0 : Nat) (v2 : Nat) (v3 : Int) (v4 : Nat) (K : gMem → Option gMem) : Nat → Int → Int → gMem → Option gMem
  | 0, _, _, _ => none
  | n + 1, v5, v6, s => if mT s v4 = 100 then if w32 (mN s v4 : Int) ≤ v6 then K s else if mT s v2 = 8 then (x9_marks v2 v3 s).bind (fun x5 => if 0 ≤ v6 ∧ v6 < (mN s v4 : Int) then (x9_placeOf N x5 (mI s v4 v6.toNat) s).bind (fun x7 => if x7 ≠ (-1) then if v5 ≤ x7 then x1_differInOrder_l13_j66 N v0 v2 v3 v4 x7 v6  (x1_differInOrder_l13 N v0 v2 v3 v4 K n) K s else if mT s v0 = 1 then (x1_differ v0 (w32 (5 + v3)) 0 0 s).bind (fun x10 => some x10) else none else x1_differInOrder_l13_j66 N v0 v2 v3 v4 v5 v6  (x1_differInOrder_l13 N v0 v2 v3 v4 K n) K s) else none) else none else none
set_option maxRecDepth 100000 in
theorem okl_x1_differInOrder_l13 {ω : gW} {l : Launch} {d : Nat} {N : Nat} {σ0 : gMem} {v0 : Nat} {v2 : Nat} {v3 : Int} {v4 : Nat} {K : gMem → Option gMem} (hl : l.stackTraces = false) (hdp : 1 ≤ d) (hv3 : g32 v3) (hK : ∀ (s : gMem) , GG (fun p : gMem => (.inl none, p)) gE ω l d mu_x1_differInOrder σ0 72 [] [] s (K s)) : ∀ (n : Nat) (v5 : Int) (v6 : Int) (s : gMem) , g32 v5 → g32 v6 → GG (fun p : gMem => (.inl none, p)) gE ω l d mu_x1_differInOrder σ0 13 [(0, vR v0), (2, vR v2), (3, vI v3), (4, vR v4), (5, vI v5), (6, vI v6)] [] s (x1_differInOrder_l13 N v0 v2 v3 v4 K n v5 v6 s) := by
  intro n
  induction n with
  | zero => intros; exact x_none
  | succ n ih =>
    intro v5 v6 s hv5 hv6
    unfold x1_differInOrder_l13
    refine x_iload (μ := mu_x1_differInOrder) (pc := 13) 5 dX1_differInOrder_13 rfl ?_
    refine x_aload (μ := mu_x1_differInOrder) (pc := 15) 3 dX1_differInOrder_15 rfl ?_
    refine x_if (fun hT3 => ?_)
    refine x_len (μ := mu_x1_differInOrder) (pc := 17) 0 (fun _ => rfl) dX1_differInOrder_17 hT3 ?_
    refine x_w1 ?_
    refine x_icmp_ge (μ := mu_x1_differInOrder) (pc := 18) (tgt := 72) dX1_differInOrder_18 rfl hv6 (w32_rng _) ?_ ?_
    · refine x_loc (lv' := []) [] rfl ?_
      exact hK s
    · refine x_aload_n (μ := mu_x1_differInOrder) (pc := 21) 1 dX1_differInOrder_21 rfl ?_
      refine x_iload_n (μ := mu_x1_differInOrder) (pc := 22) 2 dX1_differInOrder_22 rfl ?_
      refine x_if (fun hT4 => ?_)
      refine x_callV_pr (μ := mu_x1_differInOrder) (pc := 23) (ok_x9_marks (ω := ω) (l := l) (d := d - 1) hl (by omega) hv3) gRel_E gRel_E (fun _ q => q) q2203 q2204 q2205 q230 q2206 dX1_differInOrder_23 rfl hT4 hy_x9_marks (by omega) (Nat.le_of_ble_eq_true rfl) rfl (Nat.le_of_ble_eq_true rfl) (fun x5 => ?_)
      refine x_aload (μ := mu_x1_differInOrder) (pc := 26) 3 dX1_differInOrder_26 rfl ?_
      refine x_iload (μ := mu_x1_differInOrder) (pc := 28) 5 dX1_differInOrder_28 rfl ?_
      refine x_iald (μ := mu_x1_differInOrder) (pc := 30) dX1_differInOrder_30 hT3 rfl (fun hr6 => ?_)
      refine x_callSN_pi (μ := mu_x1_differInOrder) (pc := 31) (ok_x9_placeOf (ω := ω) (l := l) (d := d - 1) hl (by omega) hr6) gRel_E gRel_E (fun _ q => q) q2589 q783 q230 q784 dX1_differInOrder_31 hy_x9_placeOf (by omega) (Nat.le_of_ble_eq_true rfl) rfl (Nat.le_of_ble_eq_true rfl) (fun x7 hr8 => ?_)
      refine x_istore (μ := mu_x1_differInOrder) (pc := 34) (lv' := [(7, vI x7), (0, vR v0), (2, vR v2), (3, vI v3), (4, vR v4), (5, vI v5), (6, vI v6)]) dX1_differInOrder_34 (by decide) rfl ?_
      refine x_iload (μ := mu_x1_differInOrder) (pc := 36) 0 dX1_differInOrder_36 rfl ?_
      refine x_iconst (μ := mu_x1_differInOrder) (pc := 38) dX1_differInOrder_38 ?_
      refine x_icmp_ne (μ := mu_x1_differInOrder) (pc := 39) (tgt := 45) dX1_differInOrder_39 rfl hr8 (by decide) ?_ ?_
      · refine x_iload (μ := mu_x1_differInOrder) (pc := 45) 0 dX1_differInOrder_45 rfl ?_
        refine x_iload (μ := mu_x1_differInOrder) (pc := 47) 5 dX1_differInOrder_47 rfl ?_
        refine x_icmp_ge (μ := mu_x1_differInOrder) (pc := 49) (tgt := 62) dX1_differInOrder_49 rfl hr8 hv5 ?_ ?_
        · refine x_iload (μ := mu_x1_differInOrder) (pc := 62) 0 dX1_differInOrder_62 rfl ?_
          refine x_istore (μ := mu_x1_differInOrder) (pc := 64) (lv' := [(5, vI x7), (7, vI x7), (0, vR v0), (2, vR v2), (3, vI v3), (4, vR v4), (6, vI v6)]) dX1_differInOrder_64 (by decide) rfl ?_
          refine x_loc (lv' := [(0, vR v0), (2, vR v2), (3, vI v3), (4, vR v4), (5, vI x7), (6, vI v6)]) [2, 3, 4, 5, 0, 6] rfl ?_
          exact okj_x1_differInOrder_l13_j66 hl hdp hv3 hr8 hv6 ih hK
        · refine x_aload_n (μ := mu_x1_differInOrder) (pc := 52) 1 dX1_differInOrder_52 rfl ?_
          refine x_iconst (μ := mu_x1_differInOrder) (pc := 53) dX1_differInOrder_53 ?_
          refine x_iload_n (μ := mu_x1_differInOrder) (pc := 54) 3 dX1_differInOrder_54 rfl ?_
          refine x_iadd (μ := mu_x1_differInOrder) (pc := 55) dX1_differInOrder_55 ?_
          refine x_iconst (μ := mu_x1_differInOrder) (pc := 56) dX1_differInOrder_56 ?_
          refine x_iconst (μ := mu_x1_differInOrder) (pc := 57) dX1_differInOrder_57 ?_
          refine x_stk (st2 := [vI 0, vI 0, vI (w32 (5 + v3)), vR v0]) (by simp only [List.map_cons, gval_w32, gval_w64]) ?_
          refine x_if (fun hT9 => ?_)
          refine x_callV_mv (μ := mu_x1_differInOrder) (pc := 58) (ok_x1_differ (ω := ω) (l := l) (d := d - 1) hl (by omega) (w32_rng _) (by decide) (by decide)) gRel_E gRel_E (fun _ q => q) q2601 q2603 qs74 q221 q2604 dX1_differInOrder_58 rfl hT9 hy_x1_differ (by omega) (Nat.le_of_ble_eq_true rfl) rfl (Nat.le_of_ble_eq_true rfl) (fun x10 k11 => ?_)
          exact x_vret (μ := mu_x1_differInOrder) (pc := 61) (a1 := x10) dX1_differInOrder_61 rfl rfl (gRel_E.1 _) trivial
      · refine x_goto (μ := mu_x1_differInOrder) (pc := 42) (tgt := 66) dX1_differInOrder_42 rfl ?_
        refine x_loc (lv' := [(0, vR v0), (2, vR v2), (3, vI v3), (4, vR v4), (5, vI v5), (6, vI v6)]) [1, 2, 3, 4, 5, 6] rfl ?_
        exact okj_x1_differInOrder_l13_j66 hl hdp hv3 hv5 hv6 ih hK
def x1_differInOrder (N : Nat) (v0 : Nat) (v1 : Nat) (v2 : Nat) (v3 : Int) (σ : gMem) : Option gMem := if mT σ v1 = 8 then (x9_marks v1 v3 σ).bind (fun x2 => x1_differInOrder_l13 N v0 v2 v3 x2 (fun s12 => some s12) N (-1) 0 σ) else none
set_option maxRecDepth 100000 in
theorem ok_x1_differInOrder {ω : gW} {l : Launch} {d : Nat} {N : Nat} {σ : gMem} {v0 : Nat} {v1 : Nat} {v2 : Nat} {v3 : Int} (hl : l.stackTraces = false) (hdp : 1 ≤ d) (hv3 : g32 v3) : gK (fun p : gMem => (.inl none, p)) gE ω l d mu_x1_differInOrder [vR v0, vR v1, vR v2, vI v3] σ (x1_differInOrder N v0 v1 v2 v3 σ) := by
  refine gK.of hp_X1 (Nat.le_of_ble_eq_true rfl) ?_
  unfold x1_differInOrder
  refine x_aload_n (μ := mu_x1_differInOrder) (pc := 0) 1 dX1_differInOrder_0 rfl ?_
  refine x_iload_n (μ := mu_x1_differInOrder) (pc := 1) 3 dX1_differInOrder_1 rfl ?_
  refine x_if (fun hT1 => ?_)
  refine x_callV_pr (μ := mu_x1_differInOrder) (pc := 2) (ok_x9_marks (ω := ω) (l := l) (d := d - 1) hl (by omega) hv3) gRel_E gRel_E (fun _ q => q) q2203 q2204 q2205 q230 q2206 dX1_differInOrder_2 rfl hT1 hy_x9_marks (by omega) (Nat.le_of_ble_eq_true rfl) rfl (Nat.le_of_ble_eq_true rfl) (fun x2 => ?_)
  refine x_astore (μ := mu_x1_differInOrder) (pc := 5) (lv' := [(4, vR x2), (0, vR v0), (1, vR v1), (2, vR v2), (3, vI v3)]) dX1_differInOrder_5 (by decide) rfl ?_
  refine x_iconst (μ := mu_x1_differInOrder) (pc := 7) dX1_differInOrder_7 ?_
  refine x_istore (μ := mu_x1_differInOrder) (pc := 8) (lv' := [(5, vI (-1)), (4, vR x2), (0, vR v0), (1, vR v1), (2, vR v2), (3, vI v3)]) dX1_differInOrder_8 (by decide) rfl ?_
  refine x_iconst (μ := mu_x1_differInOrder) (pc := 10) dX1_differInOrder_10 ?_
  refine x_istore (μ := mu_x1_differInOrder) (pc := 11) (lv' := [(6, vI 0), (5, vI (-1)), (4, vR x2), (0, vR v0), (1, vR v1), (2, vR v2), (3, vI v3)]) dX1_differInOrder_11 (by decide) rfl ?_
  refine x_loc (lv' := [(0, vR v0), (2, vR v2), (3, vI v3), (4, vR x2), (5, vI (-1)), (6, vI 0)]) [3, 5, 6, 2, 1, 0] rfl ?_
  refine okl_x1_differInOrder_l13 hl hdp hv3 (fun s12 => ?_) N (-1) 0 σ (by decide) (by decide)
  exact x_vret (μ := mu_x1_differInOrder) (pc := 72) (a1 := s12) dX1_differInOrder_72 rfl rfl (gRel_E.1 _) trivial
def x10_init (v0 : Nat) (v1 : Nat) (v2 : Int) (v3 : Int) (v4 : Int) (σ : gMem) : Option gMem := if mT σ v0 = 9 then gLet (wN σ 2 4) (fun s3 => (x2_init (mZ σ) s3).bind (fun x5 => gLet (wR x5 v0 1 (mZ σ)) (fun s7 => gLet (wR s7 v0 0 v1) (fun s9 => gLet (wI s9 v0 2 v2) (fun s11 => gLet (wI s11 v0 3 v3) (fun s13 => gLet (wL s13 v0 4 v4) (fun s15 => some s15))))))) else none
set_option maxRecDepth 100000 in
theorem ok_x10_init {ω : gW} {l : Launch} {d : Nat} {σ : gMem} {v0 : Nat} {v1 : Nat} {v2 : Int} {v3 : Int} {v4 : Int} (hl : l.stackTraces = false) (hdp : 2 ≤ d) (hv2 : g32 v2) (hv3 : g32 v3) (hv4 : g64 v4) : gK (fun p : gMem => (.inl none, p)) gE ω l d mu_x10_init [vR v0, vR v1, vI v2, vI v3, vL v4] σ (x10_init v0 v1 v2 v3 v4 σ) := by
  refine gK.of hp_X10 (Nat.le_of_ble_eq_true rfl) ?_
  unfold x10_init
  refine x_aload_n (μ := mu_x10_init) (pc := 0) 0 dX10_init_0 rfl ?_
  refine x_if (fun hT1 => ?_)
  refine x_objI (μ := mu_x10_init) (pc := 1) (ci := 8) rfl q594 dX10_init_1 hT1 (by omega) (Nat.le_of_ble_eq_true rfl) ?_
  refine x_aload_n (μ := mu_x10_init) (pc := 4) 0 dX10_init_4 rfl ?_
  refine x_ok (fun ok2 => ?_)
  refine x_new (μ := mu_x10_init) (pc := 5) (ci := 1) gk_X2 gd_X2 q595 q279 q222 dX10_init_5 ?_
  refine x_let (fun s3 e4 => ?_)
  refine x_dup (μ := mu_x10_init) (pc := 8) dX10_init_8 rfl ?_
  refine x_callIN_mv (μ := mu_x10_init) (pc := 9) (ok_x2_init (ω := ω) (l := l) (d := d - 1) hl (by omega) ) gRel_E gRel_E (fun _ q => q) q596 q281 q222 q282 dX10_init_9 (gT_ne (gT_new e4)) rfl hy_x2_init (by omega) (Nat.le_of_ble_eq_true rfl) rfl (Nat.le_of_ble_eq_true rfl) (fun x5 k6 => ?_)
  refine x_fprF (μ := mu_x10_init) (pc := 12) fX10_1 q603 rfl rfl (by first | exact Or.inl ⟨_, rfl⟩ | exact Or.inr ⟨_, rfl⟩) dX10_init_12 (gT_E k6 (gT_N e4 ok2 hT1 (by decide)) (by decide)) (fun _ q => gE_wR q) ?_
  refine x_let (fun s7 e8 => ?_)
  refine x_aload_n (μ := mu_x10_init) (pc := 15) 0 dX10_init_15 rfl ?_
  refine x_aload_n (μ := mu_x10_init) (pc := 16) 1 dX10_init_16 rfl ?_
  refine x_fprF (μ := mu_x10_init) (pc := 17) fX10_0 q597 rfl rfl (by first | exact Or.inl ⟨_, rfl⟩ | exact Or.inr ⟨_, rfl⟩) dX10_init_17 (gT_R e8 (gT_E k6 (gT_N e4 ok2 hT1 (by decide)) (by decide))) (fun _ q => gE_wR q) ?_
  refine x_let (fun s9 e10 => ?_)
  refine x_aload_n (μ := mu_x10_init) (pc := 20) 0 dX10_init_20 rfl ?_
  refine x_iload_n (μ := mu_x10_init) (pc := 21) 2 dX10_init_21 rfl ?_
  refine x_fpiF (μ := mu_x10_init) (pc := 22) fX10_2 q606 rfl rfl dX10_init_22 (gT_R e10 (gT_R e8 (gT_E k6 (gT_N e4 ok2 hT1 (by decide)) (by decide)))) (fun _ q => gE_wI q) ?_
  refine x_let (fun s11 e12 => ?_)
  refine x_aload_n (μ := mu_x10_init) (pc := 25) 0 dX10_init_25 rfl ?_
  refine x_iload_n (μ := mu_x10_init) (pc := 26) 3 dX10_init_26 rfl ?_
  refine x_fpiF (μ := mu_x10_init) (pc := 27) fX10_3 q608 rfl rfl dX10_init_27 (gT_I e12 (gT_R e10 (gT_R e8 (gT_E k6 (gT_N e4 ok2 hT1 (by decide)) (by decide))))) (fun _ q => gE_wI q) ?_
  refine x_let (fun s13 e14 => ?_)
  refine x_aload_n (μ := mu_x10_init) (pc := 30) 0 dX10_init_30 rfl ?_
  refine x_lload (μ := mu_x10_init) (pc := 31) 4 dX10_init_31 rfl ?_
  refine x_fplF (μ := mu_x10_init) (pc := 33) fX10_4 q610 rfl rfl dX10_init_33 (gT_I e14 (gT_I e12 (gT_R e10 (gT_R e8 (gT_E k6 (gT_N e4 ok2 hT1 (by decide)) (by decide)))))) (fun _ q => gE_wL q) ?_
  refine x_let (fun s15 e16 => ?_)
  exact x_vret (μ := mu_x10_init) (pc := 36) (a1 := s15) dX10_init_36 rfl rfl (gRel_E.1 _) trivial
