def x19_shifted (N : Nat) (v0 : Nat) (v1 : Nat) (σ : gMem) : Option (Nat × gMem) := if mT σ v0 = 17 then if mT σ v1 = 22 then (x24_sheet v1 (mI σ v0 2) σ).bind (fun x4 => if mT σ (mR σ v0 0) = 14 then (x16_shifted N (mR σ v0 0) v1 x4 σ).bind (fun x6 => if mT (x6.2) (mR (x6.2) v0 1) = 14 then (x16_shifted N (mR (x6.2) v0 1) v1 x4 (x6.2)).bind (fun x9 => if x6.1 = 0 then gLet (wN (x9.2) 13 0) (fun s12 => (x15_init (mZ (x9.2)) s12).bind (fun x14 => some (mZ (x9.2), x14))) else if x9.1 ≠ 0 then gLet (wN (x9.2) 17 3) (fun s17 => (x19_init (mZ (x9.2)) (x6.1) (x9.1) (mI s17 v0 2) s17).bind (fun x20 => some (mZ (x9.2), x20))) else gLet (wN (x9.2) 13 0) (fun s23 => (x15_init (mZ (x9.2)) s23).bind (fun x25 => some (mZ (x9.2), x25)))) else none) else none) else none else none
set_option maxRecDepth 100000 in
theorem ok_x19_shifted {ω : gW} {l : Launch} {d : Nat} {N : Nat} {σ : gMem} {v0 : Nat} {v1 : Nat} (hl : l.stackTraces = false) (hdp : 4 ≤ d) : gK (fun p : Nat × gMem => (.inl (some (vR p.1)), p.2)) gE ω l d mu_x19_shifted [vR v0, vR v1] σ (x19_shifted N v0 v1 σ) := by
  refine gK.of hp_X19 (Nat.le_of_ble_eq_true rfl) ?_
  unfold x19_shifted
  refine x_aload_n (μ := mu_x19_shifted) (pc := 0) 1 dX19_shifted_0 rfl ?_
  refine x_aload_n (μ := mu_x19_shifted) (pc := 1) 0 dX19_shifted_1 rfl ?_
  refine x_if (fun hT1 => ?_)
  refine x_fgi (μ := mu_x19_shifted) (pc := 2) fX19_2 q2018 dX19_shifted_2 hT1 (fun hr2 => ?_)
  refine x_if (fun hT3 => ?_)
  refine x_callV_pr (μ := mu_x19_shifted) (pc := 5) (ok_x24_sheet (ω := ω) (l := l) (d := d - 1) hl (by omega) hr2) gRel_E gRel_E (fun _ q => q) q2299 q2300 q2301 q261 q2302 dX19_shifted_5 rfl hT3 hy_x24_sheet (by omega) (Nat.le_of_ble_eq_true rfl) rfl (Nat.le_of_ble_eq_true rfl) (fun x4 => ?_)
  refine x_astore_n (μ := mu_x19_shifted) (pc := 8) (lv' := [(2, vR x4), (0, vR v0), (1, vR v1)]) dX19_shifted_8 rfl (by decide) rfl ?_
  refine x_aload_n (μ := mu_x19_shifted) (pc := 9) 1 dX19_shifted_9 rfl ?_
  refine x_fgr (μ := mu_x19_shifted) (pc := 10) fX19_0 (by first | exact Or.inl ⟨_, rfl⟩ | exact Or.inr ⟨_, rfl⟩) q2014 dX19_shifted_10 hT1 ?_
  refine x_aload_n (μ := mu_x19_shifted) (pc := 13) 2 dX19_shifted_13 rfl ?_
  refine x_aload_n (μ := mu_x19_shifted) (pc := 14) 0 dX19_shifted_14 rfl ?_
  refine x_if (fun hT5 => ?_)
  refine x_callV_mr (μ := mu_x19_shifted) (pc := 15) (ok_x16_shifted (ω := ω) (l := l) (d := d - 1) hl (by omega) ) gRel_E gRel_E (fun _ q => q) q2303 q2304 q2305 q248 q2306 dX19_shifted_15 rfl hT5 hy_x16_shifted (by omega) (Nat.le_of_ble_eq_true rfl) rfl (Nat.le_of_ble_eq_true rfl) (fun x6 k7 => ?_)
  refine x_astore_n (μ := mu_x19_shifted) (pc := 18) (lv' := [(3, vR (x6.1)), (2, vR x4), (0, vR v0), (1, vR v1)]) dX19_shifted_18 rfl (by decide) rfl ?_
  refine x_aload_n (μ := mu_x19_shifted) (pc := 19) 2 dX19_shifted_19 rfl ?_
  refine x_fgr (μ := mu_x19_shifted) (pc := 20) fX19_1 (by first | exact Or.inl ⟨_, rfl⟩ | exact Or.inr ⟨_, rfl⟩) q2016 dX19_shifted_20 (gT_E k7 hT1 (by decide)) ?_
  refine x_aload_n (μ := mu_x19_shifted) (pc := 23) 3 dX19_shifted_23 rfl ?_
  refine x_aload_n (μ := mu_x19_shifted) (pc := 24) 1 dX19_shifted_24 rfl ?_
  refine x_if (fun hT8 => ?_)
  refine x_callV_mr (μ := mu_x19_shifted) (pc := 25) (ok_x16_shifted (ω := ω) (l := l) (d := d - 1) hl (by omega) ) gRel_E gRel_E (fun _ q => q) q2303 q2304 q2305 q248 q2306 dX19_shifted_25 rfl hT8 hy_x16_shifted (by omega) (Nat.le_of_ble_eq_true rfl) rfl (Nat.le_of_ble_eq_true rfl) (fun x9 k10 => ?_)
  refine x_astore (μ := mu_x19_shifted) (pc := 28) (lv' := [(4, vR (x9.1)), (3, vR (x6.1)), (2, vR x4), (0, vR v0), (1, vR v1)]) dX19_shifted_28 (by decide) rfl ?_
  refine x_aload_n (μ := mu_x19_shifted) (pc := 30) 1 dX19_shifted_30 rfl ?_
  refine x_ifnull (μ := mu_x19_shifted) (pc := 31) (tgt := 39) dX19_shifted_31 rfl ?_ ?_
  · refine x_ok (fun ok11 => ?_)
    refine x_new (μ := mu_x19_shifted) (pc := 39) (ci := 12) gk_X15 gd_X15 q2312 q1904 q247 dX19_shifted_39 ?_
    refine x_let (fun s12 e13 => ?_)
    refine x_dup (μ := mu_x19_shifted) (pc := 42) dX19_shifted_42 rfl ?_
    refine x_callIN_mv (μ := mu_x19_shifted) (pc := 43) (ok_x15_init (ω := ω) (l := l) (d := d - 1) hl (by omega) ) gRel_E gRel_E (fun _ q => q) q2313 q1906 q247 q1907 dX19_shifted_43 (gT_ne (gT_new e13)) rfl hy_x15_init (by omega) (Nat.le_of_ble_eq_true rfl) rfl (Nat.le_of_ble_eq_true rfl) (fun x14 k15 => ?_)
    refine x_goto (μ := mu_x19_shifted) (pc := 46) (tgt := 63) dX19_shifted_46 rfl ?_
    exact x_aret (μ := mu_x19_shifted) (pc := 63) dX19_shifted_63 rfl (by first | exact Or.inl ⟨_, rfl⟩ | exact Or.inr ⟨_, rfl⟩) rfl (gRel_E.1 _) trivial
  · refine x_aload (μ := mu_x19_shifted) (pc := 34) 0 dX19_shifted_34 rfl ?_
    refine x_ifnonnull (μ := mu_x19_shifted) (pc := 36) (tgt := 49) dX19_shifted_36 rfl ?_ ?_
    · refine x_ok (fun ok16 => ?_)
      refine x_new (μ := mu_x19_shifted) (pc := 49) (ci := 16) gk_X19 gd_X19 q1593 q2009 q251 dX19_shifted_49 ?_
      refine x_let (fun s17 e18 => ?_)
      refine x_dup (μ := mu_x19_shifted) (pc := 52) dX19_shifted_52 rfl ?_
      refine x_aload_n (μ := mu_x19_shifted) (pc := 53) 1 dX19_shifted_53 rfl ?_
      refine x_aload (μ := mu_x19_shifted) (pc := 54) 0 dX19_shifted_54 rfl ?_
      refine x_aload_n (μ := mu_x19_shifted) (pc := 56) 3 dX19_shifted_56 rfl ?_
      refine x_fgi (μ := mu_x19_shifted) (pc := 57) fX19_2 q2018 dX19_shifted_57 (gT_N e18 ok16 (gT_E k10 (gT_E k7 hT1 (by decide)) (by decide)) (by decide)) (fun hr19 => ?_)
      refine x_callI_mv (μ := mu_x19_shifted) (pc := 60) (ok_x19_init (ω := ω) (l := l) (d := d - 1) hl (by omega) hr19) gRel_E gRel_E (fun _ q => q) q2314 q2011 q251 q2012 dX19_shifted_60 (gT_ne (gT_new e18)) rfl hy_x19_init (by omega) (Nat.le_of_ble_eq_true rfl) rfl (Nat.le_of_ble_eq_true rfl) (fun x20 k21 => ?_)
      exact x_aret (μ := mu_x19_shifted) (pc := 63) dX19_shifted_63 rfl (by first | exact Or.inl ⟨_, rfl⟩ | exact Or.inr ⟨_, rfl⟩) rfl (gRel_E.1 _) trivial
    · refine x_ok (fun ok22 => ?_)
      refine x_new (μ := mu_x19_shifted) (pc := 39) (ci := 12) gk_X15 gd_X15 q2312 q1904 q247 dX19_shifted_39 ?_
      refine x_let (fun s23 e24 => ?_)
      refine x_dup (μ := mu_x19_shifted) (pc := 42) dX19_shifted_42 rfl ?_
      refine x_callIN_mv (μ := mu_x19_shifted) (pc := 43) (ok_x15_init (ω := ω) (l := l) (d := d - 1) hl (by omega) ) gRel_E gRel_E (fun _ q => q) q2313 q1906 q247 q1907 dX19_shifted_43 (gT_ne (gT_new e24)) rfl hy_x15_init (by omega) (Nat.le_of_ble_eq_true rfl) rfl (Nat.le_of_ble_eq_true rfl) (fun x25 k26 => ?_)
      refine x_goto (μ := mu_x19_shifted) (pc := 46) (tgt := 63) dX19_shifted_46 rfl ?_
      exact x_aret (μ := mu_x19_shifted) (pc := 63) dX19_shifted_63 rfl (by first | exact Or.inl ⟨_, rfl⟩ | exact Or.inr ⟨_, rfl⟩) rfl (gRel_E.1 _) trivial
def x20_workAll_l6_j63 (N : Nat) (W : Nat → Nat → Nat → gMem → Option gMem) (v0 : Nat) (v1 : Nat) (v2 : Nat) (v3 : Int) (v4 : Int) (v5 : Int) (Kh : Int → Int → gMem → Option (Int × gMem)) (K : Int → gMem → Option (Int × gMem)) (s : gMem) : Option (Int × gMem) := Kh v4 (w32 (v5 + 1)) s
set_option maxRecDepth 100000 in
theorem okj_x20_workAll_l6_j63 {ω : gW} {l : Launch} {d : Nat} {N : Nat} {W : Nat → Nat → Nat → gMem → Option gMem} {dW : Nat} {σ0 : gMem} {s : gMem} {v0 : Nat} {v1 : Nat} {v2 : Nat} {v3 : Int} {v4 : Int} {v5 : Int} {Kh : Int → Int → gMem → Option (Int × gMem)} {K : Int → gMem → Option (Int × gMem)} (hl : l.stackTraces = false) (hW : ∀ (a0 : Nat) (a1 : Nat) (a2 : Nat) (s : gMem), gKI (fun p : gMem => (.inl none, p)) gE ω l dW iy_Part_work none [vR a0, vR a1, vR a2] s (W a0 a1 a2 s)) (hdp : 2 ≤ d) (hdw : dW + 1 ≤ d) (hv3 : g32 v3) (hv4 : g32 v4) (hv5 : g32 v5) (hKh : ∀ (v4 : Int) (v5 : Int) (s : gMem) , g32 v4 → g32 v5 → GG (fun p : Int × gMem => (.inl (some (vI p.1)), p.2)) gE ω l d mu_x20_workAll σ0 6 [(0, vR v0), (1, vR v1), (2, vR v2), (3, vI v3), (4, vI v4), (5, vI v5)] [] s (Kh v4 v5 s)) (hK : ∀ (v4 : Int) (s : gMem) , g32 v4 → GG (fun p : Int × gMem => (.inl (some (vI p.1)), p.2)) gE ω l d mu_x20_workAll σ0 69 [(4, vI v4)] [] s (K v4 s)) : GG (fun p : Int × gMem => (.inl (some (vI p.1)), p.2)) gE ω l d mu_x20_workAll σ0 63 [(0, vR v0), (1, vR v1), (2, vR v2), (3, vI v3), (4, vI v4), (5, vI v5)] [] s (x20_workAll_l6_j63 N W v0 v1 v2 v3 v4 v5 Kh K s) := by
  unfold x20_workAll_l6_j63
  refine x_iincw (μ := mu_x20_workAll) (pc := 63) (lv' := [(5, vI (w32 (v5 + 1))), (0, vR v0), (1, vR v1), (2, vR v2), (3, vI v3), (4, vI v4)]) 5 dX20_workAll_63 rfl (by decide) rfl ?_
  refine x_goto (μ := mu_x20_workAll) (pc := 66) (tgt := 6) dX20_workAll_66 rfl ?_
  refine x_loc (lv' := [(0, vR v0), (1, vR v1), (2, vR v2), (3, vI v3), (4, vI v4), (5, vI (w32 (v5 + 1)))]) [1, 2, 3, 4, 5, 0] rfl ?_
  exact hKh v4 (w32 (v5 + 1)) s hv4 (w32_rng _)
def x20_workAll_l6 (N : Nat) (W : Nat → Nat → Nat → gMem → Option gMem) (v0 : Nat) (v1 : Nat) (v2 : Nat) (v3 : Int) (K : Int → gMem → Option (Int × gMem)) : Nat → Int → Int → gMem → Option (Int × gMem)
  | 0, _, _, _ => none
  | n + 1, v4, v5, s => if mT s v0 = 18 then if mT s (mR s v0 1) = 108 then if w32 (mN s (mR s v0 1) : Int) ≤ v5 then K v4 s else if mT s v1 = 3 then (x3_take v1 s).bind (fun x4 => if mT (x4.2) (mR (x4.2) v0 1) = 108 then if 0 ≤ v5 ∧ v5 < (mN (x4.2) (mR (x4.2) v0 1) : Int) then (W (mR (x4.2) (mR (x4.2) v0 1) v5.toNat) v1 (x4.1) (x4.2)).bind (fun x7 => if v4 = 0 then x20_workAll_l6_j63 N W v0 v1 v2 v3 v4 v5  (x20_workAll_l6 N W v0 v1 v2 v3 K n) K x7 else if v3 ≠ 0 then x20_workAll_l6_j63 N W v0 v1 v2 v3 v4 v5  (x20_workAll_l6 N W v0 v1 v2 v3 K n) K x7 else if mT x7 (x4.1) = 5 then (x5_failed (x4.1) x7).bind (fun x10 => if x10 = 0 then x20_workAll_l6_j63 N W v0 v1 v2 v3 v4 v5  (x20_workAll_l6 N W v0 v1 v2 v3 K n) K x7 else if mT x7 v2 = 5 then (x5_copy v2 (x4.1) x7).bind (fun x13 => x20_workAll_l6_j63 N W v0 v1 v2 v3 0 v5  (x20_workAll_l6 N W v0 v1 v2 v3 K n) K x13) else none) else none) else none else none) else none else none else none
set_option maxRecDepth 100000 in
theorem okl_x20_workAll_l6 {ω : gW} {l : Launch} {d : Nat} {N : Nat} {W : Nat → Nat → Nat → gMem → Option gMem} {dW : Nat} {σ0 : gMem} {v0 : Nat} {v1 : Nat} {v2 : Nat} {v3 : Int} {K : Int → gMem → Option (Int × gMem)} (hl : l.stackTraces = false) (hW : ∀ (a0 : Nat) (a1 : Nat) (a2 : Nat) (s : gMem), gKI (fun p : gMem => (.inl none, p)) gE ω l dW iy_Part_work none [vR a0, vR a1, vR a2] s (W a0 a1 a2 s)) (hdp : 2 ≤ d) (hdw : dW + 1 ≤ d) (hv3 : g32 v3) (hK : ∀ (v4 : Int) (s : gMem) , g32 v4 → GG (fun p : Int × gMem => (.inl (some (vI p.1)), p.2)) gE ω l d mu_x20_workAll σ0 69 [(4, vI v4)] [] s (K v4 s)) : ∀ (n : Nat) (v4 : Int) (v5 : Int) (s : gMem) , g32 v4 → g32 v5 → GG (fun p : Int × gMem => (.inl (some (vI p.1)), p.2)) gE ω l d mu_x20_workAll σ0 6 [(0, vR v0), (1, vR v1), (2, vR v2), (3, vI v3), (4, vI v4), (5, vI v5)] [] s (x20_workAll_l6 N W v0 v1 v2 v3 K n v4 v5 s) := by
  intro n
  induction n with
  | zero => intros; exact x_none
  | succ n ih =>
    intro v4 v5 s hv4 hv5
    unfold x20_workAll_l6
    refine x_iload (μ := mu_x20_workAll) (pc := 6) 5 dX20_workAll_6 rfl ?_
    refine x_aload_n (μ := mu_x20_workAll) (pc := 8) 0 dX20_workAll_8 rfl ?_
    refine x_if (fun hT1 => ?_)
    refine x_fgr (μ := mu_x20_workAll) (pc := 9) fX20_1 (by first | exact Or.inl ⟨_, rfl⟩ | exact Or.inr ⟨_, rfl⟩) q2041 dX20_workAll_9 hT1 ?_
    refine x_if (fun hT2 => ?_)
    refine x_len (μ := mu_x20_workAll) (pc := 12) 8 (fun _ => rfl) dX20_workAll_12 hT2 ?_
    refine x_w1 ?_
    refine x_icmp_ge (μ := mu_x20_workAll) (pc := 13) (tgt := 69) dX20_workAll_13 rfl hv5 (w32_rng _) ?_ ?_
    · refine x_loc (lv' := [(4, vI v4)]) [4] rfl ?_
      exact hK v4 s hv4
    · refine x_aload_n (μ := mu_x20_workAll) (pc := 16) 1 dX20_workAll_16 rfl ?_
      refine x_if (fun hT3 => ?_)
      refine x_callV_mr (μ := mu_x20_workAll) (pc := 17) (ok_x3_take (ω := ω) (l := l) (d := d - 1) hl (by omega) ) gRel_E gRel_E (fun _ q => q) q1216 q1069 q1070 q223 q1071 dX20_workAll_17 rfl hT3 hy_x3_take (by omega) (Nat.le_of_ble_eq_true rfl) rfl (Nat.le_of_ble_eq_true rfl) (fun x4 k5 => ?_)
      refine x_astore (μ := mu_x20_workAll) (pc := 20) (lv' := [(6, vR (x4.1)), (0, vR v0), (1, vR v1), (2, vR v2), (3, vI v3), (4, vI v4), (5, vI v5)]) dX20_workAll_20 (by decide) rfl ?_
      refine x_aload_n (μ := mu_x20_workAll) (pc := 22) 1 dX20_workAll_22 rfl ?_
      refine x_fgr (μ := mu_x20_workAll) (pc := 23) fX20_1 (by first | exact Or.inl ⟨_, rfl⟩ | exact Or.inr ⟨_, rfl⟩) q2041 dX20_workAll_23 (gT_E k5 hT1 (by decide)) ?_
      refine x_iload (μ := mu_x20_workAll) (pc := 26) 6 dX20_workAll_26 rfl ?_
      refine x_if (fun hT6 => ?_)
      refine x_aald (μ := mu_x20_workAll) (pc := 28) 8 (fun _ => rfl) rfl rfl dX20_workAll_28 hT6 rfl ?_
      refine x_aload_n (μ := mu_x20_workAll) (pc := 29) 2 dX20_workAll_29 rfl ?_
      refine x_aload (μ := mu_x20_workAll) (pc := 30) 0 dX20_workAll_30 rfl ?_
      refine x_callF_mv (μ := mu_x20_workAll) (pc := 32) (hW (mR (x4.2) (mR (x4.2) v0 1) v5.toNat) v1 (x4.1) (x4.2) ) gRel_E gRel_E (fun _ q => q) q995 dX20_workAll_32 iy_Part_work_hy (by omega) rfl (Nat.le_of_ble_eq_true rfl) (fun x7 k8 => ?_)
      refine x_iload (μ := mu_x20_workAll) (pc := 37) 5 dX20_workAll_37 rfl ?_
      refine x_if_eq (μ := mu_x20_workAll) (pc := 39) (tgt := 63) dX20_workAll_39 rfl hv4 ?_ ?_
      · refine x_loc (lv' := [(0, vR v0), (1, vR v1), (2, vR v2), (3, vI v3), (4, vI v4), (5, vI v5)]) [1, 2, 3, 4, 5, 6] rfl ?_
        exact okj_x20_workAll_l6_j63 hl hW hdp hdw hv3 hv4 hv5 ih hK
      · refine x_iload_n (μ := mu_x20_workAll) (pc := 42) 4 dX20_workAll_42 rfl ?_
        refine x_if_ne (μ := mu_x20_workAll) (pc := 43) (tgt := 63) dX20_workAll_43 rfl hv3 ?_ ?_
        · refine x_loc (lv' := [(0, vR v0), (1, vR v1), (2, vR v2), (3, vI v3), (4, vI v4), (5, vI v5)]) [1, 2, 3, 4, 5, 6] rfl ?_
          exact okj_x20_workAll_l6_j63 hl hW hdp hdw hv3 hv4 hv5 ih hK
        · refine x_aload (μ := mu_x20_workAll) (pc := 46) 0 dX20_workAll_46 rfl ?_
          refine x_if (fun hT9 => ?_)
          refine x_callV_pi (μ := mu_x20_workAll) (pc := 48) (ok_x5_failed (ω := ω) (l := l) (d := d - 1) hl (by omega) ) gRel_E gRel_E (fun _ q => q) q1200 q1073 q1074 q225 q1075 dX20_workAll_48 rfl hT9 hy_x5_failed (by omega) (Nat.le_of_ble_eq_true rfl) rfl (Nat.le_of_ble_eq_true rfl) (fun x10 hr11 => ?_)
          refine x_if_eq (μ := mu_x20_workAll) (pc := 51) (tgt := 63) dX20_workAll_51 rfl hr11 ?_ ?_
          · refine x_loc (lv' := [(0, vR v0), (1, vR v1), (2, vR v2), (3, vI v3), (4, vI v4), (5, vI v5)]) [1, 2, 3, 4, 5, 6] rfl ?_
            exact okj_x20_workAll_l6_j63 hl hW hdp hdw hv3 hv4 hv5 ih hK
          · refine x_aload_n (μ := mu_x20_workAll) (pc := 54) 3 dX20_workAll_54 rfl ?_
            refine x_aload (μ := mu_x20_workAll) (pc := 55) 0 dX20_workAll_55 rfl ?_
            refine x_if (fun hT12 => ?_)
            refine x_callV_mv (μ := mu_x20_workAll) (pc := 57) (ok_x5_copy (ω := ω) (l := l) (d := d - 1) hl (by omega) ) gRel_E gRel_E (fun _ q => q) q1217 q1077 q1078 q225 q1079 dX20_workAll_57 rfl hT12 hy_x5_copy (by omega) (Nat.le_of_ble_eq_true rfl) rfl (Nat.le_of_ble_eq_true rfl) (fun x13 k14 => ?_)
            refine x_iconst (μ := mu_x20_workAll) (pc := 60) dX20_workAll_60 ?_
            refine x_istore (μ := mu_x20_workAll) (pc := 61) (lv' := [(4, vI 0), (6, vR (x4.1)), (0, vR v0), (1, vR v1), (2, vR v2), (3, vI v3), (5, vI v5)]) dX20_workAll_61 (by decide) rfl ?_
            refine x_loc (lv' := [(0, vR v0), (1, vR v1), (2, vR v2), (3, vI v3), (4, vI 0), (5, vI v5)]) [2, 3, 4, 5, 0, 6] rfl ?_
            exact okj_x20_workAll_l6_j63 hl hW hdp hdw hv3 (by decide) hv5 ih hK
def x20_workAll (N : Nat) (W : Nat → Nat → Nat → gMem → Option gMem) (v0 : Nat) (v1 : Nat) (v2 : Nat) (v3 : Int) (σ : gMem) : Option (Int × gMem) := x20_workAll_l6 N W v0 v1 v2 v3 (fun y15 s16 => if y15 = 0 ∨ y15 = 1 then some (y15, s16) else none) N 1 0 σ
set_option maxRecDepth 100000 in
theorem ok_x20_workAll {ω : gW} {l : Launch} {d : Nat} {N : Nat} {W : Nat → Nat → Nat → gMem → Option gMem} {dW : Nat} {σ : gMem} {v0 : Nat} {v1 : Nat} {v2 : Nat} {v3 : Int} (hl : l.stackTraces = false) (hW : ∀ (a0 : Nat) (a1 : Nat) (a2 : Nat) (s : gMem), gKI (fun p : gMem => (.inl none, p)) gE ω l dW iy_Part_work none [vR a0, vR a1, vR a2] s (W a0 a1 a2 s)) (hdp : 2 ≤ d) (hdw : dW + 1 ≤ d) (hv3 : g32 v3) : gK (fun p : Int × gMem => (.inl (some (vI p.1)), p.2)) gE ω l d mu_x20_workAll [vR v0, vR v1, vR v2, vI v3] σ (x20_workAll N W v0 v1 v2 v3 σ) := by
  refine gK.of hp_X20 (Nat.le_of_ble_eq_true rfl) ?_
  unfold x20_workAll
  refine x_iconst (μ := mu_x20_workAll) (pc := 0) dX20_workAll_0 ?_
  refine x_istore (μ := mu_x20_workAll) (pc := 1) (lv' := [(4, vI 1), (0, vR v0), (1, vR v1), (2, vR v2), (3, vI v3)]) dX20_workAll_1 (by decide) rfl ?_
  refine x_iconst (μ := mu_x20_workAll) (pc := 3) dX20_workAll_3 ?_
  refine x_istore (μ := mu_x20_workAll) (pc := 4) (lv' := [(5, vI 0), (4, vI 1), (0, vR v0), (1, vR v1), (2, vR v2), (3, vI v3)]) dX20_workAll_4 (by decide) rfl ?_
  refine x_loc (lv' := [(0, vR v0), (1, vR v1), (2, vR v2), (3, vI v3), (4, vI 1), (5, vI 0)]) [2, 3, 4, 5, 1, 0] rfl ?_
  refine okl_x20_workAll_l6 hl hW hdp hdw hv3 (fun y15 s16 hy15 => ?_) N 1 0 σ (by decide) (by decide)
  refine x_iload (μ := mu_x20_workAll) (pc := 69) 0 dX20_workAll_69 rfl ?_
  exact x_if (μ := mu_x20_workAll) (pc := 71) (fun hz => x_zret dX20_workAll_71 rfl hz rfl (gRel_E.1 _) (show g32 y15 from hy15))
def x20_alike_l15 (N : Nat) (v0 : Nat) (v1 : Nat) (v2 : Nat) (v3 : Nat) (v4 : Nat) (K : Int → Int → gMem → Option gMem) : Nat → Int → Int → Int → gMem → Option gMem
  | 0, _, _, _, _ => none
  | n + 1, v5, v6, v7, s => if mT s v1 = 3 then (x3_next v1 s).bind (fun x5 => if x5.1 = 0 then K v5 v7 (x5.2) else if mT (x5.2) (mR (x5.2) v1 4) = 5 then (x5_failed (mR (x5.2) v1 4) (x5.2)).bind (fun x9 => if x9 = 0 then if mT (x5.2) v4 = 5 then (x5_copy v4 v2 (x5.2)).bind (fun x12 => (x1_compare N (mR x12 0 20) v4 (mR x12 v1 4) x12).bind (fun x14 => if gcmp (mL x14 v4 2) (((0 : Fin 2) : Nat) : Int) ≠ 0 then if v7 ≠ 0 then x20_alike_l15 N v0 v1 v2 v3 v4 K n (w32 (v5 + 1)) (w32 (v6 + 1)) v7 x14 else x20_alike_l15 N v0 v1 v2 v3 v4 K n (w32 (v5 + 1)) (w32 (v6 + 1)) (w32 (v6 + 1)) x14 else x20_alike_l15 N v0 v1 v2 v3 v4 K n v5 (w32 (v6 + 1)) v7 x14)) else none else x20_alike_l15 N v0 v1 v2 v3 v4 K n v5 (w32 (v6 + 1)) v7 (x5.2)) else none) else none
set_option maxRecDepth 100000 in
theorem okl_x20_alike_l15 {ω : gW} {l : Launch} {d : Nat} {N : Nat} {σ0 : gMem} {v0 : Nat} {v1 : Nat} {v2 : Nat} {v3 : Nat} {v4 : Nat} {K : Int → Int → gMem → Option gMem} (hl : l.stackTraces = false) (hdp : 4 ≤ d) (hK : ∀ (v5 : Int) (v7 : Int) (s : gMem) , g32 v5 → g32 v7 → GG (fun p : gMem => (.inl none, p)) gE ω l d mu_x20_alike σ0 84 [(0, vR v0), (1, vR v1), (3, vR v3), (5, vI v5), (7, vI v7)] [] s (K v5 v7 s)) : ∀ (n : Nat) (v5 : Int) (v6 : Int) (v7 : Int) (s : gMem) , g32 v5 → g32 v6 → g32 v7 → GG (fun p : gMem => (.inl none, p)) gE ω l d mu_x20_alike σ0 15 [(0, vR v0), (1, vR v1), (2, vR v2), (3, vR v3), (4, vR v4), (5, vI v5), (6, vI v6), (7, vI v7)] [] s (x20_alike_l15 N v0 v1 v2 v3 v4 K n v5 v6 v7 s) := by
  intro n
  induction n with
  | zero => intros; exact x_none
  | succ n ih =>
    intro v5 v6 v7 s hv5 hv6 hv7
    unfold x20_alike_l15
    refine x_aload_n (μ := mu_x20_alike) (pc := 15) 1 dX20_alike_15 rfl ?_
    refine x_if (fun hT4 => ?_)
    refine x_callV_mi (μ := mu_x20_alike) (pc := 16) (ok_x3_next (ω := ω) (l := l) (d := d - 1) hl (by omega) ) gRel_E gRel_E (fun _ q => q) q1230 q1231 q1232 q223 q1233 dX20_alike_16 rfl hT4 hy_x3_next (by omega) (Nat.le_of_ble_eq_true rfl) rfl (Nat.le_of_ble_eq_true rfl) (fun x5 k7 hr6 => ?_)
    refine x_if_eq (μ := mu_x20_alike) (pc := 19) (tgt := 84) dX20_alike_19 rfl hr6 ?_ ?_
    · refine x_loc (lv' := [(0, vR v0), (1, vR v1), (3, vR v3), (5, vI v5), (7, vI v7)]) [0, 1, 3, 5, 7] rfl ?_
      exact hK v5 v7 (x5.2) hv5 hv7
    · refine x_iincw (μ := mu_x20_alike) (pc := 22) (lv' := [(6, vI (w32 (v6 + 1))), (0, vR v0), (1, vR v1), (2, vR v2), (3, vR v3), (4, vR v4), (5, vI v5), (7, vI v7)]) 6 dX20_alike_22 rfl (by decide) rfl ?_
      refine x_aload_n (μ := mu_x20_alike) (pc := 25) 2 dX20_alike_25 rfl ?_
      refine x_fgrN (μ := mu_x20_alike) (pc := 26) fX3_4 (by first | exact Or.inl ⟨_, rfl⟩ | exact Or.inr ⟨_, rfl⟩) q402 dX20_alike_26 (gT_E k7 hT4 (by decide)) ?_
      refine x_if (fun hT8 => ?_)
      refine x_callV_pi (μ := mu_x20_alike) (pc := 29) (ok_x5_failed (ω := ω) (l := l) (d := d - 1) hl (by omega) ) gRel_E gRel_E (fun _ q => q) q1200 q1073 q1074 q225 q1075 dX20_alike_29 rfl hT8 hy_x5_failed (by omega) (Nat.le_of_ble_eq_true rfl) rfl (Nat.le_of_ble_eq_true rfl) (fun x9 hr10 => ?_)
      refine x_if_eq (μ := mu_x20_alike) (pc := 32) (tgt := 38) dX20_alike_32 rfl hr10 ?_ ?_
      · refine x_aload (μ := mu_x20_alike) (pc := 38) 5 dX20_alike_38 rfl ?_
        refine x_aload_n (μ := mu_x20_alike) (pc := 40) 3 dX20_alike_40 rfl ?_
        refine x_if (fun hT11 => ?_)
        refine x_callV_mv (μ := mu_x20_alike) (pc := 41) (ok_x5_copy (ω := ω) (l := l) (d := d - 1) hl (by omega) ) gRel_E gRel_E (fun _ q => q) q1217 q1077 q1078 q225 q1079 dX20_alike_41 rfl hT11 hy_x5_copy (by omega) (Nat.le_of_ble_eq_true rfl) rfl (Nat.le_of_ble_eq_true rfl) (fun x12 k13 => ?_)
        refine x_gst (μ := mu_x20_alike) (pc := 44) (j := 20) (List.mem_of_getElem? (i := 18) rfl) q1289 dX20_alike_44 ?_
        refine x_aload (μ := mu_x20_alike) (pc := 47) 5 dX20_alike_47 rfl ?_
        refine x_aload_n (μ := mu_x20_alike) (pc := 49) 2 dX20_alike_49 rfl ?_
        refine x_fgrN (μ := mu_x20_alike) (pc := 50) fX3_4 (by first | exact Or.inl ⟨_, rfl⟩ | exact Or.inr ⟨_, rfl⟩) q402 dX20_alike_50 (gT_E k13 (gT_E k7 hT4 (by decide)) (by decide)) ?_
        refine x_callSN_mv (μ := mu_x20_alike) (pc := 53) (ok_x1_compare (ω := ω) (l := l) (d := d - 1) hl (by omega) ) gRel_E gRel_E (fun _ q => q) q1290 q1084 q221 q1085 dX20_alike_53 hy_x1_compare (by omega) (Nat.le_of_ble_eq_true rfl) rfl (Nat.le_of_ble_eq_true rfl) (fun x14 k15 => ?_)
        refine x_aload (μ := mu_x20_alike) (pc := 56) 5 dX20_alike_56 rfl ?_
        refine x_fglN (μ := mu_x20_alike) (pc := 58) fX5_2 q383 dX20_alike_58 (gT_E k15 (gT_E k13 hT11 (by decide)) (by decide)) (fun hr16 => ?_)
        refine x_lconst (μ := mu_x20_alike) (pc := 61) dX20_alike_61 ?_
        refine x_lcmp (μ := mu_x20_alike) (pc := 62) dX20_alike_62 hr16 (by decide) ?_
        refine x_if_ne (μ := mu_x20_alike) (pc := 63) (tgt := 69) dX20_alike_63 rfl (gcmp_rng _ _) ?_ ?_
        · refine x_iincw (μ := mu_x20_alike) (pc := 69) (lv' := [(5, vI (w32 (v5 + 1))), (6, vI (w32 (v6 + 1))), (0, vR v0), (1, vR v1), (2, vR v2), (3, vR v3), (4, vR v4), (7, vI v7)]) 6 dX20_alike_69 rfl (by decide) rfl ?_
          refine x_iload (μ := mu_x20_alike) (pc := 72) 7 dX20_alike_72 rfl ?_
          refine x_if_ne (μ := mu_x20_alike) (pc := 74) (tgt := 15) dX20_alike_74 rfl hv7 ?_ ?_
          · refine x_loc (lv' := [(0, vR v0), (1, vR v1), (2, vR v2), (3, vR v3), (4, vR v4), (5, vI (w32 (v5 + 1))), (6, vI (w32 (v6 + 1))), (7, vI v7)]) [2, 3, 4, 5, 6, 0, 1, 7] rfl ?_
            exact ih (w32 (v5 + 1)) (w32 (v6 + 1)) v7 x14 (w32_rng _) (w32_rng _) hv7
          · refine x_iload (μ := mu_x20_alike) (pc := 77) 1 dX20_alike_77 rfl ?_
            refine x_istore (μ := mu_x20_alike) (pc := 79) (lv' := [(7, vI (w32 (v6 + 1))), (5, vI (w32 (v5 + 1))), (6, vI (w32 (v6 + 1))), (0, vR v0), (1, vR v1), (2, vR v2), (3, vR v3), (4, vR v4)]) dX20_alike_79 (by decide) rfl ?_
            refine x_goto (μ := mu_x20_alike) (pc := 81) (tgt := 15) dX20_alike_81 rfl ?_
            refine x_loc (lv' := [(0, vR v0), (1, vR v1), (2, vR v2), (3, vR v3), (4, vR v4), (5, vI (w32 (v5 + 1))), (6, vI (w32 (v6 + 1))), (7, vI (w32 (v6 + 1)))]) [3, 4, 5, 6, 7, 1, 2, 0] rfl ?_
            exact ih (w32 (v5 + 1)) (w32 (v6 + 1)) (w32 (v6 + 1)) x14 (w32_rng _) (w32_rng _) (w32_rng _)
        · refine x_goto (μ := mu_x20_alike) (pc := 66) (tgt := 15) dX20_alike_66 rfl ?_
          refine x_loc (lv' := [(0, vR v0), (1, vR v1), (2, vR v2), (3, vR v3), (4, vR v4), (5, vI v5), (6, vI (w32 (v6 + 1))), (7, vI v7)]) [1, 2, 3, 4, 5, 6, 0, 7] rfl ?_
          exact ih v5 (w32 (v6 + 1)) v7 x14 hv5 (w32_rng _) hv7
      · refine x_goto (μ := mu_x20_alike) (pc := 35) (tgt := 15) dX20_alike_35 rfl ?_
        refine x_loc (lv' := [(0, vR v0), (1, vR v1), (2, vR v2), (3, vR v3), (4, vR v4), (5, vI v5), (6, vI (w32 (v6 + 1))), (7, vI v7)]) [1, 2, 3, 4, 5, 6, 0, 7] rfl ?_
        exact ih v5 (w32 (v6 + 1)) v7 (x5.2) hv5 (w32_rng _) hv7
def x20_alike (N : Nat) (v0 : Nat) (v1 : Nat) (v2 : Nat) (v3 : Nat) (σ : gMem) : Option gMem := if mT σ v1 = 3 then (x3_take v1 σ).bind (fun x2 => x20_alike_l15 N v0 v1 v2 v3 (x2.1) (fun y17 y18 s19 => if mT s19 v0 = 18 then if mR s19 v0 0 ≠ mR s19 0 14 then if y18 ≠ 0 then if mT s19 v3 = 5 then (x5_be v3 y18 s19).bind (fun x22 => if mT x22 v1 = 3 then (x3_give v1 x22).bind (fun x25 => some x25) else none) else none else if mT s19 v3 = 5 then (x5_fail v3 7 s19).bind (fun x28 => if mT x28 v1 = 3 then (x3_give v1 x28).bind (fun x31 => some x31) else none) else none else if mT s19 v3 = 5 then (x5_be v3 y17 s19).bind (fun x34 => if mT x34 v1 = 3 then (x3_give v1 x34).bind (fun x37 => some x37) else none) else none else none) N 0 0 0 (x2.2)) else none
set_option maxRecDepth 100000 in
theorem ok_x20_alike {ω : gW} {l : Launch} {d : Nat} {N : Nat} {σ : gMem} {v0 : Nat} {v1 : Nat} {v2 : Nat} {v3 : Nat} (hl : l.stackTraces = false) (hdp : 4 ≤ d) : gK (fun p : gMem => (.inl none, p)) gE ω l d mu_x20_alike [vR v0, vR v1, vR v2, vR v3] σ (x20_alike N v0 v1 v2 v3 σ) := by
  refine gK.of hp_X20 (Nat.le_of_ble_eq_true rfl) ?_
  unfold x20_alike
  refine x_aload_n (μ := mu_x20_alike) (pc := 0) 1 dX20_alike_0 rfl ?_
  refine x_if (fun hT1 => ?_)
  refine x_callV_mr (μ := mu_x20_alike) (pc := 1) (ok_x3_take (ω := ω) (l := l) (d := d - 1) hl (by omega) ) gRel_E gRel_E (fun _ q => q) q1216 q1069 q1070 q223 q1071 dX20_alike_1 rfl hT1 hy_x3_take (by omega) (Nat.le_of_ble_eq_true rfl) rfl (Nat.le_of_ble_eq_true rfl) (fun x2 k3 => ?_)
  refine x_astore (μ := mu_x20_alike) (pc := 4) (lv' := [(4, vR (x2.1)), (0, vR v0), (1, vR v1), (2, vR v2), (3, vR v3)]) dX20_alike_4 (by decide) rfl ?_
  refine x_iconst (μ := mu_x20_alike) (pc := 6) dX20_alike_6 ?_
  refine x_istore (μ := mu_x20_alike) (pc := 7) (lv' := [(5, vI 0), (4, vR (x2.1)), (0, vR v0), (1, vR v1), (2, vR v2), (3, vR v3)]) dX20_alike_7 (by decide) rfl ?_
  refine x_iconst (μ := mu_x20_alike) (pc := 9) dX20_alike_9 ?_
  refine x_istore (μ := mu_x20_alike) (pc := 10) (lv' := [(6, vI 0), (5, vI 0), (4, vR (x2.1)), (0, vR v0), (1, vR v1), (2, vR v2), (3, vR v3)]) dX20_alike_10 (by decide) rfl ?_
  refine x_iconst (μ := mu_x20_alike) (pc := 12) dX20_alike_12 ?_
  refine x_istore (μ := mu_x20_alike) (pc := 13) (lv' := [(7, vI 0), (6, vI 0), (5, vI 0), (4, vR (x2.1)), (0, vR v0), (1, vR v1), (2, vR v2), (3, vR v3)]) dX20_alike_13 (by decide) rfl ?_
  refine x_loc (lv' := [(0, vR v0), (1, vR v1), (2, vR v2), (3, vR v3), (4, vR (x2.1)), (5, vI 0), (6, vI 0), (7, vI 0)]) [4, 5, 6, 7, 3, 2, 1, 0] rfl ?_
  refine okl_x20_alike_l15 hl hdp (fun y17 y18 s19 hy17 hy18 => ?_) N 0 0 0 (x2.2) (by decide) (by decide) (by decide)
  refine x_aload_n (μ := mu_x20_alike) (pc := 84) 0 dX20_alike_84 rfl ?_
  refine x_if (fun hT20 => ?_)
  refine x_fgr (μ := mu_x20_alike) (pc := 85) fX20_0 (by first | exact Or.inl ⟨_, rfl⟩ | exact Or.inr ⟨_, rfl⟩) q2040 dX20_alike_85 hT20 ?_
  refine x_gst (μ := mu_x20_alike) (pc := 88) (j := 14) (List.mem_of_getElem? (i := 14) rfl) q1291 dX20_alike_88 ?_
  refine x_acmp_ne (μ := mu_x20_alike) (pc := 91) (tgt := 104) dX20_alike_91 rfl ?_ ?_
  · refine x_iload (μ := mu_x20_alike) (pc := 104) 4 dX20_alike_104 rfl ?_
    refine x_if_ne (μ := mu_x20_alike) (pc := 106) (tgt := 118) dX20_alike_106 rfl hy18 ?_ ?_
    · refine x_aload_n (μ := mu_x20_alike) (pc := 118) 2 dX20_alike_118 rfl ?_
      refine x_iload (μ := mu_x20_alike) (pc := 119) 4 dX20_alike_119 rfl ?_
      refine x_i2l (μ := mu_x20_alike) (pc := 121) dX20_alike_121 hy18 ?_
      refine x_if (fun hT21 => ?_)
      refine x_callV_mv (μ := mu_x20_alike) (pc := 122) (ok_x5_be (ω := ω) (l := l) (d := d - 1) hl (by omega) (g32_64 hy18)) gRel_E gRel_E (fun _ q => q) q1266 q1052 q1053 q225 q1054 dX20_alike_122 rfl hT21 hy_x5_be (by omega) (Nat.le_of_ble_eq_true rfl) rfl (Nat.le_of_ble_eq_true rfl) (fun x22 k23 => ?_)
      refine x_aload_n (μ := mu_x20_alike) (pc := 125) 1 dX20_alike_125 rfl ?_
      refine x_if (fun hT24 => ?_)
      refine x_callV_mv (μ := mu_x20_alike) (pc := 126) (ok_x3_give (ω := ω) (l := l) (d := d - 1) hl (by omega) ) gRel_E gRel_E (fun _ q => q) q1293 q1194 q1195 q223 q1196 dX20_alike_126 rfl hT24 hy_x3_give (by omega) (Nat.le_of_ble_eq_true rfl) rfl (Nat.le_of_ble_eq_true rfl) (fun x25 k26 => ?_)
      exact x_vret (μ := mu_x20_alike) (pc := 129) (a1 := x25) dX20_alike_129 rfl rfl (gRel_E.1 _) trivial
    · refine x_aload_n (μ := mu_x20_alike) (pc := 109) 2 dX20_alike_109 rfl ?_
      refine x_bipush (μ := mu_x20_alike) (pc := 110) dX20_alike_110 (by decide) ?_
      refine x_if (fun hT27 => ?_)
      refine x_callV_mv (μ := mu_x20_alike) (pc := 112) (ok_x5_fail (ω := ω) (l := l) (d := d - 1) hl (by omega) (by decide)) gRel_E gRel_E (fun _ q => q) q1262 q969 q970 q225 q971 dX20_alike_112 rfl hT27 hy_x5_fail (by omega) (Nat.le_of_ble_eq_true rfl) rfl (Nat.le_of_ble_eq_true rfl) (fun x28 k29 => ?_)
      refine x_goto (μ := mu_x20_alike) (pc := 115) (tgt := 125) dX20_alike_115 rfl ?_
      refine x_aload_n (μ := mu_x20_alike) (pc := 125) 1 dX20_alike_125 rfl ?_
      refine x_if (fun hT30 => ?_)
      refine x_callV_mv (μ := mu_x20_alike) (pc := 126) (ok_x3_give (ω := ω) (l := l) (d := d - 1) hl (by omega) ) gRel_E gRel_E (fun _ q => q) q1293 q1194 q1195 q223 q1196 dX20_alike_126 rfl hT30 hy_x3_give (by omega) (Nat.le_of_ble_eq_true rfl) rfl (Nat.le_of_ble_eq_true rfl) (fun x31 k32 => ?_)
      exact x_vret (μ := mu_x20_alike) (pc := 129) (a1 := x31) dX20_alike_129 rfl rfl (gRel_E.1 _) trivial
  · refine x_aload_n (μ := mu_x20_alike) (pc := 94) 2 dX20_alike_94 rfl ?_
    refine x_iload (μ := mu_x20_alike) (pc := 95) 3 dX20_alike_95 rfl ?_
    refine x_i2l (μ := mu_x20_alike) (pc := 97) dX20_alike_97 hy17 ?_
    refine x_if (fun hT33 => ?_)
    refine x_callV_mv (μ := mu_x20_alike) (pc := 98) (ok_x5_be (ω := ω) (l := l) (d := d - 1) hl (by omega) (g32_64 hy17)) gRel_E gRel_E (fun _ q => q) q1266 q1052 q1053 q225 q1054 dX20_alike_98 rfl hT33 hy_x5_be (by omega) (Nat.le_of_ble_eq_true rfl) rfl (Nat.le_of_ble_eq_true rfl) (fun x34 k35 => ?_)
    refine x_goto (μ := mu_x20_alike) (pc := 101) (tgt := 125) dX20_alike_101 rfl ?_
    refine x_aload_n (μ := mu_x20_alike) (pc := 125) 1 dX20_alike_125 rfl ?_
    refine x_if (fun hT36 => ?_)
    refine x_callV_mv (μ := mu_x20_alike) (pc := 126) (ok_x3_give (ω := ω) (l := l) (d := d - 1) hl (by omega) ) gRel_E gRel_E (fun _ q => q) q1293 q1194 q1195 q223 q1196 dX20_alike_126 rfl hT36 hy_x3_give (by omega) (Nat.le_of_ble_eq_true rfl) rfl (Nat.le_of_ble_eq_true rfl) (fun x37 k38 => ?_)
    exact x_vret (μ := mu_x20_alike) (pc := 129) (a1 := x37) dX20_alike_129 rfl rfl (gRel_E.1 _) trivial
def x20_place (N : Nat) (v0 : Nat) (v1 : Nat) (v2 : Nat) (σ : gMem) : Option gMem := if mT σ v0 = 18 then if mT σ (mR σ v0 1) = 108 then if 0 ≤ (0 : Int) ∧ (0 : Int) < (mN σ (mR σ v0 1) : Int) then if mR σ (mR σ v0 1) (0 : Int).toNat = 0 ∨ gNode (mT σ (mR σ (mR σ v0 1) (0 : Int).toNat)) = true then if mT σ (mR σ (mR σ v0 1) (0 : Int).toNat) = 15 then if 0 ≤ (0 : Int) ∧ (0 : Int) < (mN σ (mR σ v0 1) : Int) then if mR σ (mR σ v0 1) (0 : Int).toNat = 0 ∨ mT σ (mR σ (mR σ v0 1) (0 : Int).toNat) = 15 then if mT σ (mR σ (mR σ v0 1) (0 : Int).toNat) = 15 then if mT σ v1 = 3 then (x3_sheetOf v1 (mI σ (mR σ (mR σ v0 1) (0 : Int).toNat) 1) σ).bind (fun x8 => if mT σ (mR σ (mR σ (mR σ v0 1) (0 : Int).toNat) 0) = 14 then (x16_isIn N (mR σ (mR σ (mR σ v0 1) (0 : Int).toNat) 0) x8 σ).bind (fun x10 => if x10 ≠ 0 then if mR σ v0 0 ≠ mR σ 0 16 then if mT σ x8 = 8 then (x9_column N x8 (mI σ (mR σ (mR σ (mR σ v0 1) (0 : Int).toNat) 0) 1) σ).bind (fun x14 => if mT σ v2 = 5 then (x5_be v2 (w32 (x14 + 1)) σ).bind (fun x17 => some x17) else none) else none else if mT σ x8 = 8 then (x9_row N x8 (mI σ (mR σ (mR σ (mR σ v0 1) (0 : Int).toNat) 0) 0) σ).bind (fun x21 => if mT σ v2 = 5 then (x5_be v2 (w32 (x21 + 1)) σ).bind (fun x24 => some x24) else none) else none else if mT σ v2 = 5 then (x5_fail v2 1 σ).bind (fun x27 => some x27) else none) else none) else none else none else none else none else if mT σ v2 = 5 then (x5_fail v2 1 σ).bind (fun x30 => some x30) else none else none else none else none else none
set_option maxRecDepth 100000 in
theorem ok_x20_place {ω : gW} {l : Launch} {d : Nat} {N : Nat} {σ : gMem} {v0 : Nat} {v1 : Nat} {v2 : Nat} (hl : l.stackTraces = false) (hdp : 3 ≤ d) : gK (fun p : gMem => (.inl none, p)) gE ω l d mu_x20_place [vR v0, vR v1, vR v2] σ (x20_place N v0 v1 v2 σ) := by
  refine gK.of hp_X20 (Nat.le_of_ble_eq_true rfl) ?_
  unfold x20_place
  refine x_aload_n (μ := mu_x20_place) (pc := 0) 0 dX20_place_0 rfl ?_
  refine x_if (fun hT1 => ?_)
  refine x_fgr (μ := mu_x20_place) (pc := 1) fX20_1 (by first | exact Or.inl ⟨_, rfl⟩ | exact Or.inr ⟨_, rfl⟩) q2041 dX20_place_1 hT1 ?_
  refine x_iconst (μ := mu_x20_place) (pc := 4) dX20_place_4 ?_
  refine x_if (fun hT2 => ?_)
  refine x_aald (μ := mu_x20_place) (pc := 5) 8 (fun _ => rfl) rfl rfl dX20_place_5 hT2 rfl ?_
  refine x_if (fun hg3 => ?_)
  refine x_inst (μ := mu_x20_place) (pc := 6) (ci := 14) (by decide) rfl q1298 dX20_place_6 hg3 ?_ ?_
  · refine x_if_neT (μ := mu_x20_place) (pc := 9) (tgt := 18) dX20_place_9 rfl (by decide) (by decide) ?_
    refine x_aload_n (μ := mu_x20_place) (pc := 18) 0 dX20_place_18 rfl ?_
    refine x_fgr (μ := mu_x20_place) (pc := 19) fX20_1 (by first | exact Or.inl ⟨_, rfl⟩ | exact Or.inr ⟨_, rfl⟩) q2041 dX20_place_19 hT1 ?_
    refine x_iconst (μ := mu_x20_place) (pc := 22) dX20_place_22 ?_
    refine x_aald (μ := mu_x20_place) (pc := 23) 8 (fun _ => rfl) rfl rfl dX20_place_23 hT2 rfl ?_
    refine x_if (fun hg4 => ?_)
    refine x_castC (μ := mu_x20_place) (pc := 24) (ci := 14) rfl q1298 dX20_place_24 hg4 ?_
    refine x_astore_n (μ := mu_x20_place) (pc := 27) (lv' := [(3, vR (mR σ (mR σ v0 1) (0 : Int).toNat)), (0, vR v0), (1, vR v1), (2, vR v2)]) dX20_place_27 rfl (by decide) rfl ?_
    refine x_aload_n (μ := mu_x20_place) (pc := 28) 2 dX20_place_28 rfl ?_
    refine x_aload_n (μ := mu_x20_place) (pc := 29) 0 dX20_place_29 rfl ?_
    refine x_if (fun hT5 => ?_)
    refine x_fgiN (μ := mu_x20_place) (pc := 30) fX17_1 q1976 dX20_place_30 hT5 (fun hr6 => ?_)
    refine x_if (fun hT7 => ?_)
    refine x_callV_pr (μ := mu_x20_place) (pc := 33) (ok_x3_sheetOf (ω := ω) (l := l) (d := d - 1) hl (by omega) hr6) gRel_E gRel_E (fun _ q => q) q1299 q1015 q1016 q223 q1017 dX20_place_33 rfl hT7 hy_x3_sheetOf (by omega) (Nat.le_of_ble_eq_true rfl) rfl (Nat.le_of_ble_eq_true rfl) (fun x8 => ?_)
    refine x_astore (μ := mu_x20_place) (pc := 36) (lv' := [(4, vR x8), (3, vR (mR σ (mR σ v0 1) (0 : Int).toNat)), (0, vR v0), (1, vR v1), (2, vR v2)]) dX20_place_36 (by decide) rfl ?_
    refine x_aload_n (μ := mu_x20_place) (pc := 38) 1 dX20_place_38 rfl ?_
    refine x_fgrN (μ := mu_x20_place) (pc := 39) fX17_0 (by first | exact Or.inl ⟨_, rfl⟩ | exact Or.inr ⟨_, rfl⟩) q1973 dX20_place_39 hT5 ?_
    refine x_aload (μ := mu_x20_place) (pc := 42) 0 dX20_place_42 rfl ?_
    refine x_if (fun hT9 => ?_)
    refine x_callV_pi (μ := mu_x20_place) (pc := 44) (ok_x16_isIn (ω := ω) (l := l) (d := d - 1) hl (by omega) ) gRel_E gRel_E (fun _ q => q) q1300 q852 q853 q248 q854 dX20_place_44 rfl hT9 hy_x16_isIn (by omega) (Nat.le_of_ble_eq_true rfl) rfl (Nat.le_of_ble_eq_true rfl) (fun x10 hr11 => ?_)
    refine x_if_ne (μ := mu_x20_place) (pc := 47) (tgt := 58) dX20_place_47 rfl hr11 ?_ ?_
    · refine x_aload_n (μ := mu_x20_place) (pc := 58) 4 dX20_place_58 rfl ?_
      refine x_aload_n (μ := mu_x20_place) (pc := 59) 2 dX20_place_59 rfl ?_
      refine x_fgr (μ := mu_x20_place) (pc := 60) fX20_0 (by first | exact Or.inl ⟨_, rfl⟩ | exact Or.inr ⟨_, rfl⟩) q2040 dX20_place_60 hT1 ?_
      refine x_gst (μ := mu_x20_place) (pc := 63) (j := 16) (List.mem_of_getElem? (i := 16) rfl) q1301 dX20_place_63 ?_
      refine x_acmp_ne (μ := mu_x20_place) (pc := 66) (tgt := 87) dX20_place_66 rfl ?_ ?_
      · refine x_aload (μ := mu_x20_place) (pc := 87) 0 dX20_place_87 rfl ?_
        refine x_aload_n (μ := mu_x20_place) (pc := 89) 1 dX20_place_89 rfl ?_
        refine x_fgrN (μ := mu_x20_place) (pc := 90) fX17_0 (by first | exact Or.inl ⟨_, rfl⟩ | exact Or.inr ⟨_, rfl⟩) q1973 dX20_place_90 hT5 ?_
        refine x_fgiN (μ := mu_x20_place) (pc := 93) fX16_1 q1949 dX20_place_93 hT9 (fun hr12 => ?_)
        refine x_if (fun hT13 => ?_)
        refine x_callV_pi (μ := mu_x20_place) (pc := 96) (ok_x9_column (ω := ω) (l := l) (d := d - 1) hl (by omega) hr12) gRel_E gRel_E (fun _ q => q) q1303 q786 q787 q230 q788 dX20_place_96 rfl hT13 hy_x9_column (by omega) (Nat.le_of_ble_eq_true rfl) rfl (Nat.le_of_ble_eq_true rfl) (fun x14 hr15 => ?_)
        refine x_iconst (μ := mu_x20_place) (pc := 99) dX20_place_99 ?_
        refine x_iadd (μ := mu_x20_place) (pc := 100) dX20_place_100 ?_
        refine x_w1 ?_
        refine x_i2l (μ := mu_x20_place) (pc := 101) dX20_place_101 (w32_rng _) ?_
        refine x_if (fun hT16 => ?_)
        refine x_callV_mv (μ := mu_x20_place) (pc := 102) (ok_x5_be (ω := ω) (l := l) (d := d - 1) hl (by omega) (g32_64 (w32_rng _))) gRel_E gRel_E (fun _ q => q) q1266 q1052 q1053 q225 q1054 dX20_place_102 rfl hT16 hy_x5_be (by omega) (Nat.le_of_ble_eq_true rfl) rfl (Nat.le_of_ble_eq_true rfl) (fun x17 k18 => ?_)
        exact x_vret (μ := mu_x20_place) (pc := 105) (a1 := x17) dX20_place_105 rfl rfl (gRel_E.1 _) trivial
      · refine x_aload (μ := mu_x20_place) (pc := 69) 0 dX20_place_69 rfl ?_
        refine x_aload_n (μ := mu_x20_place) (pc := 71) 1 dX20_place_71 rfl ?_
        refine x_fgrN (μ := mu_x20_place) (pc := 72) fX17_0 (by first | exact Or.inl ⟨_, rfl⟩ | exact Or.inr ⟨_, rfl⟩) q1973 dX20_place_72 hT5 ?_
        refine x_fgiN (μ := mu_x20_place) (pc := 75) fX16_0 q1944 dX20_place_75 hT9 (fun hr19 => ?_)
        refine x_if (fun hT20 => ?_)
        refine x_callV_pi (μ := mu_x20_place) (pc := 78) (ok_x9_row (ω := ω) (l := l) (d := d - 1) hl (by omega) hr19) gRel_E gRel_E (fun _ q => q) q1302 q779 q780 q230 q781 dX20_place_78 rfl hT20 hy_x9_row (by omega) (Nat.le_of_ble_eq_true rfl) rfl (Nat.le_of_ble_eq_true rfl) (fun x21 hr22 => ?_)
        refine x_iconst (μ := mu_x20_place) (pc := 81) dX20_place_81 ?_
        refine x_iadd (μ := mu_x20_place) (pc := 82) dX20_place_82 ?_
        refine x_w1 ?_
        refine x_i2l (μ := mu_x20_place) (pc := 83) dX20_place_83 (w32_rng _) ?_
        refine x_goto (μ := mu_x20_place) (pc := 84) (tgt := 102) dX20_place_84 rfl ?_
        refine x_if (fun hT23 => ?_)
        refine x_callV_mv (μ := mu_x20_place) (pc := 102) (ok_x5_be (ω := ω) (l := l) (d := d - 1) hl (by omega) (g32_64 (w32_rng _))) gRel_E gRel_E (fun _ q => q) q1266 q1052 q1053 q225 q1054 dX20_place_102 rfl hT23 hy_x5_be (by omega) (Nat.le_of_ble_eq_true rfl) rfl (Nat.le_of_ble_eq_true rfl) (fun x24 k25 => ?_)
        exact x_vret (μ := mu_x20_place) (pc := 105) (a1 := x24) dX20_place_105 rfl rfl (gRel_E.1 _) trivial
    · refine x_aload_n (μ := mu_x20_place) (pc := 50) 4 dX20_place_50 rfl ?_
      refine x_iconst (μ := mu_x20_place) (pc := 51) dX20_place_51 ?_
      refine x_if (fun hT26 => ?_)
      refine x_callV_mv (μ := mu_x20_place) (pc := 52) (ok_x5_fail (ω := ω) (l := l) (d := d - 1) hl (by omega) (by decide)) gRel_E gRel_E (fun _ q => q) q1262 q969 q970 q225 q971 dX20_place_52 rfl hT26 hy_x5_fail (by omega) (Nat.le_of_ble_eq_true rfl) rfl (Nat.le_of_ble_eq_true rfl) (fun x27 k28 => ?_)
      refine x_goto (μ := mu_x20_place) (pc := 55) (tgt := 105) dX20_place_55 rfl ?_
      exact x_vret (μ := mu_x20_place) (pc := 105) (a1 := x27) dX20_place_105 rfl rfl (gRel_E.1 _) trivial
  · refine x_if_neF (μ := mu_x20_place) (pc := 9) (tgt := 18) dX20_place_9 rfl (by decide) (by decide) ?_
    refine x_aload_n (μ := mu_x20_place) (pc := 12) 2 dX20_place_12 rfl ?_
    refine x_iconst (μ := mu_x20_place) (pc := 13) dX20_place_13 ?_
    refine x_if (fun hT29 => ?_)
    refine x_callV_mv (μ := mu_x20_place) (pc := 14) (ok_x5_fail (ω := ω) (l := l) (d := d - 1) hl (by omega) (by decide)) gRel_E gRel_E (fun _ q => q) q1262 q969 q970 q225 q971 dX20_place_14 rfl hT29 hy_x5_fail (by omega) (Nat.le_of_ble_eq_true rfl) rfl (Nat.le_of_ble_eq_true rfl) (fun x30 k31 => ?_)
    exact x_vret (μ := mu_x20_place) (pc := 17) (a1 := x30) dX20_place_17 rfl rfl (gRel_E.1 _) trivial
def x20_cut_j43 (N : Nat) (W : Nat → Nat → Nat → gMem → Option gMem) (v1 : Nat) (v2 : Nat) (v3 : Nat) (s : gMem) : Option gMem := if mT s v2 = 5 then (x5_copy v2 v3 s).bind (fun x19 => if mT x19 v1 = 3 then (x3_give v1 x19).bind (fun x22 => some x22) else none) else none
set_option maxRecDepth 100000 in
theorem okj_x20_cut_j43 {ω : gW} {l : Launch} {d : Nat} {N : Nat} {W : Nat → Nat → Nat → gMem → Option gMem} {dW : Nat} {σ0 : gMem} {s : gMem} {v1 : Nat} {v2 : Nat} {v3 : Nat} (hl : l.stackTraces = false) (hW : ∀ (a0 : Nat) (a1 : Nat) (a2 : Nat) (s : gMem), gKI (fun p : gMem => (.inl none, p)) gE ω l dW iy_Part_work none [vR a0, vR a1, vR a2] s (W a0 a1 a2 s)) (hdp : 7 ≤ d) (hdw : dW + 1 ≤ d) : GG (fun p : gMem => (.inl none, p)) gE ω l d mu_x20_cut σ0 43 [(1, vR v1), (2, vR v2), (3, vR v3)] [] s (x20_cut_j43 N W v1 v2 v3 s) := by
  unfold x20_cut_j43
  refine x_aload_n (μ := mu_x20_cut) (pc := 43) 1 dX20_cut_43 rfl ?_
  refine x_aload_n (μ := mu_x20_cut) (pc := 44) 2 dX20_cut_44 rfl ?_
  refine x_if (fun hT18 => ?_)
  refine x_callV_mv (μ := mu_x20_cut) (pc := 45) (ok_x5_copy (ω := ω) (l := l) (d := d - 1) hl (by omega) ) gRel_E gRel_E (fun _ q => q) q1217 q1077 q1078 q225 q1079 dX20_cut_45 rfl hT18 hy_x5_copy (by omega) (Nat.le_of_ble_eq_true rfl) rfl (Nat.le_of_ble_eq_true rfl) (fun x19 k20 => ?_)
  refine x_goto (μ := mu_x20_cut) (pc := 48) (tgt := 91) dX20_cut_48 rfl ?_
  refine x_aload_n (μ := mu_x20_cut) (pc := 91) 0 dX20_cut_91 rfl ?_
  refine x_if (fun hT21 => ?_)
  refine x_callV_mv (μ := mu_x20_cut) (pc := 92) (ok_x3_give (ω := ω) (l := l) (d := d - 1) hl (by omega) ) gRel_E gRel_E (fun _ q => q) q1293 q1194 q1195 q223 q1196 dX20_cut_92 rfl hT21 hy_x3_give (by omega) (Nat.le_of_ble_eq_true rfl) rfl (Nat.le_of_ble_eq_true rfl) (fun x22 k23 => ?_)
  exact x_vret (μ := mu_x20_cut) (pc := 95) (a1 := x22) dX20_cut_95 rfl rfl (gRel_E.1 _) trivial
def x20_cut (N : Nat) (W : Nat → Nat → Nat → gMem → Option gMem) (v0 : Nat) (v1 : Nat) (v2 : Nat) (σ : gMem) : Option gMem := if mT σ v1 = 3 then (x3_take v1 σ).bind (fun x2 => if mT (x2.2) v0 = 18 then if mT (x2.2) (mR (x2.2) v0 1) = 108 then if 0 ≤ (1 : Int) ∧ (1 : Int) < (mN (x2.2) (mR (x2.2) v0 1) : Int) then (W (mR (x2.2) (mR (x2.2) v0 1) (1 : Int).toNat) v1 (x2.1) (x2.2)).bind (fun x6 => if mT x6 v2 = 5 then (x5_failed v2 x6).bind (fun x9 => if x9 ≠ 0 then (x3_give v1 x6).bind (fun x11 => some x11) else (x5_wantText N v2 x6).bind (fun x13 => if mT x13 (x2.1) = 5 then (x5_failed (x2.1) x13).bind (fun x16 => if x16 ≠ 0 then x20_cut_j43 N W v1 v2 (x2.1)  x13 else (x5_wantNumber (x2.1) x13).bind (fun x24 => if x24.1 ≠ 0 then if 0 ≤ gcmp (mL (x24.2) (x2.1) 2) (((0 : Fin 2) : Nat) : Int) then if mR (x24.2) v0 0 ≠ mR (x24.2) 0 11 then (x5_cut v2 (mL (x24.2) (x2.1) 2) 0 (x24.2)).bind (fun x29 => (x3_give v1 x29).bind (fun x31 => some x31)) else (x5_cut v2 (mL (x24.2) (x2.1) 2) 1 (x24.2)).bind (fun x33 => (x3_give v1 x33).bind (fun x35 => some x35)) else (x5_fail v2 3 (x24.2)).bind (fun x37 => (x3_give v1 x37).bind (fun x39 => some x39)) else x20_cut_j43 N W v1 v2 (x2.1)  (x24.2))) else none)) else none) else none else none else none) else none
set_option maxRecDepth 100000 in
theorem ok_x20_cut {ω : gW} {l : Launch} {d : Nat} {N : Nat} {W : Nat → Nat → Nat → gMem → Option gMem} {dW : Nat} {σ : gMem} {v0 : Nat} {v1 : Nat} {v2 : Nat} (hl : l.stackTraces = false) (hW : ∀ (a0 : Nat) (a1 : Nat) (a2 : Nat) (s : gMem), gKI (fun p : gMem => (.inl none, p)) gE ω l dW iy_Part_work none [vR a0, vR a1, vR a2] s (W a0 a1 a2 s)) (hdp : 7 ≤ d) (hdw : dW + 1 ≤ d) : gK (fun p : gMem => (.inl none, p)) gE ω l d mu_x20_cut [vR v0, vR v1, vR v2] σ (x20_cut N W v0 v1 v2 σ) := by
  refine gK.of hp_X20 (Nat.le_of_ble_eq_true rfl) ?_
  unfold x20_cut
  refine x_aload_n (μ := mu_x20_cut) (pc := 0) 1 dX20_cut_0 rfl ?_
  refine x_if (fun hT1 => ?_)
  refine x_callV_mr (μ := mu_x20_cut) (pc := 1) (ok_x3_take (ω := ω) (l := l) (d := d - 1) hl (by omega) ) gRel_E gRel_E (fun _ q => q) q1216 q1069 q1070 q223 q1071 dX20_cut_1 rfl hT1 hy_x3_take (by omega) (Nat.le_of_ble_eq_true rfl) rfl (Nat.le_of_ble_eq_true rfl) (fun x2 k3 => ?_)
  refine x_astore_n (μ := mu_x20_cut) (pc := 4) (lv' := [(3, vR (x2.1)), (0, vR v0), (1, vR v1), (2, vR v2)]) dX20_cut_4 rfl (by decide) rfl ?_
  refine x_aload_n (μ := mu_x20_cut) (pc := 5) 1 dX20_cut_5 rfl ?_
  refine x_if (fun hT4 => ?_)
  refine x_fgr (μ := mu_x20_cut) (pc := 6) fX20_1 (by first | exact Or.inl ⟨_, rfl⟩ | exact Or.inr ⟨_, rfl⟩) q2041 dX20_cut_6 hT4 ?_
  refine x_iconst (μ := mu_x20_cut) (pc := 9) dX20_cut_9 ?_
  refine x_if (fun hT5 => ?_)
  refine x_aald (μ := mu_x20_cut) (pc := 10) 8 (fun _ => rfl) rfl rfl dX20_cut_10 hT5 rfl ?_
  refine x_aload_n (μ := mu_x20_cut) (pc := 11) 2 dX20_cut_11 rfl ?_
  refine x_aload_n (μ := mu_x20_cut) (pc := 12) 0 dX20_cut_12 rfl ?_
  refine x_callF_mv (μ := mu_x20_cut) (pc := 13) (hW (mR (x2.2) (mR (x2.2) v0 1) (1 : Int).toNat) v1 (x2.1) (x2.2) ) gRel_E gRel_E (fun _ q => q) q995 dX20_cut_13 iy_Part_work_hy (by omega) rfl (Nat.le_of_ble_eq_true rfl) (fun x6 k7 => ?_)
  refine x_aload_n (μ := mu_x20_cut) (pc := 18) 3 dX20_cut_18 rfl ?_
  refine x_if (fun hT8 => ?_)
  refine x_callV_pi (μ := mu_x20_cut) (pc := 19) (ok_x5_failed (ω := ω) (l := l) (d := d - 1) hl (by omega) ) gRel_E gRel_E (fun _ q => q) q1200 q1073 q1074 q225 q1075 dX20_cut_19 rfl hT8 hy_x5_failed (by omega) (Nat.le_of_ble_eq_true rfl) rfl (Nat.le_of_ble_eq_true rfl) (fun x9 hr10 => ?_)
  refine x_if_ne (μ := mu_x20_cut) (pc := 22) (tgt := 91) dX20_cut_22 rfl hr10 ?_ ?_
  · refine x_aload_n (μ := mu_x20_cut) (pc := 91) 2 dX20_cut_91 rfl ?_
    refine x_callV_mv (μ := mu_x20_cut) (pc := 92) (ok_x3_give (ω := ω) (l := l) (d := d - 1) hl (by omega) ) gRel_E gRel_E (fun _ q => q) q1293 q1194 q1195 q223 q1196 dX20_cut_92 rfl (gT_E k7 (gT_E k3 hT1 (by decide)) (by decide)) hy_x3_give (by omega) (Nat.le_of_ble_eq_true rfl) rfl (Nat.le_of_ble_eq_true rfl) (fun x11 k12 => ?_)
    exact x_vret (μ := mu_x20_cut) (pc := 95) (a1 := x11) dX20_cut_95 rfl rfl (gRel_E.1 _) trivial
  · refine x_aload_n (μ := mu_x20_cut) (pc := 25) 3 dX20_cut_25 rfl ?_
    refine x_callV_mv (μ := mu_x20_cut) (pc := 26) (ok_x5_wantText (ω := ω) (l := l) (d := d - 1) hl (by omega) ) gRel_E gRel_E (fun _ q => q) q1314 q1111 q1112 q225 q1113 dX20_cut_26 rfl hT8 hy_x5_wantText (by omega) (Nat.le_of_ble_eq_true rfl) rfl (Nat.le_of_ble_eq_true rfl) (fun x13 k14 => ?_)
    refine x_aload_n (μ := mu_x20_cut) (pc := 29) 0 dX20_cut_29 rfl ?_
    refine x_if (fun hT15 => ?_)
    refine x_callV_pi (μ := mu_x20_cut) (pc := 30) (ok_x5_failed (ω := ω) (l := l) (d := d - 1) hl (by omega) ) gRel_E gRel_E (fun _ q => q) q1200 q1073 q1074 q225 q1075 dX20_cut_30 rfl hT15 hy_x5_failed (by omega) (Nat.le_of_ble_eq_true rfl) rfl (Nat.le_of_ble_eq_true rfl) (fun x16 hr17 => ?_)
    refine x_if_ne (μ := mu_x20_cut) (pc := 33) (tgt := 43) dX20_cut_33 rfl hr17 ?_ ?_
    · refine x_loc (lv' := [(1, vR v1), (2, vR v2), (3, vR (x2.1))]) [2, 3, 0] rfl ?_
      exact okj_x20_cut_j43 hl hW hdp hdw
    · refine x_aload_n (μ := mu_x20_cut) (pc := 36) 0 dX20_cut_36 rfl ?_
      refine x_callV_mi (μ := mu_x20_cut) (pc := 37) (ok_x5_wantNumber (ω := ω) (l := l) (d := d - 1) hl (by omega) ) gRel_E gRel_E (fun _ q => q) q1263 q1179 q1180 q225 q1181 dX20_cut_37 rfl hT15 hy_x5_wantNumber (by omega) (Nat.le_of_ble_eq_true rfl) rfl (Nat.le_of_ble_eq_true rfl) (fun x24 k26 hr25 => ?_)
      refine x_if_ne (μ := mu_x20_cut) (pc := 40) (tgt := 51) dX20_cut_40 rfl hr25 ?_ ?_
      · refine x_aload_n (μ := mu_x20_cut) (pc := 51) 0 dX20_cut_51 rfl ?_
        refine x_fglN (μ := mu_x20_cut) (pc := 52) fX5_2 q383 dX20_cut_52 (gT_E k26 hT15 (by decide)) (fun hr27 => ?_)
        refine x_lconst (μ := mu_x20_cut) (pc := 55) dX20_cut_55 ?_
        refine x_lcmp (μ := mu_x20_cut) (pc := 56) dX20_cut_56 hr27 (by decide) ?_
        refine x_if_ge (μ := mu_x20_cut) (pc := 57) (tgt := 68) dX20_cut_57 rfl (gcmp_rng _ _) ?_ ?_
        · refine x_aload_n (μ := mu_x20_cut) (pc := 68) 3 dX20_cut_68 rfl ?_
          refine x_aload_n (μ := mu_x20_cut) (pc := 69) 0 dX20_cut_69 rfl ?_
          refine x_fglN (μ := mu_x20_cut) (pc := 70) fX5_2 q383 dX20_cut_70 (gT_E k26 hT15 (by decide)) (fun hr28 => ?_)
          refine x_aload_n (μ := mu_x20_cut) (pc := 73) 1 dX20_cut_73 rfl ?_
          refine x_fgr (μ := mu_x20_cut) (pc := 74) fX20_0 (by first | exact Or.inl ⟨_, rfl⟩ | exact Or.inr ⟨_, rfl⟩) q2040 dX20_cut_74 (gT_E k26 (gT_E k14 (gT_E k7 hT4 (by decide)) (by decide)) (by decide)) ?_
          refine x_gst (μ := mu_x20_cut) (pc := 77) (j := 11) (List.mem_of_getElem? (i := 11) rfl) q1308 dX20_cut_77 ?_
          refine x_acmp_ne (μ := mu_x20_cut) (pc := 80) (tgt := 87) dX20_cut_80 rfl ?_ ?_
          · refine x_iconst (μ := mu_x20_cut) (pc := 87) dX20_cut_87 ?_
            refine x_callV_mv (μ := mu_x20_cut) (pc := 88) (ok_x5_cut (ω := ω) (l := l) (d := d - 1) hl (by omega) hr28 (by decide)) gRel_E gRel_E (fun _ q => q) q1315 q1316 q1317 q225 q1318 dX20_cut_88 rfl (gT_E k26 (gT_E k14 hT8 (by decide)) (by decide)) hy_x5_cut (by omega) (Nat.le_of_ble_eq_true rfl) rfl (Nat.le_of_ble_eq_true rfl) (fun x29 k30 => ?_)
            refine x_aload_n (μ := mu_x20_cut) (pc := 91) 2 dX20_cut_91 rfl ?_
            refine x_callV_mv (μ := mu_x20_cut) (pc := 92) (ok_x3_give (ω := ω) (l := l) (d := d - 1) hl (by omega) ) gRel_E gRel_E (fun _ q => q) q1293 q1194 q1195 q223 q1196 dX20_cut_92 rfl (gT_E k30 (gT_E k26 (gT_E k14 (gT_E k7 (gT_E k3 hT1 (by decide)) (by decide)) (by decide)) (by decide)) (by decide)) hy_x3_give (by omega) (Nat.le_of_ble_eq_true rfl) rfl (Nat.le_of_ble_eq_true rfl) (fun x31 k32 => ?_)
            exact x_vret (μ := mu_x20_cut) (pc := 95) (a1 := x31) dX20_cut_95 rfl rfl (gRel_E.1 _) trivial
          · refine x_iconst (μ := mu_x20_cut) (pc := 83) dX20_cut_83 ?_
            refine x_goto (μ := mu_x20_cut) (pc := 84) (tgt := 88) dX20_cut_84 rfl ?_
            refine x_callV_mv (μ := mu_x20_cut) (pc := 88) (ok_x5_cut (ω := ω) (l := l) (d := d - 1) hl (by omega) hr28 (by decide)) gRel_E gRel_E (fun _ q => q) q1315 q1316 q1317 q225 q1318 dX20_cut_88 rfl (gT_E k26 (gT_E k14 hT8 (by decide)) (by decide)) hy_x5_cut (by omega) (Nat.le_of_ble_eq_true rfl) rfl (Nat.le_of_ble_eq_true rfl) (fun x33 k34 => ?_)
            refine x_aload_n (μ := mu_x20_cut) (pc := 91) 2 dX20_cut_91 rfl ?_
            refine x_callV_mv (μ := mu_x20_cut) (pc := 92) (ok_x3_give (ω := ω) (l := l) (d := d - 1) hl (by omega) ) gRel_E gRel_E (fun _ q => q) q1293 q1194 q1195 q223 q1196 dX20_cut_92 rfl (gT_E k34 (gT_E k26 (gT_E k14 (gT_E k7 (gT_E k3 hT1 (by decide)) (by decide)) (by decide)) (by decide)) (by decide)) hy_x3_give (by omega) (Nat.le_of_ble_eq_true rfl) rfl (Nat.le_of_ble_eq_true rfl) (fun x35 k36 => ?_)
            exact x_vret (μ := mu_x20_cut) (pc := 95) (a1 := x35) dX20_cut_95 rfl rfl (gRel_E.1 _) trivial
        · refine x_aload_n (μ := mu_x20_cut) (pc := 60) 3 dX20_cut_60 rfl ?_
          refine x_iconst (μ := mu_x20_cut) (pc := 61) dX20_cut_61 ?_
          refine x_callV_mv (μ := mu_x20_cut) (pc := 62) (ok_x5_fail (ω := ω) (l := l) (d := d - 1) hl (by omega) (by decide)) gRel_E gRel_E (fun _ q => q) q1262 q969 q970 q225 q971 dX20_cut_62 rfl (gT_E k26 (gT_E k14 hT8 (by decide)) (by decide)) hy_x5_fail (by omega) (Nat.le_of_ble_eq_true rfl) rfl (Nat.le_of_ble_eq_true rfl) (fun x37 k38 => ?_)
          refine x_goto (μ := mu_x20_cut) (pc := 65) (tgt := 91) dX20_cut_65 rfl ?_
          refine x_aload_n (μ := mu_x20_cut) (pc := 91) 2 dX20_cut_91 rfl ?_
          refine x_callV_mv (μ := mu_x20_cut) (pc := 92) (ok_x3_give (ω := ω) (l := l) (d := d - 1) hl (by omega) ) gRel_E gRel_E (fun _ q => q) q1293 q1194 q1195 q223 q1196 dX20_cut_92 rfl (gT_E k38 (gT_E k26 (gT_E k14 (gT_E k7 (gT_E k3 hT1 (by decide)) (by decide)) (by decide)) (by decide)) (by decide)) hy_x3_give (by omega) (Nat.le_of_ble_eq_true rfl) rfl (Nat.le_of_ble_eq_true rfl) (fun x39 k40 => ?_)
          exact x_vret (μ := mu_x20_cut) (pc := 95) (a1 := x39) dX20_cut_95 rfl rfl (gRel_E.1 _) trivial
      · refine x_loc (lv' := [(1, vR v1), (2, vR v2), (3, vR (x2.1))]) [2, 3, 0] rfl ?_
        exact okj_x20_cut_j43 hl hW hdp hdw
def x20_one (N : Nat) (v0 : Nat) (v1 : Nat) (σ : gMem) : Option gMem := if mT σ v0 = 18 then if mR σ v0 0 ≠ mR σ 0 3 then if mR σ v0 0 ≠ mR σ 0 4 then if mT σ v1 = 5 then (x5_wantText N v1 σ).bind (fun x3 => (x5_be v1 (mI x3 v1 1) x3).bind (fun x6 => some x6)) else none else if mT σ v1 = 5 then (x5_wantNumber v1 σ).bind (fun x9 => if x9.1 = 0 then some (x9.2) else (x5_be v1 (w64 (if 0 < (mL (x9.2) v1 2) then (mL (x9.2) v1 2) else -(mL (x9.2) v1 2))) (x9.2)).bind (fun x13 => some x13)) else none else if mT σ v1 = 5 then (x5_wantTruth v1 σ).bind (fun x16 => if x16.1 = 0 then some (x16.2) else if gcmp (mL (x16.2) v1 2) (((0 : Fin 2) : Nat) : Int) ≠ 0 then (x5_is v1 0 (x16.2)).bind (fun x20 => some x20) else (x5_is v1 1 (x16.2)).bind (fun x22 => some x22)) else none else none
set_option maxRecDepth 100000 in
theorem ok_x20_one {ω : gW} {l : Launch} {d : Nat} {N : Nat} {σ : gMem} {v0 : Nat} {v1 : Nat} (hl : l.stackTraces = false) (hdp : 7 ≤ d) : gK (fun p : gMem => (.inl none, p)) gE ω l d mu_x20_one [vR v0, vR v1] σ (x20_one N v0 v1 σ) := by
  refine gK.of hp_X20 (Nat.le_of_ble_eq_true rfl) ?_
  unfold x20_one
  refine x_aload_n (μ := mu_x20_one) (pc := 0) 0 dX20_one_0 rfl ?_
  refine x_if (fun hT1 => ?_)
  refine x_fgr (μ := mu_x20_one) (pc := 1) fX20_0 (by first | exact Or.inl ⟨_, rfl⟩ | exact Or.inr ⟨_, rfl⟩) q2040 dX20_one_1 hT1 ?_
  refine x_gst (μ := mu_x20_one) (pc := 4) (j := 3) (List.mem_of_getElem? (i := 3) rfl) q1324 dX20_one_4 ?_
  refine x_acmp_ne (μ := mu_x20_one) (pc := 7) (tgt := 38) dX20_one_7 rfl ?_ ?_
  · refine x_aload_n (μ := mu_x20_one) (pc := 38) 0 dX20_one_38 rfl ?_
    refine x_fgr (μ := mu_x20_one) (pc := 39) fX20_0 (by first | exact Or.inl ⟨_, rfl⟩ | exact Or.inr ⟨_, rfl⟩) q2040 dX20_one_39 hT1 ?_
    refine x_gst (μ := mu_x20_one) (pc := 42) (j := 4) (List.mem_of_getElem? (i := 4) rfl) q1326 dX20_one_42 ?_
    refine x_acmp_ne (μ := mu_x20_one) (pc := 45) (tgt := 69) dX20_one_45 rfl ?_ ?_
    · refine x_aload_n (μ := mu_x20_one) (pc := 69) 1 dX20_one_69 rfl ?_
      refine x_if (fun hT2 => ?_)
      refine x_callV_mv (μ := mu_x20_one) (pc := 70) (ok_x5_wantText (ω := ω) (l := l) (d := d - 1) hl (by omega) ) gRel_E gRel_E (fun _ q => q) q1314 q1111 q1112 q225 q1113 dX20_one_70 rfl hT2 hy_x5_wantText (by omega) (Nat.le_of_ble_eq_true rfl) rfl (Nat.le_of_ble_eq_true rfl) (fun x3 k4 => ?_)
      refine x_aload_n (μ := mu_x20_one) (pc := 73) 1 dX20_one_73 rfl ?_
      refine x_aload_n (μ := mu_x20_one) (pc := 74) 1 dX20_one_74 rfl ?_
      refine x_fgiN (μ := mu_x20_one) (pc := 75) fX5_1 q378 dX20_one_75 (gT_E k4 hT2 (by decide)) (fun hr5 => ?_)
      refine x_i2l (μ := mu_x20_one) (pc := 78) dX20_one_78 hr5 ?_
      refine x_callV_mv (μ := mu_x20_one) (pc := 79) (ok_x5_be (ω := ω) (l := l) (d := d - 1) hl (by omega) (g32_64 hr5)) gRel_E gRel_E (fun _ q => q) q1266 q1052 q1053 q225 q1054 dX20_one_79 rfl (gT_E k4 hT2 (by decide)) hy_x5_be (by omega) (Nat.le_of_ble_eq_true rfl) rfl (Nat.le_of_ble_eq_true rfl) (fun x6 k7 => ?_)
      exact x_vret (μ := mu_x20_one) (pc := 82) (a1 := x6) dX20_one_82 rfl rfl (gRel_E.1 _) trivial
    · refine x_aload_n (μ := mu_x20_one) (pc := 48) 1 dX20_one_48 rfl ?_
      refine x_if (fun hT8 => ?_)
      refine x_callV_mi (μ := mu_x20_one) (pc := 49) (ok_x5_wantNumber (ω := ω) (l := l) (d := d - 1) hl (by omega) ) gRel_E gRel_E (fun _ q => q) q1263 q1179 q1180 q225 q1181 dX20_one_49 rfl hT8 hy_x5_wantNumber (by omega) (Nat.le_of_ble_eq_true rfl) rfl (Nat.le_of_ble_eq_true rfl) (fun x9 k11 hr10 => ?_)
      refine x_if_eq (μ := mu_x20_one) (pc := 52) (tgt := 82) dX20_one_52 rfl hr10 ?_ ?_
      · exact x_vret (μ := mu_x20_one) (pc := 82) (a1 := x9.2) dX20_one_82 rfl rfl (gRel_E.1 _) trivial
      · refine x_aload_n (μ := mu_x20_one) (pc := 55) 1 dX20_one_55 rfl ?_
        refine x_aload_n (μ := mu_x20_one) (pc := 56) 1 dX20_one_56 rfl ?_
        refine x_fglN (μ := mu_x20_one) (pc := 57) fX5_2 q383 dX20_one_57 (gT_E k11 hT8 (by decide)) (fun hr12 => ?_)
        refine x_mabs_long (μ := mu_x20_one) (pc := 60) q1328 dX20_one_60 hr12 (by omega) (Nat.le_of_ble_eq_true rfl) ?_
        refine x_W1 ?_
        refine x_callV_mv (μ := mu_x20_one) (pc := 63) (ok_x5_be (ω := ω) (l := l) (d := d - 1) hl (by omega) (w64_rng _)) gRel_E gRel_E (fun _ q => q) q1266 q1052 q1053 q225 q1054 dX20_one_63 rfl (gT_E k11 hT8 (by decide)) hy_x5_be (by omega) (Nat.le_of_ble_eq_true rfl) rfl (Nat.le_of_ble_eq_true rfl) (fun x13 k14 => ?_)
        refine x_goto (μ := mu_x20_one) (pc := 66) (tgt := 82) dX20_one_66 rfl ?_
        exact x_vret (μ := mu_x20_one) (pc := 82) (a1 := x13) dX20_one_82 rfl rfl (gRel_E.1 _) trivial
  · refine x_aload_n (μ := mu_x20_one) (pc := 10) 1 dX20_one_10 rfl ?_
    refine x_if (fun hT15 => ?_)
    refine x_callV_mi (μ := mu_x20_one) (pc := 11) (ok_x5_wantTruth (ω := ω) (l := l) (d := d - 1) hl (by omega) ) gRel_E gRel_E (fun _ q => q) q1201 q1202 q1203 q225 q1204 dX20_one_11 rfl hT15 hy_x5_wantTruth (by omega) (Nat.le_of_ble_eq_true rfl) rfl (Nat.le_of_ble_eq_true rfl) (fun x16 k18 hr17 => ?_)
    refine x_if_eq (μ := mu_x20_one) (pc := 14) (tgt := 82) dX20_one_14 rfl hr17 ?_ ?_
    · exact x_vret (μ := mu_x20_one) (pc := 82) (a1 := x16.2) dX20_one_82 rfl rfl (gRel_E.1 _) trivial
    · refine x_aload_n (μ := mu_x20_one) (pc := 17) 1 dX20_one_17 rfl ?_
      refine x_aload_n (μ := mu_x20_one) (pc := 18) 1 dX20_one_18 rfl ?_
      refine x_fglN (μ := mu_x20_one) (pc := 19) fX5_2 q383 dX20_one_19 (gT_E k18 hT15 (by decide)) (fun hr19 => ?_)
      refine x_lconst (μ := mu_x20_one) (pc := 22) dX20_one_22 ?_
      refine x_lcmp (μ := mu_x20_one) (pc := 23) dX20_one_23 hr19 (by decide) ?_
      refine x_if_ne (μ := mu_x20_one) (pc := 24) (tgt := 31) dX20_one_24 rfl (gcmp_rng _ _) ?_ ?_
      · refine x_iconst (μ := mu_x20_one) (pc := 31) dX20_one_31 ?_
        refine x_callV_mv (μ := mu_x20_one) (pc := 32) (ok_x5_is (ω := ω) (l := l) (d := d - 1) hl (by omega) (by decide)) gRel_E gRel_E (fun _ q => q) q1235 q1036 q1037 q225 q1038 dX20_one_32 rfl (gT_E k18 hT15 (by decide)) hy_x5_is (by omega) (Nat.le_of_ble_eq_true rfl) rfl (Nat.le_of_ble_eq_true rfl) (fun x20 k21 => ?_)
        refine x_goto (μ := mu_x20_one) (pc := 35) (tgt := 82) dX20_one_35 rfl ?_
        exact x_vret (μ := mu_x20_one) (pc := 82) (a1 := x20) dX20_one_82 rfl rfl (gRel_E.1 _) trivial
      · refine x_iconst (μ := mu_x20_one) (pc := 27) dX20_one_27 ?_
        refine x_goto (μ := mu_x20_one) (pc := 28) (tgt := 32) dX20_one_28 rfl ?_
        refine x_callV_mv (μ := mu_x20_one) (pc := 32) (ok_x5_is (ω := ω) (l := l) (d := d - 1) hl (by omega) (by decide)) gRel_E gRel_E (fun _ q => q) q1235 q1036 q1037 q225 q1038 dX20_one_32 rfl (gT_E k18 hT15 (by decide)) hy_x5_is (by omega) (Nat.le_of_ble_eq_true rfl) rfl (Nat.le_of_ble_eq_true rfl) (fun x22 k23 => ?_)
        refine x_goto (μ := mu_x20_one) (pc := 35) (tgt := 82) dX20_one_35 rfl ?_
        exact x_vret (μ := mu_x20_one) (pc := 82) (a1 := x22) dX20_one_82 rfl rfl (gRel_E.1 _) trivial
def x23_isAlike (N : Nat) (v0 : Nat) (v1 : Nat) (σ : gMem) : Option Int := if v1 = 0 ∨ gNode (mT σ v1) = true then if mT σ v1 = 21 then if mT σ v0 = 21 then if v1 = 0 ∨ mT σ v1 = 21 then if mT σ v1 = 21 then (dp_Part_same N 64 (mR σ v0 0) (mR σ v1 0) σ).bind (fun x5 => if x5 = 0 then some 0 else some 1) else none else none else none else some 0 else none
set_option maxRecDepth 100000 in
theorem ok_x23_isAlike {ω : gW} {l : Launch} {d : Nat} {N : Nat} {σ : gMem} {v0 : Nat} {v1 : Nat} (hl : l.stackTraces = false) (hdp : 66 ≤ d) : gK (fun x : Int => (.inl (some (vI x)), σ)) gE ω l d mu_x23_isAlike [vR v0, vR v1] σ (x23_isAlike N v0 v1 σ) := by
  refine gK.of hp_X23 (Nat.le_of_ble_eq_true rfl) ?_
  unfold x23_isAlike
  refine x_aload_n (μ := mu_x23_isAlike) (pc := 0) 1 dX23_isAlike_0 rfl ?_
  refine x_if (fun hg1 => ?_)
  refine x_inst (μ := mu_x23_isAlike) (pc := 1) (ci := 20) (by decide) rfl q1583 dX23_isAlike_1 hg1 ?_ ?_
  · refine x_if_eqF (μ := mu_x23_isAlike) (pc := 4) (tgt := 30) dX23_isAlike_4 rfl (by decide) (by decide) ?_
    refine x_aload_n (μ := mu_x23_isAlike) (pc := 7) 0 dX23_isAlike_7 rfl ?_
    refine x_if (fun hT2 => ?_)
    refine x_fgr (μ := mu_x23_isAlike) (pc := 8) fX23_0 (by first | exact Or.inl ⟨_, rfl⟩ | exact Or.inr ⟨_, rfl⟩) q2107 dX23_isAlike_8 hT2 ?_
    refine x_aload_n (μ := mu_x23_isAlike) (pc := 11) 1 dX23_isAlike_11 rfl ?_
    refine x_if (fun hg3 => ?_)
    refine x_castC (μ := mu_x23_isAlike) (pc := 12) (ci := 20) rfl q1583 dX23_isAlike_12 hg3 ?_
    refine x_if (fun hT4 => ?_)
    refine x_fgr (μ := mu_x23_isAlike) (pc := 15) fX23_0 (by first | exact Or.inl ⟨_, rfl⟩ | exact Or.inr ⟨_, rfl⟩) q2107 dX23_isAlike_15 hT4 ?_
    refine x_callF_pi (μ := mu_x23_isAlike) (pc := 18) (ok_dp_Part_same (ω := ω) (l := l) (d := d - 1) hl 64 (mR σ v0 0) (mR σ v1 0) σ (by omega)) gRel_E gRel_E (fun _ q => q) q1585 dX23_isAlike_18 iy_Part_same_hy (by omega) rfl (Nat.le_of_ble_eq_true rfl) (fun x5 hr6 => ?_)
    refine x_if_eq (μ := mu_x23_isAlike) (pc := 23) (tgt := 30) dX23_isAlike_23 rfl hr6 ?_ ?_
    · refine x_iconst (μ := mu_x23_isAlike) (pc := 30) dX23_isAlike_30 ?_
      exact x_zret (μ := mu_x23_isAlike) (pc := 31) dX23_isAlike_31 rfl (by decide) rfl (gRel_E.1 _) (show g32 0 from (by decide))
    · refine x_iconst (μ := mu_x23_isAlike) (pc := 26) dX23_isAlike_26 ?_
      refine x_goto (μ := mu_x23_isAlike) (pc := 27) (tgt := 31) dX23_isAlike_27 rfl ?_
      exact x_zret (μ := mu_x23_isAlike) (pc := 31) dX23_isAlike_31 rfl (by decide) rfl (gRel_E.1 _) (show g32 1 from (by decide))
  · refine x_if_eqT (μ := mu_x23_isAlike) (pc := 4) (tgt := 30) dX23_isAlike_4 rfl (by decide) (by decide) ?_
    refine x_iconst (μ := mu_x23_isAlike) (pc := 30) dX23_isAlike_30 ?_
    exact x_zret (μ := mu_x23_isAlike) (pc := 31) dX23_isAlike_31 rfl (by decide) rfl (gRel_E.1 _) (show g32 0 from (by decide))
def x25_isInOrder_l14_j73 (N : Nat) (σ : gMem) (v0 : Nat) (v1 : Int) (v2 : Nat) (v3 : Int) (v4 : Int) (Kh : Int → Int → Option Int) (K : Option Int) : Option Int := Kh v3 (w32 (v4 + 1))
set_option maxRecDepth 100000 in
theorem okj_x25_isInOrder_l14_j73 {ω : gW} {l : Launch} {d : Nat} {N : Nat} {σ : gMem} {v0 : Nat} {v1 : Int} {v2 : Nat} {v3 : Int} {v4 : Int} {Kh : Int → Int → Option Int} {K : Option Int} (hl : l.stackTraces = false) (hdp : 2 ≤ d) (hv1 : g32 v1) (hv3 : g32 v3) (hv4 : g32 v4) (hKh : ∀ (v3 : Int) (v4 : Int) , g32 v3 → g32 v4 → GG (fun x : Int => (.inl (some (vI x)), σ)) gE ω l d mu_x25_isInOrder σ 14 [(0, vR v0), (1, vI v1), (2, vR v2), (3, vI v3), (4, vI v4)] [] σ (Kh v3 v4)) (hK : GG (fun x : Int => (.inl (some (vI x)), σ)) gE ω l d mu_x25_isInOrder σ 79 [] [] σ (K)) : GG (fun x : Int => (.inl (some (vI x)), σ)) gE ω l d mu_x25_isInOrder σ 73 [(0, vR v0), (1, vI v1), (2, vR v2), (3, vI v3), (4, vI v4)] [] σ (x25_isInOrder_l14_j73 N σ v0 v1 v2 v3 v4 Kh K ) := by
  unfold x25_isInOrder_l14_j73
  refine x_iincw (μ := mu_x25_isInOrder) (pc := 73) (lv' := [(4, vI (w32 (v4 + 1))), (0, vR v0), (1, vI v1), (2, vR v2), (3, vI v3)]) 4 dX25_isInOrder_73 rfl (by decide) rfl ?_
  refine x_goto (μ := mu_x25_isInOrder) (pc := 76) (tgt := 14) dX25_isInOrder_76 rfl ?_
  refine x_loc (lv' := [(0, vR v0), (1, vI v1), (2, vR v2), (3, vI v3), (4, vI (w32 (v4 + 1)))]) [1, 2, 3, 4, 0] rfl ?_
  exact hKh v3 (w32 (v4 + 1)) hv3 (w32_rng _)
def x25_isInOrder_l14 (N : Nat) (σ : gMem) (v0 : Nat) (v1 : Int) (v2 : Nat) (K : Option Int) : Nat → Int → Int → Option Int
  | 0, _, _ => none
  | n + 1, v3, v4 => if mT σ v2 = 100 then if w32 (mN σ v2 : Int) ≤ v4 then K else if mT σ v0 = 23 then if mT σ (mR σ v0 0) = 8 then (x9_marks (mR σ v0 0) v1 σ).bind (fun x7 => if 0 ≤ v4 ∧ v4 < (mN σ v2 : Int) then (x9_placeOf N x7 (mI σ v2 v4.toNat) σ).bind (fun x9 => if x9 = (-1) then x25_isInOrder_l14_j73 N σ v0 v1 v2 v3 v4  (x25_isInOrder_l14 N σ v0 v1 v2 K n) K else if 0 ≤ v4 ∧ v4 < (mN σ v2 : Int) then (x25_has N (mR σ v0 2) v1 (mI σ v2 v4.toNat) σ).bind (fun x12 => if x12 ≠ 0 then if v3 ≤ x9 then x25_isInOrder_l14_j73 N σ v0 v1 v2 x9 v4  (x25_isInOrder_l14 N σ v0 v1 v2 K n) K else some 0 else x25_isInOrder_l14_j73 N σ v0 v1 v2 v3 v4  (x25_isInOrder_l14 N σ v0 v1 v2 K n) K) else none) else none) else none else none else none
set_option maxRecDepth 100000 in
theorem okl_x25_isInOrder_l14 {ω : gW} {l : Launch} {d : Nat} {N : Nat} {σ : gMem} {v0 : Nat} {v1 : Int} {v2 : Nat} {K : Option Int} (hl : l.stackTraces = false) (hdp : 2 ≤ d) (hv1 : g32 v1) (hK : GG (fun x : Int => (.inl (some (vI x)), σ)) gE ω l d mu_x25_isInOrder σ 79 [] [] σ (K)) : ∀ (n : Nat) (v3 : Int) (v4 : Int) , g32 v3 → g32 v4 → GG (fun x : Int => (.inl (some (vI x)), σ)) gE ω l d mu_x25_isInOrder σ 14 [(0, vR v0), (1, vI v1), (2, vR v2), (3, vI v3), (4, vI v4)] [] σ (x25_isInOrder_l14 N σ v0 v1 v2 K n v3 v4) := by
  intro n
  induction n with
  | zero => intros; exact x_none
  | succ n ih =>
    intro v3 v4 hv3 hv4
    unfold x25_isInOrder_l14
    refine x_iload (μ := mu_x25_isInOrder) (pc := 14) 4 dX25_isInOrder_14 rfl ?_
    refine x_aload_n (μ := mu_x25_isInOrder) (pc := 16) 2 dX25_isInOrder_16 rfl ?_
    refine x_if (fun hT4 => ?_)
    refine x_len (μ := mu_x25_isInOrder) (pc := 17) 0 (fun _ => rfl) dX25_isInOrder_17 hT4 ?_
    refine x_w1 ?_
    refine x_icmp_ge (μ := mu_x25_isInOrder) (pc := 18) (tgt := 79) dX25_isInOrder_18 rfl hv4 (w32_rng _) ?_ ?_
    · refine x_loc (lv' := []) [] rfl ?_
      exact hK
    · refine x_aload_n (μ := mu_x25_isInOrder) (pc := 21) 0 dX25_isInOrder_21 rfl ?_
      refine x_if (fun hT5 => ?_)
      refine x_fgr (μ := mu_x25_isInOrder) (pc := 22) fX25_0 (by first | exact Or.inl ⟨_, rfl⟩ | exact Or.inr ⟨_, rfl⟩) q2470 dX25_isInOrder_22 hT5 ?_
      refine x_iload_n (μ := mu_x25_isInOrder) (pc := 25) 1 dX25_isInOrder_25 rfl ?_
      refine x_if (fun hT6 => ?_)
      refine x_callV_pr (μ := mu_x25_isInOrder) (pc := 26) (ok_x9_marks (ω := ω) (l := l) (d := d - 1) hl (by omega) hv1) gRel_E gRel_E (fun _ q => q) q2504 q2204 q2205 q230 q2206 dX25_isInOrder_26 rfl hT6 hy_x9_marks (by omega) (Nat.le_of_ble_eq_true rfl) rfl (Nat.le_of_ble_eq_true rfl) (fun x7 => ?_)
      refine x_aload_n (μ := mu_x25_isInOrder) (pc := 29) 2 dX25_isInOrder_29 rfl ?_
      refine x_iload (μ := mu_x25_isInOrder) (pc := 30) 4 dX25_isInOrder_30 rfl ?_
      refine x_iald (μ := mu_x25_isInOrder) (pc := 32) dX25_isInOrder_32 hT4 rfl (fun hr8 => ?_)
      refine x_callSN_pi (μ := mu_x25_isInOrder) (pc := 33) (ok_x9_placeOf (ω := ω) (l := l) (d := d - 1) hl (by omega) hr8) gRel_E gRel_E (fun _ q => q) q2505 q783 q230 q784 dX25_isInOrder_33 hy_x9_placeOf (by omega) (Nat.le_of_ble_eq_true rfl) rfl (Nat.le_of_ble_eq_true rfl) (fun x9 hr10 => ?_)
      refine x_istore (μ := mu_x25_isInOrder) (pc := 36) (lv' := [(5, vI x9), (0, vR v0), (1, vI v1), (2, vR v2), (3, vI v3), (4, vI v4)]) dX25_isInOrder_36 (by decide) rfl ?_
      refine x_iload (μ := mu_x25_isInOrder) (pc := 38) 0 dX25_isInOrder_38 rfl ?_
      refine x_iconst (μ := mu_x25_isInOrder) (pc := 40) dX25_isInOrder_40 ?_
      refine x_icmp_eq (μ := mu_x25_isInOrder) (pc := 41) (tgt := 73) dX25_isInOrder_41 rfl hr10 (by decide) ?_ ?_
      · refine x_loc (lv' := [(0, vR v0), (1, vI v1), (2, vR v2), (3, vI v3), (4, vI v4)]) [1, 2, 3, 4, 5] rfl ?_
        exact okj_x25_isInOrder_l14_j73 hl hdp hv1 hv3 hv4 ih hK
      · refine x_aload_n (μ := mu_x25_isInOrder) (pc := 44) 1 dX25_isInOrder_44 rfl ?_
        refine x_fgr (μ := mu_x25_isInOrder) (pc := 45) fX25_2 (by first | exact Or.inl ⟨_, rfl⟩ | exact Or.inr ⟨_, rfl⟩) q2472 dX25_isInOrder_45 hT5 ?_
        refine x_iload_n (μ := mu_x25_isInOrder) (pc := 48) 2 dX25_isInOrder_48 rfl ?_
        refine x_aload_n (μ := mu_x25_isInOrder) (pc := 49) 3 dX25_isInOrder_49 rfl ?_
        refine x_iload (μ := mu_x25_isInOrder) (pc := 50) 5 dX25_isInOrder_50 rfl ?_
        refine x_iald (μ := mu_x25_isInOrder) (pc := 52) dX25_isInOrder_52 hT4 rfl (fun hr11 => ?_)
        refine x_callS_pi (μ := mu_x25_isInOrder) (pc := 53) (ok_x25_has (ω := ω) (l := l) (d := d - 1) hl (by omega) hv1 hr11) gRel_E gRel_E (fun _ q => q) q2506 q2507 q266 q2508 dX25_isInOrder_53 hy_x25_has (by omega) (Nat.le_of_ble_eq_true rfl) rfl (Nat.le_of_ble_eq_true rfl) (fun x12 hr13 => ?_)
        refine x_if_ne (μ := mu_x25_isInOrder) (pc := 56) (tgt := 62) dX25_isInOrder_56 rfl hr13 ?_ ?_
        · refine x_iload (μ := mu_x25_isInOrder) (pc := 62) 0 dX25_isInOrder_62 rfl ?_
          refine x_iload_n (μ := mu_x25_isInOrder) (pc := 64) 4 dX25_isInOrder_64 rfl ?_
          refine x_icmp_ge (μ := mu_x25_isInOrder) (pc := 65) (tgt := 70) dX25_isInOrder_65 rfl hr10 hv3 ?_ ?_
          · refine x_iload (μ := mu_x25_isInOrder) (pc := 70) 0 dX25_isInOrder_70 rfl ?_
            refine x_istore_n (μ := mu_x25_isInOrder) (pc := 72) (lv' := [(3, vI x9), (5, vI x9), (0, vR v0), (1, vI v1), (2, vR v2), (4, vI v4)]) dX25_isInOrder_72 rfl (by decide) rfl ?_
            refine x_loc (lv' := [(0, vR v0), (1, vI v1), (2, vR v2), (3, vI x9), (4, vI v4)]) [2, 3, 4, 0, 5] rfl ?_
            exact okj_x25_isInOrder_l14_j73 hl hdp hv1 hr10 hv4 ih hK
          · refine x_iconst (μ := mu_x25_isInOrder) (pc := 68) dX25_isInOrder_68 ?_
            exact x_zret (μ := mu_x25_isInOrder) (pc := 69) dX25_isInOrder_69 rfl (by decide) rfl (gRel_E.1 _) (show g32 0 from (by decide))
        · refine x_goto (μ := mu_x25_isInOrder) (pc := 59) (tgt := 73) dX25_isInOrder_59 rfl ?_
          refine x_loc (lv' := [(0, vR v0), (1, vI v1), (2, vR v2), (3, vI v3), (4, vI v4)]) [1, 2, 3, 4, 5] rfl ?_
          exact okj_x25_isInOrder_l14_j73 hl hdp hv1 hv3 hv4 ih hK
def x25_isInOrder (N : Nat) (v0 : Nat) (v1 : Int) (σ : gMem) : Option Int := if mT σ v0 = 23 then if mT σ (mR σ v0 1) = 8 then (x9_marks (mR σ v0 1) v1 σ).bind (fun x3 => x25_isInOrder_l14 N σ v0 v1 x3 (some 1) N (-1) 0) else none else none
set_option maxRecDepth 100000 in
theorem ok_x25_isInOrder {ω : gW} {l : Launch} {d : Nat} {N : Nat} {σ : gMem} {v0 : Nat} {v1 : Int} (hl : l.stackTraces = false) (hdp : 2 ≤ d) (hv1 : g32 v1) : gK (fun x : Int => (.inl (some (vI x)), σ)) gE ω l d mu_x25_isInOrder [vR v0, vI v1] σ (x25_isInOrder N v0 v1 σ) := by
  refine gK.of hp_X25 (Nat.le_of_ble_eq_true rfl) ?_
  unfold x25_isInOrder
  refine x_aload_n (μ := mu_x25_isInOrder) (pc := 0) 0 dX25_isInOrder_0 rfl ?_
  refine x_if (fun hT1 => ?_)
  refine x_fgr (μ := mu_x25_isInOrder) (pc := 1) fX25_1 (by first | exact Or.inl ⟨_, rfl⟩ | exact Or.inr ⟨_, rfl⟩) q2471 dX25_isInOrder_1 hT1 ?_
  refine x_iload_n (μ := mu_x25_isInOrder) (pc := 4) 1 dX25_isInOrder_4 rfl ?_
  refine x_if (fun hT2 => ?_)
  refine x_callV_pr (μ := mu_x25_isInOrder) (pc := 5) (ok_x9_marks (ω := ω) (l := l) (d := d - 1) hl (by omega) hv1) gRel_E gRel_E (fun _ q => q) q2504 q2204 q2205 q230 q2206 dX25_isInOrder_5 rfl hT2 hy_x9_marks (by omega) (Nat.le_of_ble_eq_true rfl) rfl (Nat.le_of_ble_eq_true rfl) (fun x3 => ?_)
  refine x_astore_n (μ := mu_x25_isInOrder) (pc := 8) (lv' := [(2, vR x3), (0, vR v0), (1, vI v1)]) dX25_isInOrder_8 rfl (by decide) rfl ?_
  refine x_iconst (μ := mu_x25_isInOrder) (pc := 9) dX25_isInOrder_9 ?_
  refine x_istore_n (μ := mu_x25_isInOrder) (pc := 10) (lv' := [(3, vI (-1)), (2, vR x3), (0, vR v0), (1, vI v1)]) dX25_isInOrder_10 rfl (by decide) rfl ?_
  refine x_iconst (μ := mu_x25_isInOrder) (pc := 11) dX25_isInOrder_11 ?_
  refine x_istore (μ := mu_x25_isInOrder) (pc := 12) (lv' := [(4, vI 0), (3, vI (-1)), (2, vR x3), (0, vR v0), (1, vI v1)]) dX25_isInOrder_12 (by decide) rfl ?_
  refine x_loc (lv' := [(0, vR v0), (1, vI v1), (2, vR x3), (3, vI (-1)), (4, vI 0)]) [3, 4, 2, 1, 0] rfl ?_
  refine okl_x25_isInOrder_l14 hl hdp hv1 ?_ N (-1) 0 (by decide) (by decide)
  refine x_iconst (μ := mu_x25_isInOrder) (pc := 79) dX25_isInOrder_79 ?_
  exact x_zret (μ := mu_x25_isInOrder) (pc := 80) dX25_isInOrder_80 rfl (by decide) rfl (gRel_E.1 _) (show g32 1 from (by decide))
def x25_of (N : Nat) (v0 : Nat) (v1 : Int) (v2 : Int) (v3 : Int) (σ : gMem) : Option Nat := if v1 ≠ 0 then if mT σ v0 = 8 then (x9_of N v0 v3 v2 σ).bind (fun x2 => some x2) else none else if mT σ v0 = 8 then (x9_of N v0 v2 v3 σ).bind (fun x4 => some x4) else none
set_option maxRecDepth 100000 in
theorem ok_x25_of {ω : gW} {l : Launch} {d : Nat} {N : Nat} {σ : gMem} {v0 : Nat} {v1 : Int} {v2 : Int} {v3 : Int} (hl : l.stackTraces = false) (hdp : 3 ≤ d) (hv1 : g32 v1) (hv2 : g32 v2) (hv3 : g32 v3) : gK (fun x : Nat => (.inl (some (vR x)), σ)) gE ω l d mu_x25_of [vR v0, vI v1, vI v2, vI v3] σ (x25_of N v0 v1 v2 v3 σ) := by
  refine gK.of hp_X25 (Nat.le_of_ble_eq_true rfl) ?_
  unfold x25_of
  refine x_iload_n (μ := mu_x25_of) (pc := 0) 1 dX25_of_0 rfl ?_
  refine x_if_ne (μ := mu_x25_of) (pc := 1) (tgt := 13) dX25_of_1 rfl hv1 ?_ ?_
  · refine x_aload_n (μ := mu_x25_of) (pc := 13) 0 dX25_of_13 rfl ?_
    refine x_iload_n (μ := mu_x25_of) (pc := 14) 3 dX25_of_14 rfl ?_
    refine x_iload_n (μ := mu_x25_of) (pc := 15) 2 dX25_of_15 rfl ?_
    refine x_if (fun hT1 => ?_)
    refine x_callV_pr (μ := mu_x25_of) (pc := 16) (ok_x9_of (ω := ω) (l := l) (d := d - 1) hl (by omega) hv3 hv2) gRel_E gRel_E (fun _ q => q) q2520 q2235 q2236 q230 q2237 dX25_of_16 rfl hT1 hy_x9_of (by omega) (Nat.le_of_ble_eq_true rfl) rfl (Nat.le_of_ble_eq_true rfl) (fun x2 => ?_)
    exact x_aret (μ := mu_x25_of) (pc := 19) dX25_of_19 rfl (by first | exact Or.inl ⟨_, rfl⟩ | exact Or.inr ⟨_, rfl⟩) rfl (gRel_E.1 _) trivial
  · refine x_aload_n (μ := mu_x25_of) (pc := 4) 0 dX25_of_4 rfl ?_
    refine x_iload_n (μ := mu_x25_of) (pc := 5) 2 dX25_of_5 rfl ?_
    refine x_iload_n (μ := mu_x25_of) (pc := 6) 3 dX25_of_6 rfl ?_
    refine x_if (fun hT3 => ?_)
    refine x_callV_pr (μ := mu_x25_of) (pc := 7) (ok_x9_of (ω := ω) (l := l) (d := d - 1) hl (by omega) hv2 hv3) gRel_E gRel_E (fun _ q => q) q2520 q2235 q2236 q230 q2237 dX25_of_7 rfl hT3 hy_x9_of (by omega) (Nat.le_of_ble_eq_true rfl) rfl (Nat.le_of_ble_eq_true rfl) (fun x4 => ?_)
    refine x_goto (μ := mu_x25_of) (pc := 10) (tgt := 19) dX25_of_10 rfl ?_
    exact x_aret (μ := mu_x25_of) (pc := 19) dX25_of_19 rfl (by first | exact Or.inl ⟨_, rfl⟩ | exact Or.inr ⟨_, rfl⟩) rfl (gRel_E.1 _) trivial
def x25_tellKept_l11_j96 (N : Nat) (v0 : Nat) (v1 : Int) (v2 : Nat) (v3 : Int) (Kh : Int → gMem → Option gMem) (K : gMem → Option gMem) (s : gMem) : Option gMem := Kh (w32 (v3 + 1)) s
set_option maxRecDepth 100000 in
theorem okj_x25_tellKept_l11_j96 {ω : gW} {l : Launch} {d : Nat} {N : Nat} {σ0 : gMem} {s : gMem} {v0 : Nat} {v1 : Int} {v2 : Nat} {v3 : Int} {Kh : Int → gMem → Option gMem} {K : gMem → Option gMem} (hl : l.stackTraces = false) (hdp : 4 ≤ d) (hv1 : g32 v1) (hv3 : g32 v3) (hKh : ∀ (v3 : Int) (s : gMem) , g32 v3 → GG (fun p : gMem => (.inl none, p)) gE ω l d mu_x25_tellKept σ0 11 [(0, vR v0), (1, vI v1), (2, vR v2), (3, vI v3)] [] s (Kh v3 s)) (hK : ∀ (s : gMem) , GG (fun p : gMem => (.inl none, p)) gE ω l d mu_x25_tellKept σ0 102 [] [] s (K s)) : GG (fun p : gMem => (.inl none, p)) gE ω l d mu_x25_tellKept σ0 96 [(0, vR v0), (1, vI v1), (2, vR v2), (3, vI v3)] [] s (x25_tellKept_l11_j96 N v0 v1 v2 v3 Kh K s) := by
  unfold x25_tellKept_l11_j96
  refine x_iincw (μ := mu_x25_tellKept) (pc := 96) (lv' := [(3, vI (w32 (v3 + 1))), (0, vR v0), (1, vI v1), (2, vR v2)]) 3 dX25_tellKept_96 rfl (by decide) rfl ?_
  refine x_goto (μ := mu_x25_tellKept) (pc := 99) (tgt := 11) dX25_tellKept_99 rfl ?_
  refine x_loc (lv' := [(0, vR v0), (1, vI v1), (2, vR v2), (3, vI (w32 (v3 + 1)))]) [1, 2, 3, 0] rfl ?_
  exact hKh (w32 (v3 + 1)) s (w32_rng _)
def x25_tellKept_l11_j89 (N : Nat) (v0 : Nat) (v1 : Int) (v2 : Nat) (v3 : Int) (v4 : Int) (t0 : Int) (t1 : Int) (t2 : Int) (t3 : Nat) (Kh : Int → gMem → Option gMem) (K : gMem → Option gMem) (s : gMem) : Option gMem := if mT s t3 = 23 then (x25_tell t3 t2 t1 t0 v4 0 0 s).bind (fun x18 => x25_tellKept_l11_j96 N v0 v1 v2 v3  (Kh) K x18) else none
set_option maxRecDepth 100000 in
theorem okj_x25_tellKept_l11_j89 {ω : gW} {l : Launch} {d : Nat} {N : Nat} {σ0 : gMem} {s : gMem} {v0 : Nat} {v1 : Int} {v2 : Nat} {v3 : Int} {v4 : Int} {t0 : Int} {t1 : Int} {t2 : Int} {t3 : Nat} {Kh : Int → gMem → Option gMem} {K : gMem → Option gMem} (hl : l.stackTraces = false) (hdp : 4 ≤ d) (hv1 : g32 v1) (hv3 : g32 v3) (hv4 : g32 v4) (ht0 : g32 t0) (ht1 : g32 t1) (ht2 : g32 t2) (hKh : ∀ (v3 : Int) (s : gMem) , g32 v3 → GG (fun p : gMem => (.inl none, p)) gE ω l d mu_x25_tellKept σ0 11 [(0, vR v0), (1, vI v1), (2, vR v2), (3, vI v3)] [] s (Kh v3 s)) (hK : ∀ (s : gMem) , GG (fun p : gMem => (.inl none, p)) gE ω l d mu_x25_tellKept σ0 102 [] [] s (K s)) : GG (fun p : gMem => (.inl none, p)) gE ω l d mu_x25_tellKept σ0 89 [(0, vR v0), (1, vI v1), (2, vR v2), (3, vI v3), (4, vI v4)] [vI t0, vI t1, vI t2, vR t3] s (x25_tellKept_l11_j89 N v0 v1 v2 v3 v4 t0 t1 t2 t3 Kh K s) := by
  unfold x25_tellKept_l11_j89
  refine x_iload (μ := mu_x25_tellKept) (pc := 89) 4 dX25_tellKept_89 rfl ?_
  refine x_null (μ := mu_x25_tellKept) (pc := 91) dX25_tellKept_91 ?_
  refine x_null (μ := mu_x25_tellKept) (pc := 92) dX25_tellKept_92 ?_
  refine x_if (fun hT17 => ?_)
  refine x_callV_mv (μ := mu_x25_tellKept) (pc := 93) (ok_x25_tell (ω := ω) (l := l) (d := d - 1) hl (by omega) ht2 ht1 ht0 hv4) gRel_E gRel_E (fun _ q => q) q2532 q2534 qs71 q266 q2535 dX25_tellKept_93 rfl hT17 hy_x25_tell (by omega) (Nat.le_of_ble_eq_true rfl) rfl (Nat.le_of_ble_eq_true rfl) (fun x18 k19 => ?_)
  refine x_loc (lv' := [(0, vR v0), (1, vI v1), (2, vR v2), (3, vI v3)]) [0, 1, 2, 3] rfl ?_
  exact okj_x25_tellKept_l11_j96 hl hdp hv1 hv3 hKh hK
def x25_tellKept_l11_j78 (N : Nat) (v0 : Nat) (v1 : Int) (v2 : Nat) (v3 : Int) (v4 : Int) (t0 : Int) (t1 : Int) (t2 : Nat) (Kh : Int → gMem → Option gMem) (K : gMem → Option gMem) (s : gMem) : Option gMem := if v1 ≠ 0 then if mT s v2 = 100 then if 0 ≤ v3 ∧ v3 < (mN s v2 : Int) then x25_tellKept_l11_j89 N v0 v1 v2 v3 v4 (mI s v2 v3.toNat) t0 t1 t2 (Kh) K s else none else none else x25_tellKept_l11_j89 N v0 v1 v2 v3 v4 (-1) t0 t1 t2 (Kh) K s
set_option maxRecDepth 100000 in
theorem okj_x25_tellKept_l11_j78 {ω : gW} {l : Launch} {d : Nat} {N : Nat} {σ0 : gMem} {s : gMem} {v0 : Nat} {v1 : Int} {v2 : Nat} {v3 : Int} {v4 : Int} {t0 : Int} {t1 : Int} {t2 : Nat} {Kh : Int → gMem → Option gMem} {K : gMem → Option gMem} (hl : l.stackTraces = false) (hdp : 4 ≤ d) (hv1 : g32 v1) (hv3 : g32 v3) (hv4 : g32 v4) (ht0 : g32 t0) (ht1 : g32 t1) (hKh : ∀ (v3 : Int) (s : gMem) , g32 v3 → GG (fun p : gMem => (.inl none, p)) gE ω l d mu_x25_tellKept σ0 11 [(0, vR v0), (1, vI v1), (2, vR v2), (3, vI v3)] [] s (Kh v3 s)) (hK : ∀ (s : gMem) , GG (fun p : gMem => (.inl none, p)) gE ω l d mu_x25_tellKept σ0 102 [] [] s (K s)) : GG (fun p : gMem => (.inl none, p)) gE ω l d mu_x25_tellKept σ0 78 [(0, vR v0), (1, vI v1), (2, vR v2), (3, vI v3), (4, vI v4)] [vI t0, vI t1, vR t2] s (x25_tellKept_l11_j78 N v0 v1 v2 v3 v4 t0 t1 t2 Kh K s) := by
  unfold x25_tellKept_l11_j78
  refine x_iload_n (μ := mu_x25_tellKept) (pc := 78) 1 dX25_tellKept_78 rfl ?_
  refine x_if_ne (μ := mu_x25_tellKept) (pc := 79) (tgt := 86) dX25_tellKept_79 rfl hv1 ?_ ?_
  · refine x_aload_n (μ := mu_x25_tellKept) (pc := 86) 2 dX25_tellKept_86 rfl ?_
    refine x_iload_n (μ := mu_x25_tellKept) (pc := 87) 3 dX25_tellKept_87 rfl ?_
    refine x_if (fun hT15 => ?_)
    refine x_iald (μ := mu_x25_tellKept) (pc := 88) dX25_tellKept_88 hT15 rfl (fun hr16 => ?_)
    exact okj_x25_tellKept_l11_j89 hl hdp hv1 hv3 hv4 hr16 ht0 ht1 hKh hK
  · refine x_iconst (μ := mu_x25_tellKept) (pc := 82) dX25_tellKept_82 ?_
    refine x_goto (μ := mu_x25_tellKept) (pc := 83) (tgt := 89) dX25_tellKept_83 rfl ?_
    exact okj_x25_tellKept_l11_j89 hl hdp hv1 hv3 hv4 (by decide) ht0 ht1 hKh hK
def x25_tellKept_l11 (N : Nat) (v0 : Nat) (v1 : Int) (v2 : Nat) (K : gMem → Option gMem) : Nat → Int → gMem → Option gMem
  | 0, _, _ => none
  | n + 1, v3, s => if mT s v2 = 100 then if w32 (mN s v2 : Int) ≤ v3 then K s else if mT s v0 = 23 then if 0 ≤ v3 ∧ v3 < (mN s v2 : Int) then (x25_has N (mR s v0 1) v1 (mI s v2 v3.toNat) s).bind (fun x7 => if 0 ≤ v3 ∧ v3 < (mN s v2 : Int) then (x25_has N (mR s v0 2) v1 (mI s v2 v3.toNat) s).bind (fun x10 => if x7 = x10 then x25_tellKept_l11_j96 N v0 v1 v2 v3  (x25_tellKept_l11 N v0 v1 v2 K n) K s else if 0 ≤ v3 ∧ v3 < (mN s v2 : Int) then (x25_has N (mR s v0 0) v1 (mI s v2 v3.toNat) s).bind (fun x13 => if x13 ≠ 0 then if v1 ≠ 0 then x25_tellKept_l11_j78 N v0 v1 v2 v3 x7 (-1) (w32 (1 + v1)) v0 (x25_tellKept_l11 N v0 v1 v2 K n) K s else if 0 ≤ v3 ∧ v3 < (mN s v2 : Int) then x25_tellKept_l11_j78 N v0 v1 v2 v3 x7 (mI s v2 v3.toNat) (w32 (1 + v1)) v0 (x25_tellKept_l11 N v0 v1 v2 K n) K s else none else x25_tellKept_l11_j96 N v0 v1 v2 v3  (x25_tellKept_l11 N v0 v1 v2 K n) K s) else none) else none) else none else none else none
set_option maxRecDepth 100000 in
theorem okl_x25_tellKept_l11 {ω : gW} {l : Launch} {d : Nat} {N : Nat} {σ0 : gMem} {v0 : Nat} {v1 : Int} {v2 : Nat} {K : gMem → Option gMem} (hl : l.stackTraces = false) (hdp : 4 ≤ d) (hv1 : g32 v1) (hK : ∀ (s : gMem) , GG (fun p : gMem => (.inl none, p)) gE ω l d mu_x25_tellKept σ0 102 [] [] s (K s)) : ∀ (n : Nat) (v3 : Int) (s : gMem) , g32 v3 → GG (fun p : gMem => (.inl none, p)) gE ω l d mu_x25_tellKept σ0 11 [(0, vR v0), (1, vI v1), (2, vR v2), (3, vI v3)] [] s (x25_tellKept_l11 N v0 v1 v2 K n v3 s) := by
  intro n
  induction n with
  | zero => intros; exact x_none
  | succ n ih =>
    intro v3 s hv3
    unfold x25_tellKept_l11
    refine x_iload_n (μ := mu_x25_tellKept) (pc := 11) 3 dX25_tellKept_11 rfl ?_
    refine x_aload_n (μ := mu_x25_tellKept) (pc := 12) 2 dX25_tellKept_12 rfl ?_
    refine x_if (fun hT4 => ?_)
    refine x_len (μ := mu_x25_tellKept) (pc := 13) 0 (fun _ => rfl) dX25_tellKept_13 hT4 ?_
    refine x_w1 ?_
    refine x_icmp_ge (μ := mu_x25_tellKept) (pc := 14) (tgt := 102) dX25_tellKept_14 rfl hv3 (w32_rng _) ?_ ?_
    · refine x_loc (lv' := []) [] rfl ?_
      exact hK s
    · refine x_aload_n (μ := mu_x25_tellKept) (pc := 17) 0 dX25_tellKept_17 rfl ?_
      refine x_if (fun hT5 => ?_)
      refine x_fgr (μ := mu_x25_tellKept) (pc := 18) fX25_1 (by first | exact Or.inl ⟨_, rfl⟩ | exact Or.inr ⟨_, rfl⟩) q2471 dX25_tellKept_18 hT5 ?_
      refine x_iload_n (μ := mu_x25_tellKept) (pc := 21) 1 dX25_tellKept_21 rfl ?_
      refine x_aload_n (μ := mu_x25_tellKept) (pc := 22) 2 dX25_tellKept_22 rfl ?_
      refine x_iload_n (μ := mu_x25_tellKept) (pc := 23) 3 dX25_tellKept_23 rfl ?_
      refine x_iald (μ := mu_x25_tellKept) (pc := 24) dX25_tellKept_24 hT4 rfl (fun hr6 => ?_)
      refine x_callS_pi (μ := mu_x25_tellKept) (pc := 25) (ok_x25_has (ω := ω) (l := l) (d := d - 1) hl (by omega) hv1 hr6) gRel_E gRel_E (fun _ q => q) q2506 q2507 q266 q2508 dX25_tellKept_25 hy_x25_has (by omega) (Nat.le_of_ble_eq_true rfl) rfl (Nat.le_of_ble_eq_true rfl) (fun x7 hr8 => ?_)
      refine x_istore (μ := mu_x25_tellKept) (pc := 28) (lv' := [(4, vI x7), (0, vR v0), (1, vI v1), (2, vR v2), (3, vI v3)]) dX25_tellKept_28 (by decide) rfl ?_
      refine x_iload (μ := mu_x25_tellKept) (pc := 30) 0 dX25_tellKept_30 rfl ?_
      refine x_aload_n (μ := mu_x25_tellKept) (pc := 32) 1 dX25_tellKept_32 rfl ?_
      refine x_fgr (μ := mu_x25_tellKept) (pc := 33) fX25_2 (by first | exact Or.inl ⟨_, rfl⟩ | exact Or.inr ⟨_, rfl⟩) q2472 dX25_tellKept_33 hT5 ?_
      refine x_iload_n (μ := mu_x25_tellKept) (pc := 36) 2 dX25_tellKept_36 rfl ?_
      refine x_aload_n (μ := mu_x25_tellKept) (pc := 37) 3 dX25_tellKept_37 rfl ?_
      refine x_iload_n (μ := mu_x25_tellKept) (pc := 38) 4 dX25_tellKept_38 rfl ?_
      refine x_iald (μ := mu_x25_tellKept) (pc := 39) dX25_tellKept_39 hT4 rfl (fun hr9 => ?_)
      refine x_callS_pi (μ := mu_x25_tellKept) (pc := 40) (ok_x25_has (ω := ω) (l := l) (d := d - 1) hl (by omega) hv1 hr9) gRel_E gRel_E (fun _ q => q) q2506 q2507 q266 q2508 dX25_tellKept_40 hy_x25_has (by omega) (Nat.le_of_ble_eq_true rfl) rfl (Nat.le_of_ble_eq_true rfl) (fun x10 hr11 => ?_)
      refine x_icmp_eq (μ := mu_x25_tellKept) (pc := 43) (tgt := 96) dX25_tellKept_43 rfl hr8 hr11 ?_ ?_
      · refine x_loc (lv' := [(0, vR v0), (1, vI v1), (2, vR v2), (3, vI v3)]) [1, 2, 3, 4] rfl ?_
        exact okj_x25_tellKept_l11_j96 hl hdp hv1 hv3 ih hK
      · refine x_aload_n (μ := mu_x25_tellKept) (pc := 46) 1 dX25_tellKept_46 rfl ?_
        refine x_fgr (μ := mu_x25_tellKept) (pc := 47) fX25_0 (by first | exact Or.inl ⟨_, rfl⟩ | exact Or.inr ⟨_, rfl⟩) q2470 dX25_tellKept_47 hT5 ?_
        refine x_iload_n (μ := mu_x25_tellKept) (pc := 50) 2 dX25_tellKept_50 rfl ?_
        refine x_aload_n (μ := mu_x25_tellKept) (pc := 51) 3 dX25_tellKept_51 rfl ?_
        refine x_iload_n (μ := mu_x25_tellKept) (pc := 52) 4 dX25_tellKept_52 rfl ?_
        refine x_iald (μ := mu_x25_tellKept) (pc := 53) dX25_tellKept_53 hT4 rfl (fun hr12 => ?_)
        refine x_callS_pi (μ := mu_x25_tellKept) (pc := 54) (ok_x25_has (ω := ω) (l := l) (d := d - 1) hl (by omega) hv1 hr12) gRel_E gRel_E (fun _ q => q) q2506 q2507 q266 q2508 dX25_tellKept_54 hy_x25_has (by omega) (Nat.le_of_ble_eq_true rfl) rfl (Nat.le_of_ble_eq_true rfl) (fun x13 hr14 => ?_)
        refine x_if_ne (μ := mu_x25_tellKept) (pc := 57) (tgt := 63) dX25_tellKept_57 rfl hr14 ?_ ?_
        · refine x_aload_n (μ := mu_x25_tellKept) (pc := 63) 1 dX25_tellKept_63 rfl ?_
          refine x_iconst (μ := mu_x25_tellKept) (pc := 64) dX25_tellKept_64 ?_
          refine x_iload_n (μ := mu_x25_tellKept) (pc := 65) 2 dX25_tellKept_65 rfl ?_
          refine x_iadd (μ := mu_x25_tellKept) (pc := 66) dX25_tellKept_66 ?_
          refine x_iload_n (μ := mu_x25_tellKept) (pc := 67) 2 dX25_tellKept_67 rfl ?_
          refine x_if_ne (μ := mu_x25_tellKept) (pc := 68) (tgt := 77) dX25_tellKept_68 rfl hv1 ?_ ?_
          · refine x_iconst (μ := mu_x25_tellKept) (pc := 77) dX25_tellKept_77 ?_
            refine x_w2 ?_
            refine x_loc (lv' := [(0, vR v0), (1, vI v1), (2, vR v2), (3, vI v3), (4, vI x7)]) [1, 2, 3, 4, 0] rfl ?_
            exact okj_x25_tellKept_l11_j78 hl hdp hv1 hv3 hr8 (by decide) (w32_rng _) ih hK
          · refine x_aload_n (μ := mu_x25_tellKept) (pc := 71) 3 dX25_tellKept_71 rfl ?_
            refine x_iload_n (μ := mu_x25_tellKept) (pc := 72) 4 dX25_tellKept_72 rfl ?_
            refine x_iald (μ := mu_x25_tellKept) (pc := 73) dX25_tellKept_73 hT4 rfl (fun hr20 => ?_)
            refine x_goto (μ := mu_x25_tellKept) (pc := 74) (tgt := 78) dX25_tellKept_74 rfl ?_
            refine x_w2 ?_
            refine x_loc (lv' := [(0, vR v0), (1, vI v1), (2, vR v2), (3, vI v3), (4, vI x7)]) [1, 2, 3, 4, 0] rfl ?_
            exact okj_x25_tellKept_l11_j78 hl hdp hv1 hv3 hr8 hr20 (w32_rng _) ih hK
        · refine x_goto (μ := mu_x25_tellKept) (pc := 60) (tgt := 96) dX25_tellKept_60 rfl ?_
          refine x_loc (lv' := [(0, vR v0), (1, vI v1), (2, vR v2), (3, vI v3)]) [1, 2, 3, 4] rfl ?_
          exact okj_x25_tellKept_l11_j96 hl hdp hv1 hv3 ih hK
def x25_tellKept (N : Nat) (v0 : Nat) (v1 : Int) (σ : gMem) : Option gMem := if mT σ v0 = 23 then if mT σ (mR σ v0 3) = 8 then (x9_marks (mR σ v0 3) v1 σ).bind (fun x3 => x25_tellKept_l11 N v0 v1 x3 (fun s21 => some s21) N 0 σ) else none else none
set_option maxRecDepth 100000 in
theorem ok_x25_tellKept {ω : gW} {l : Launch} {d : Nat} {N : Nat} {σ : gMem} {v0 : Nat} {v1 : Int} (hl : l.stackTraces = false) (hdp : 4 ≤ d) (hv1 : g32 v1) : gK (fun p : gMem => (.inl none, p)) gE ω l d mu_x25_tellKept [vR v0, vI v1] σ (x25_tellKept N v0 v1 σ) := by
  refine gK.of hp_X25 (Nat.le_of_ble_eq_true rfl) ?_
  unfold x25_tellKept
  refine x_aload_n (μ := mu_x25_tellKept) (pc := 0) 0 dX25_tellKept_0 rfl ?_
  refine x_if (fun hT1 => ?_)
  refine x_fgr (μ := mu_x25_tellKept) (pc := 1) fX25_3 (by first | exact Or.inl ⟨_, rfl⟩ | exact Or.inr ⟨_, rfl⟩) q2473 dX25_tellKept_1 hT1 ?_
  refine x_iload_n (μ := mu_x25_tellKept) (pc := 4) 1 dX25_tellKept_4 rfl ?_
  refine x_if (fun hT2 => ?_)
  refine x_callV_pr (μ := mu_x25_tellKept) (pc := 5) (ok_x9_marks (ω := ω) (l := l) (d := d - 1) hl (by omega) hv1) gRel_E gRel_E (fun _ q => q) q2504 q2204 q2205 q230 q2206 dX25_tellKept_5 rfl hT2 hy_x9_marks (by omega) (Nat.le_of_ble_eq_true rfl) rfl (Nat.le_of_ble_eq_true rfl) (fun x3 => ?_)
  refine x_astore_n (μ := mu_x25_tellKept) (pc := 8) (lv' := [(2, vR x3), (0, vR v0), (1, vI v1)]) dX25_tellKept_8 rfl (by decide) rfl ?_
  refine x_iconst (μ := mu_x25_tellKept) (pc := 9) dX25_tellKept_9 ?_
  refine x_istore_n (μ := mu_x25_tellKept) (pc := 10) (lv' := [(3, vI 0), (2, vR x3), (0, vR v0), (1, vI v1)]) dX25_tellKept_10 rfl (by decide) rfl ?_
  refine x_loc (lv' := [(0, vR v0), (1, vI v1), (2, vR x3), (3, vI 0)]) [2, 3, 1, 0] rfl ?_
  refine okl_x25_tellKept_l11 hl hdp hv1 (fun s21 => ?_) N 0 σ (by decide)
  exact x_vret (μ := mu_x25_tellKept) (pc := 102) (a1 := s21) dX25_tellKept_102 rfl rfl (gRel_E.1 _) trivial
def x25_hasCell (N : Nat) (v0 : Nat) (v1 : Int) (v2 : Int) (σ : gMem) : Option Int := if mT σ v0 = 8 then (x9_row N v0 v1 σ).bind (fun x2 => if x2 = (-1) then some 0 else (x9_column N v0 v2 σ).bind (fun x4 => if x4 = (-1) then some 0 else some 1)) else none
set_option maxRecDepth 100000 in
theorem ok_x25_hasCell {ω : gW} {l : Launch} {d : Nat} {N : Nat} {σ : gMem} {v0 : Nat} {v1 : Int} {v2 : Int} (hl : l.stackTraces = false) (hdp : 2 ≤ d) (hv1 : g32 v1) (hv2 : g32 v2) : gK (fun x : Int => (.inl (some (vI x)), σ)) gE ω l d mu_x25_hasCell [vR v0, vI v1, vI v2] σ (x25_hasCell N v0 v1 v2 σ) := by
  refine gK.of hp_X25 (Nat.le_of_ble_eq_true rfl) ?_
  unfold x25_hasCell
  refine x_aload_n (μ := mu_x25_hasCell) (pc := 0) 0 dX25_hasCell_0 rfl ?_
  refine x_iload_n (μ := mu_x25_hasCell) (pc := 1) 1 dX25_hasCell_1 rfl ?_
  refine x_if (fun hT1 => ?_)
  refine x_callV_pi (μ := mu_x25_hasCell) (pc := 2) (ok_x9_row (ω := ω) (l := l) (d := d - 1) hl (by omega) hv1) gRel_E gRel_E (fun _ q => q) q2573 q779 q780 q230 q781 dX25_hasCell_2 rfl hT1 hy_x9_row (by omega) (Nat.le_of_ble_eq_true rfl) rfl (Nat.le_of_ble_eq_true rfl) (fun x2 hr3 => ?_)
  refine x_iconst (μ := mu_x25_hasCell) (pc := 5) dX25_hasCell_5 ?_
  refine x_icmp_eq (μ := mu_x25_hasCell) (pc := 6) (tgt := 22) dX25_hasCell_6 rfl hr3 (by decide) ?_ ?_
  · refine x_iconst (μ := mu_x25_hasCell) (pc := 22) dX25_hasCell_22 ?_
    exact x_zret (μ := mu_x25_hasCell) (pc := 23) dX25_hasCell_23 rfl (by decide) rfl (gRel_E.1 _) (show g32 0 from (by decide))
  · refine x_aload_n (μ := mu_x25_hasCell) (pc := 9) 0 dX25_hasCell_9 rfl ?_
    refine x_iload_n (μ := mu_x25_hasCell) (pc := 10) 2 dX25_hasCell_10 rfl ?_
    refine x_callV_pi (μ := mu_x25_hasCell) (pc := 11) (ok_x9_column (ω := ω) (l := l) (d := d - 1) hl (by omega) hv2) gRel_E gRel_E (fun _ q => q) q2574 q786 q787 q230 q788 dX25_hasCell_11 rfl hT1 hy_x9_column (by omega) (Nat.le_of_ble_eq_true rfl) rfl (Nat.le_of_ble_eq_true rfl) (fun x4 hr5 => ?_)
    refine x_iconst (μ := mu_x25_hasCell) (pc := 14) dX25_hasCell_14 ?_
    refine x_icmp_eq (μ := mu_x25_hasCell) (pc := 15) (tgt := 22) dX25_hasCell_15 rfl hr5 (by decide) ?_ ?_
    · refine x_iconst (μ := mu_x25_hasCell) (pc := 22) dX25_hasCell_22 ?_
      exact x_zret (μ := mu_x25_hasCell) (pc := 23) dX25_hasCell_23 rfl (by decide) rfl (gRel_E.1 _) (show g32 0 from (by decide))
    · refine x_iconst (μ := mu_x25_hasCell) (pc := 18) dX25_hasCell_18 ?_
      refine x_goto (μ := mu_x25_hasCell) (pc := 19) (tgt := 23) dX25_hasCell_19 rfl ?_
      exact x_zret (μ := mu_x25_hasCell) (pc := 23) dX25_hasCell_23 rfl (by decide) rfl (gRel_E.1 _) (show g32 1 from (by decide))
def x3_opens (N : Nat) (v0 : Nat) (v1 : Nat) (v2 : Nat) (σ : gMem) : Option (Int × gMem) := if mT σ v1 = 17 then if mT σ v0 = 3 then (x3_sheetOf v0 (mI σ v1 2) σ).bind (fun x4 => if mT σ (mR σ v1 0) = 14 then (x16_isIn N (mR σ v1 0) x4 σ).bind (fun x6 => if x6 = 0 then if mT σ v2 = 5 then (x5_fail v2 1 σ).bind (fun x9 => some (0, x9)) else none else if mT σ (mR σ v1 1) = 14 then (x16_isIn N (mR σ v1 1) x4 σ).bind (fun x12 => if x12 ≠ 0 then (x3_valuesOf v0 (mI σ v1 2) σ).bind (fun x15 => gLet (wR σ v0 8 x15) (fun s16 => if mT s16 (mR s16 v1 0) = 14 then if mT s16 x4 = 8 then (x9_row N x4 (mI s16 (mR s16 v1 0) 0) s16).bind (fun x21 => (x9_column N x4 (mI s16 (mR s16 v1 0) 1) s16).bind (fun x24 => if mT s16 (mR s16 v1 1) = 14 then (x9_row N x4 (mI s16 (mR s16 v1 1) 0) s16).bind (fun x28 => (x9_column N x4 (mI s16 (mR s16 v1 1) 1) s16).bind (fun x31 => gLet (wI s16 v0 9 (w32 (if x28 < x21 then x28 else x21))) (fun s33 => gLet (wI s33 v0 11 (w32 (if x21 < x28 then x28 else x21))) (fun s35 => gLet (wI s35 v0 10 (w32 (if x31 < x24 then x31 else x24))) (fun s37 => gLet (wI s37 v0 12 (w32 (if x24 < x31 then x31 else x24))) (fun s39 => gLet (wI s39 v0 13 (mI s39 v0 9)) (fun s42 => gLet (wI s42 v0 14 (mI s42 v0 10)) (fun s45 => some (1, s45))))))))) else none)) else none else none)) else if mT σ v2 = 5 then (x5_fail v2 1 σ).bind (fun x48 => some (0, x48)) else none) else none) else none) else none else none
set_option maxRecDepth 100000 in
theorem ok_x3_opens {ω : gW} {l : Launch} {d : Nat} {N : Nat} {σ : gMem} {v0 : Nat} {v1 : Nat} {v2 : Nat} (hl : l.stackTraces = false) (hdp : 3 ≤ d) : gK (fun p : Int × gMem => (.inl (some (vI p.1)), p.2)) gE ω l d mu_x3_opens [vR v0, vR v1, vR v2] σ (x3_opens N v0 v1 v2 σ) := by
  refine gK.of hp_X3 (Nat.le_of_ble_eq_true rfl) ?_
  unfold x3_opens
  refine x_aload_n (μ := mu_x3_opens) (pc := 0) 0 dX3_opens_0 rfl ?_
  refine x_aload_n (μ := mu_x3_opens) (pc := 1) 1 dX3_opens_1 rfl ?_
  refine x_if (fun hT1 => ?_)
  refine x_fgiN (μ := mu_x3_opens) (pc := 2) fX19_2 q2019 dX3_opens_2 hT1 (fun hr2 => ?_)
  refine x_if (fun hT3 => ?_)
  refine x_callV_pr (μ := mu_x3_opens) (pc := 5) (ok_x3_sheetOf (ω := ω) (l := l) (d := d - 1) hl (by omega) hr2) gRel_E gRel_E (fun _ q => q) q1223 q1015 q1016 q223 q1017 dX3_opens_5 rfl hT3 hy_x3_sheetOf (by omega) (Nat.le_of_ble_eq_true rfl) rfl (Nat.le_of_ble_eq_true rfl) (fun x4 => ?_)
  refine x_astore_n (μ := mu_x3_opens) (pc := 8) (lv' := [(3, vR x4), (0, vR v0), (1, vR v1), (2, vR v2)]) dX3_opens_8 rfl (by decide) rfl ?_
  refine x_aload_n (μ := mu_x3_opens) (pc := 9) 2 dX3_opens_9 rfl ?_
  refine x_fgrN (μ := mu_x3_opens) (pc := 10) fX19_0 (by first | exact Or.inl ⟨_, rfl⟩ | exact Or.inr ⟨_, rfl⟩) q2015 dX3_opens_10 hT1 ?_
  refine x_aload_n (μ := mu_x3_opens) (pc := 13) 0 dX3_opens_13 rfl ?_
  refine x_if (fun hT5 => ?_)
  refine x_callV_pi (μ := mu_x3_opens) (pc := 14) (ok_x16_isIn (ω := ω) (l := l) (d := d - 1) hl (by omega) ) gRel_E gRel_E (fun _ q => q) q1224 q852 q853 q248 q854 dX3_opens_14 rfl hT5 hy_x16_isIn (by omega) (Nat.le_of_ble_eq_true rfl) rfl (Nat.le_of_ble_eq_true rfl) (fun x6 hr7 => ?_)
  refine x_if_eq (μ := mu_x3_opens) (pc := 17) (tgt := 31) dX3_opens_17 rfl hr7 ?_ ?_
  · refine x_aload_n (μ := mu_x3_opens) (pc := 31) 3 dX3_opens_31 rfl ?_
    refine x_iconst (μ := mu_x3_opens) (pc := 32) dX3_opens_32 ?_
    refine x_if (fun hT8 => ?_)
    refine x_callV_mv (μ := mu_x3_opens) (pc := 33) (ok_x5_fail (ω := ω) (l := l) (d := d - 1) hl (by omega) (by decide)) gRel_E gRel_E (fun _ q => q) q968 q969 q970 q225 q971 dX3_opens_33 rfl hT8 hy_x5_fail (by omega) (Nat.le_of_ble_eq_true rfl) rfl (Nat.le_of_ble_eq_true rfl) (fun x9 k10 => ?_)
    refine x_iconst (μ := mu_x3_opens) (pc := 36) dX3_opens_36 ?_
    exact x_zret (μ := mu_x3_opens) (pc := 37) dX3_opens_37 rfl (by decide) rfl (gRel_E.1 _) (show g32 0 from (by decide))
  · refine x_aload_n (μ := mu_x3_opens) (pc := 20) 2 dX3_opens_20 rfl ?_
    refine x_fgrN (μ := mu_x3_opens) (pc := 21) fX19_1 (by first | exact Or.inl ⟨_, rfl⟩ | exact Or.inr ⟨_, rfl⟩) q2017 dX3_opens_21 hT1 ?_
    refine x_aload_n (μ := mu_x3_opens) (pc := 24) 0 dX3_opens_24 rfl ?_
    refine x_if (fun hT11 => ?_)
    refine x_callV_pi (μ := mu_x3_opens) (pc := 25) (ok_x16_isIn (ω := ω) (l := l) (d := d - 1) hl (by omega) ) gRel_E gRel_E (fun _ q => q) q1224 q852 q853 q248 q854 dX3_opens_25 rfl hT11 hy_x16_isIn (by omega) (Nat.le_of_ble_eq_true rfl) rfl (Nat.le_of_ble_eq_true rfl) (fun x12 hr13 => ?_)
    refine x_if_ne (μ := mu_x3_opens) (pc := 28) (tgt := 38) dX3_opens_28 rfl hr13 ?_ ?_
    · refine x_aload_n (μ := mu_x3_opens) (pc := 38) 1 dX3_opens_38 rfl ?_
      refine x_aload_n (μ := mu_x3_opens) (pc := 39) 1 dX3_opens_39 rfl ?_
      refine x_aload_n (μ := mu_x3_opens) (pc := 40) 2 dX3_opens_40 rfl ?_
      refine x_fgiN (μ := mu_x3_opens) (pc := 41) fX19_2 q2019 dX3_opens_41 hT1 (fun hr14 => ?_)
      refine x_callV_pr (μ := mu_x3_opens) (pc := 44) (ok_x3_valuesOf (ω := ω) (l := l) (d := d - 1) hl (by omega) hr14) gRel_E gRel_E (fun _ q => q) q1225 q1020 q1021 q223 q1022 dX3_opens_44 rfl hT3 hy_x3_valuesOf (by omega) (Nat.le_of_ble_eq_true rfl) rfl (Nat.le_of_ble_eq_true rfl) (fun x15 => ?_)
      refine x_fpr (μ := mu_x3_opens) (pc := 47) fX3_8 q406 (by first | exact Or.inl ⟨_, rfl⟩ | exact Or.inr ⟨_, rfl⟩) dX3_opens_47 hT3 (fun _ q => gE_wR q) ?_
      refine x_let (fun s16 e17 => ?_)
      refine x_aload_n (μ := mu_x3_opens) (pc := 50) 0 dX3_opens_50 rfl ?_
      refine x_aload_n (μ := mu_x3_opens) (pc := 51) 2 dX3_opens_51 rfl ?_
      refine x_fgrN (μ := mu_x3_opens) (pc := 52) fX19_0 (by first | exact Or.inl ⟨_, rfl⟩ | exact Or.inr ⟨_, rfl⟩) q2015 dX3_opens_52 (gT_R e17 hT1) ?_
      refine x_if (fun hT18 => ?_)
      refine x_fgiN (μ := mu_x3_opens) (pc := 55) fX16_0 q1943 dX3_opens_55 hT18 (fun hr19 => ?_)
      refine x_if (fun hT20 => ?_)
      refine x_callV_pi (μ := mu_x3_opens) (pc := 58) (ok_x9_row (ω := ω) (l := l) (d := d - 1) hl (by omega) hr19) gRel_E gRel_E (fun _ q => q) q1226 q779 q780 q230 q781 dX3_opens_58 rfl hT20 hy_x9_row (by omega) (Nat.le_of_ble_eq_true rfl) rfl (Nat.le_of_ble_eq_true rfl) (fun x21 hr22 => ?_)
      refine x_istore (μ := mu_x3_opens) (pc := 61) (lv' := [(4, vI x21), (3, vR x4), (0, vR v0), (1, vR v1), (2, vR v2)]) dX3_opens_61 (by decide) rfl ?_
      refine x_aload_n (μ := mu_x3_opens) (pc := 63) 1 dX3_opens_63 rfl ?_
      refine x_aload_n (μ := mu_x3_opens) (pc := 64) 3 dX3_opens_64 rfl ?_
      refine x_fgrN (μ := mu_x3_opens) (pc := 65) fX19_0 (by first | exact Or.inl ⟨_, rfl⟩ | exact Or.inr ⟨_, rfl⟩) q2015 dX3_opens_65 (gT_R e17 hT1) ?_
      refine x_fgiN (μ := mu_x3_opens) (pc := 68) fX16_1 q1947 dX3_opens_68 hT18 (fun hr23 => ?_)
      refine x_callV_pi (μ := mu_x3_opens) (pc := 71) (ok_x9_column (ω := ω) (l := l) (d := d - 1) hl (by omega) hr23) gRel_E gRel_E (fun _ q => q) q1227 q786 q787 q230 q788 dX3_opens_71 rfl hT20 hy_x9_column (by omega) (Nat.le_of_ble_eq_true rfl) rfl (Nat.le_of_ble_eq_true rfl) (fun x24 hr25 => ?_)
      refine x_istore (μ := mu_x3_opens) (pc := 74) (lv' := [(5, vI x24), (4, vI x21), (3, vR x4), (0, vR v0), (1, vR v1), (2, vR v2)]) dX3_opens_74 (by decide) rfl ?_
      refine x_aload_n (μ := mu_x3_opens) (pc := 76) 2 dX3_opens_76 rfl ?_
      refine x_aload_n (μ := mu_x3_opens) (pc := 77) 4 dX3_opens_77 rfl ?_
      refine x_fgrN (μ := mu_x3_opens) (pc := 78) fX19_1 (by first | exact Or.inl ⟨_, rfl⟩ | exact Or.inr ⟨_, rfl⟩) q2017 dX3_opens_78 (gT_R e17 hT1) ?_
      refine x_if (fun hT26 => ?_)
      refine x_fgiN (μ := mu_x3_opens) (pc := 81) fX16_0 q1943 dX3_opens_81 hT26 (fun hr27 => ?_)
      refine x_callV_pi (μ := mu_x3_opens) (pc := 84) (ok_x9_row (ω := ω) (l := l) (d := d - 1) hl (by omega) hr27) gRel_E gRel_E (fun _ q => q) q1226 q779 q780 q230 q781 dX3_opens_84 rfl hT20 hy_x9_row (by omega) (Nat.le_of_ble_eq_true rfl) rfl (Nat.le_of_ble_eq_true rfl) (fun x28 hr29 => ?_)
      refine x_istore (μ := mu_x3_opens) (pc := 87) (lv' := [(6, vI x28), (5, vI x24), (4, vI x21), (3, vR x4), (0, vR v0), (1, vR v1), (2, vR v2)]) dX3_opens_87 (by decide) rfl ?_
      refine x_aload_n (μ := mu_x3_opens) (pc := 89) 3 dX3_opens_89 rfl ?_
      refine x_aload_n (μ := mu_x3_opens) (pc := 90) 5 dX3_opens_90 rfl ?_
      refine x_fgrN (μ := mu_x3_opens) (pc := 91) fX19_1 (by first | exact Or.inl ⟨_, rfl⟩ | exact Or.inr ⟨_, rfl⟩) q2017 dX3_opens_91 (gT_R e17 hT1) ?_
      refine x_fgiN (μ := mu_x3_opens) (pc := 94) fX16_1 q1947 dX3_opens_94 hT26 (fun hr30 => ?_)
      refine x_callV_pi (μ := mu_x3_opens) (pc := 97) (ok_x9_column (ω := ω) (l := l) (d := d - 1) hl (by omega) hr30) gRel_E gRel_E (fun _ q => q) q1227 q786 q787 q230 q788 dX3_opens_97 rfl hT20 hy_x9_column (by omega) (Nat.le_of_ble_eq_true rfl) rfl (Nat.le_of_ble_eq_true rfl) (fun x31 hr32 => ?_)
      refine x_istore (μ := mu_x3_opens) (pc := 100) (lv' := [(7, vI x31), (6, vI x28), (5, vI x24), (4, vI x21), (3, vR x4), (0, vR v0), (1, vR v1), (2, vR v2)]) dX3_opens_100 (by decide) rfl ?_
      refine x_aload_n (μ := mu_x3_opens) (pc := 102) 5 dX3_opens_102 rfl ?_
      refine x_iload (μ := mu_x3_opens) (pc := 103) 3 dX3_opens_103 rfl ?_
      refine x_iload (μ := mu_x3_opens) (pc := 105) 1 dX3_opens_105 rfl ?_
      refine x_mmin (μ := mu_x3_opens) (pc := 107) q1228 dX3_opens_107 hr22 hr29 (by omega) (Nat.le_of_ble_eq_true rfl) ?_
      refine x_w1 ?_
      refine x_fpi (μ := mu_x3_opens) (pc := 110) fX3_9 q407 dX3_opens_110 (gT_R e17 hT3) (fun _ q => gE_wI q) ?_
      refine x_let (fun s33 e34 => ?_)
      refine x_aload_n (μ := mu_x3_opens) (pc := 113) 5 dX3_opens_113 rfl ?_
      refine x_iload (μ := mu_x3_opens) (pc := 114) 3 dX3_opens_114 rfl ?_
      refine x_iload (μ := mu_x3_opens) (pc := 116) 1 dX3_opens_116 rfl ?_
      refine x_mmax (μ := mu_x3_opens) (pc := 118) q1229 dX3_opens_118 hr22 hr29 (by omega) (Nat.le_of_ble_eq_true rfl) ?_
      refine x_w1 ?_
      refine x_fpi (μ := mu_x3_opens) (pc := 121) fX3_11 q409 dX3_opens_121 (gT_I e34 (gT_R e17 hT3)) (fun _ q => gE_wI q) ?_
      refine x_let (fun s35 e36 => ?_)
      refine x_aload_n (μ := mu_x3_opens) (pc := 124) 5 dX3_opens_124 rfl ?_
      refine x_iload (μ := mu_x3_opens) (pc := 125) 2 dX3_opens_125 rfl ?_
      refine x_iload (μ := mu_x3_opens) (pc := 127) 0 dX3_opens_127 rfl ?_
      refine x_mmin (μ := mu_x3_opens) (pc := 129) q1228 dX3_opens_129 hr25 hr32 (by omega) (Nat.le_of_ble_eq_true rfl) ?_
      refine x_w1 ?_
      refine x_fpi (μ := mu_x3_opens) (pc := 132) fX3_10 q408 dX3_opens_132 (gT_I e36 (gT_I e34 (gT_R e17 hT3))) (fun _ q => gE_wI q) ?_
      refine x_let (fun s37 e38 => ?_)
      refine x_aload_n (μ := mu_x3_opens) (pc := 135) 5 dX3_opens_135 rfl ?_
      refine x_iload (μ := mu_x3_opens) (pc := 136) 2 dX3_opens_136 rfl ?_
      refine x_iload (μ := mu_x3_opens) (pc := 138) 0 dX3_opens_138 rfl ?_
      refine x_mmax (μ := mu_x3_opens) (pc := 140) q1229 dX3_opens_140 hr25 hr32 (by omega) (Nat.le_of_ble_eq_true rfl) ?_
      refine x_w1 ?_
      refine x_fpi (μ := mu_x3_opens) (pc := 143) fX3_12 q410 dX3_opens_143 (gT_I e38 (gT_I e36 (gT_I e34 (gT_R e17 hT3)))) (fun _ q => gE_wI q) ?_
      refine x_let (fun s39 e40 => ?_)
      refine x_aload_n (μ := mu_x3_opens) (pc := 146) 5 dX3_opens_146 rfl ?_
      refine x_aload_n (μ := mu_x3_opens) (pc := 147) 5 dX3_opens_147 rfl ?_
      refine x_fgi (μ := mu_x3_opens) (pc := 148) fX3_9 q407 dX3_opens_148 (gT_I e40 (gT_I e38 (gT_I e36 (gT_I e34 (gT_R e17 hT3))))) (fun hr41 => ?_)
      refine x_fpi (μ := mu_x3_opens) (pc := 151) fX3_13 q411 dX3_opens_151 (gT_I e40 (gT_I e38 (gT_I e36 (gT_I e34 (gT_R e17 hT3))))) (fun _ q => gE_wI q) ?_
      refine x_let (fun s42 e43 => ?_)
      refine x_aload_n (μ := mu_x3_opens) (pc := 154) 5 dX3_opens_154 rfl ?_
      refine x_aload_n (μ := mu_x3_opens) (pc := 155) 5 dX3_opens_155 rfl ?_
      refine x_fgi (μ := mu_x3_opens) (pc := 156) fX3_10 q408 dX3_opens_156 (gT_I e43 (gT_I e40 (gT_I e38 (gT_I e36 (gT_I e34 (gT_R e17 hT3)))))) (fun hr44 => ?_)
      refine x_fpi (μ := mu_x3_opens) (pc := 159) fX3_14 q412 dX3_opens_159 (gT_I e43 (gT_I e40 (gT_I e38 (gT_I e36 (gT_I e34 (gT_R e17 hT3)))))) (fun _ q => gE_wI q) ?_
      refine x_let (fun s45 e46 => ?_)
      refine x_iconst (μ := mu_x3_opens) (pc := 162) dX3_opens_162 ?_
      exact x_zret (μ := mu_x3_opens) (pc := 163) dX3_opens_163 rfl (by decide) rfl (gRel_E.1 _) (show g32 1 from (by decide))
    · refine x_aload_n (μ := mu_x3_opens) (pc := 31) 3 dX3_opens_31 rfl ?_
      refine x_iconst (μ := mu_x3_opens) (pc := 32) dX3_opens_32 ?_
      refine x_if (fun hT47 => ?_)
      refine x_callV_mv (μ := mu_x3_opens) (pc := 33) (ok_x5_fail (ω := ω) (l := l) (d := d - 1) hl (by omega) (by decide)) gRel_E gRel_E (fun _ q => q) q968 q969 q970 q225 q971 dX3_opens_33 rfl hT47 hy_x5_fail (by omega) (Nat.le_of_ble_eq_true rfl) rfl (Nat.le_of_ble_eq_true rfl) (fun x48 k49 => ?_)
      refine x_iconst (μ := mu_x3_opens) (pc := 36) dX3_opens_36 ?_
      exact x_zret (μ := mu_x3_opens) (pc := 37) dX3_opens_37 rfl (by decide) rfl (gRel_E.1 _) (show g32 0 from (by decide))
def x3_isThere (N : Nat) (v0 : Nat) (v1 : Nat) (σ : gMem) : Option Int := if v1 = 0 ∨ gNode (mT σ v1) = true then if mT σ v1 = 15 then if v1 = 0 ∨ mT σ v1 = 15 then if mT σ v1 = 15 then if v1 = 0 ∨ mT σ v1 = 15 then if mT σ v0 = 3 then (x3_sheetOf v0 (mI σ v1 1) σ).bind (fun x7 => if mT σ (mR σ v1 0) = 14 then (x16_isIn N (mR σ v1 0) x7 σ).bind (fun x9 => if x9 = 0 ∨ x9 = 1 then some x9 else none) else none) else none else none else none else none else if v1 = 0 ∨ gNode (mT σ v1) = true then if mT σ v1 = 13 then some 0 else some 1 else none else none
set_option maxRecDepth 100000 in
theorem ok_x3_isThere {ω : gW} {l : Launch} {d : Nat} {N : Nat} {σ : gMem} {v0 : Nat} {v1 : Nat} (hl : l.stackTraces = false) (hdp : 3 ≤ d) : gK (fun x : Int => (.inl (some (vI x)), σ)) gE ω l d mu_x3_isThere [vR v0, vR v1] σ (x3_isThere N v0 v1 σ) := by
  refine gK.of hp_X3 (Nat.le_of_ble_eq_true rfl) ?_
  unfold x3_isThere
  refine x_aload_n (μ := mu_x3_isThere) (pc := 0) 1 dX3_isThere_0 rfl ?_
  refine x_if (fun hg1 => ?_)
  refine x_inst (μ := mu_x3_isThere) (pc := 1) (ci := 14) (by decide) rfl q1260 dX3_isThere_1 hg1 ?_ ?_
  · refine x_if_eqF (μ := mu_x3_isThere) (pc := 4) (tgt := 29) dX3_isThere_4 rfl (by decide) (by decide) ?_
    refine x_aload_n (μ := mu_x3_isThere) (pc := 7) 1 dX3_isThere_7 rfl ?_
    refine x_if (fun hg2 => ?_)
    refine x_castC (μ := mu_x3_isThere) (pc := 8) (ci := 14) rfl q1260 dX3_isThere_8 hg2 ?_
    refine x_if (fun hT3 => ?_)
    refine x_fgrN (μ := mu_x3_isThere) (pc := 11) fX17_0 (by first | exact Or.inl ⟨_, rfl⟩ | exact Or.inr ⟨_, rfl⟩) q1972 dX3_isThere_11 hT3 ?_
    refine x_aload_n (μ := mu_x3_isThere) (pc := 14) 0 dX3_isThere_14 rfl ?_
    refine x_aload_n (μ := mu_x3_isThere) (pc := 15) 1 dX3_isThere_15 rfl ?_
    refine x_if (fun hg4 => ?_)
    refine x_castC (μ := mu_x3_isThere) (pc := 16) (ci := 14) rfl q1260 dX3_isThere_16 hg4 ?_
    refine x_fgiN (μ := mu_x3_isThere) (pc := 19) fX17_1 q1975 dX3_isThere_19 hT3 (fun hr5 => ?_)
    refine x_if (fun hT6 => ?_)
    refine x_callV_pr (μ := mu_x3_isThere) (pc := 22) (ok_x3_sheetOf (ω := ω) (l := l) (d := d - 1) hl (by omega) hr5) gRel_E gRel_E (fun _ q => q) q1223 q1015 q1016 q223 q1017 dX3_isThere_22 rfl hT6 hy_x3_sheetOf (by omega) (Nat.le_of_ble_eq_true rfl) rfl (Nat.le_of_ble_eq_true rfl) (fun x7 => ?_)
    refine x_if (fun hT8 => ?_)
    refine x_callV_pi (μ := mu_x3_isThere) (pc := 25) (ok_x16_isIn (ω := ω) (l := l) (d := d - 1) hl (by omega) ) gRel_E gRel_E (fun _ q => q) q1224 q852 q853 q248 q854 dX3_isThere_25 rfl hT8 hy_x16_isIn (by omega) (Nat.le_of_ble_eq_true rfl) rfl (Nat.le_of_ble_eq_true rfl) (fun x9 hr10 => ?_)
    exact x_if (μ := mu_x3_isThere) (pc := 28) (fun hz => x_zret dX3_isThere_28 rfl hz rfl (gRel_E.1 _) (show g32 x9 from hr10))
  · refine x_if_eqT (μ := mu_x3_isThere) (pc := 4) (tgt := 29) dX3_isThere_4 rfl (by decide) (by decide) ?_
    refine x_aload_n (μ := mu_x3_isThere) (pc := 29) 1 dX3_isThere_29 rfl ?_
    refine x_if (fun hg11 => ?_)
    refine x_inst (μ := mu_x3_isThere) (pc := 30) (ci := 12) (by decide) rfl q1261 dX3_isThere_30 hg11 ?_ ?_
    · refine x_if_neT (μ := mu_x3_isThere) (pc := 33) (tgt := 40) dX3_isThere_33 rfl (by decide) (by decide) ?_
      refine x_iconst (μ := mu_x3_isThere) (pc := 40) dX3_isThere_40 ?_
      exact x_zret (μ := mu_x3_isThere) (pc := 41) dX3_isThere_41 rfl (by decide) rfl (gRel_E.1 _) (show g32 0 from (by decide))
    · refine x_if_neF (μ := mu_x3_isThere) (pc := 33) (tgt := 40) dX3_isThere_33 rfl (by decide) (by decide) ?_
      refine x_iconst (μ := mu_x3_isThere) (pc := 36) dX3_isThere_36 ?_
      refine x_goto (μ := mu_x3_isThere) (pc := 37) (tgt := 41) dX3_isThere_37 rfl ?_
      exact x_zret (μ := mu_x3_isThere) (pc := 41) dX3_isThere_41 rfl (by decide) rfl (gRel_E.1 _) (show g32 1 from (by decide))
def x4_first_l32 (N : Nat) (σ : gMem) (v0 : Nat) (v1 : Int) (K : Int → Int → Option Int) : Nat → Int → Int → Option Int
  | 0, _, _ => none
  | n + 1, v3, v4 => if gcmp v4 (((0 : Fin 2) : Nat) : Int) ≠ 0 then K v3 v4 else if 4 ≤ v3 then K v3 v4 else if mT σ v0 = 4 then if mT σ (mR σ v0 0) = 101 then if 0 ≤ ((5 * v1) + (w32 (v3 + 1))) ∧ ((5 * v1) + (w32 (v3 + 1))) < (mN σ (mR σ v0 0) : Int) then x4_first_l32 N σ v0 v1 K n (w32 (v3 + 1)) (mL σ (mR σ v0 0) ((5 * v1) + (w32 (v3 + 1))).toNat) else none else none else none
set_option maxRecDepth 100000 in
theorem okl_x4_first_l32 {ω : gW} {l : Launch} {d : Nat} {N : Nat} {σ : gMem} {v0 : Nat} {v1 : Int} {K : Int → Int → Option Int} (hl : l.stackTraces = false) (hdp : 2 ≤ d) (hv1 : g32 v1) (hK : ∀ (v3 : Int) (v4 : Int) , g32 v3 → g64 v4 → GG (fun x : Int => (.inl (some (vI x)), σ)) gE ω l d mu_x4_first σ 62 [(3, vI v3), (4, vL v4)] [] σ (K v3 v4)) : ∀ (n : Nat) (v3 : Int) (v4 : Int) , g32 v3 → g64 v4 → GG (fun x : Int => (.inl (some (vI x)), σ)) gE ω l d mu_x4_first σ 32 [(0, vR v0), (1, vI v1), (3, vI v3), (4, vL v4)] [] σ (x4_first_l32 N σ v0 v1 K n v3 v4) := by
  intro n
  induction n with
  | zero => intros; exact x_none
  | succ n ih =>
    intro v3 v4 hv3 hv4
    unfold x4_first_l32
    refine x_lload (μ := mu_x4_first) (pc := 32) 3 dX4_first_32 rfl ?_
    refine x_lconst (μ := mu_x4_first) (pc := 34) dX4_first_34 ?_
    refine x_lcmp (μ := mu_x4_first) (pc := 35) dX4_first_35 hv4 (by decide) ?_
    refine x_if_ne (μ := mu_x4_first) (pc := 36) (tgt := 62) dX4_first_36 rfl (gcmp_rng _ _) ?_ ?_
    · refine x_loc (lv' := [(3, vI v3), (4, vL v4)]) [2, 3] rfl ?_
      exact hK v3 v4 hv3 hv4
    · refine x_iload_n (μ := mu_x4_first) (pc := 39) 2 dX4_first_39 rfl ?_
      refine x_iconst (μ := mu_x4_first) (pc := 40) dX4_first_40 ?_
      refine x_icmp_ge (μ := mu_x4_first) (pc := 41) (tgt := 62) dX4_first_41 rfl hv3 (by decide) ?_ ?_
      · refine x_loc (lv' := [(3, vI v3), (4, vL v4)]) [2, 3] rfl ?_
        exact hK v3 v4 hv3 hv4
      · refine x_iincw (μ := mu_x4_first) (pc := 44) (lv' := [(3, vI (w32 (v3 + 1))), (0, vR v0), (1, vI v1), (4, vL v4)]) 2 dX4_first_44 rfl (by decide) rfl ?_
        refine x_aload_n (μ := mu_x4_first) (pc := 47) 1 dX4_first_47 rfl ?_
        refine x_if (fun hT4 => ?_)
        refine x_fgr (μ := mu_x4_first) (pc := 48) fX4_0 (by first | exact Or.inl ⟨_, rfl⟩ | exact Or.inr ⟨_, rfl⟩) q320 dX4_first_48 hT4 ?_
        refine x_iconst (μ := mu_x4_first) (pc := 51) dX4_first_51 ?_
        refine x_iload_n (μ := mu_x4_first) (pc := 52) 2 dX4_first_52 rfl ?_
        refine x_imul (μ := mu_x4_first) (pc := 53) dX4_first_53 ?_
        refine x_iload_n (μ := mu_x4_first) (pc := 54) 0 dX4_first_54 rfl ?_
        refine x_iadd (μ := mu_x4_first) (pc := 55) dX4_first_55 ?_
        refine x_if (fun hT5 => ?_)
        refine x_lald (μ := mu_x4_first) (pc := 56) dX4_first_56 hT5 rfl (fun hr6 => ?_)
        refine x_lstore (μ := mu_x4_first) (pc := 57) (lv' := [(4, vL (mL σ (mR σ v0 0) ((5 * v1) + (w32 (v3 + 1))).toNat)), (3, vI (w32 (v3 + 1))), (0, vR v0), (1, vI v1)]) dX4_first_57 (by decide) rfl ?_
        refine x_goto (μ := mu_x4_first) (pc := 59) (tgt := 32) dX4_first_59 rfl ?_
        refine x_loc (lv' := [(0, vR v0), (1, vI v1), (3, vI (w32 (v3 + 1))), (4, vL (mL σ (mR σ v0 0) ((5 * v1) + (w32 (v3 + 1))).toNat))]) [2, 3, 1, 0] rfl ?_
        exact ih (w32 (v3 + 1)) (mL σ (mR σ v0 0) ((5 * v1) + (w32 (v3 + 1))).toNat) (w32_rng _) hr6
def x4_first_j62 (N : Nat) (σ : gMem) (v3 : Int) (v4 : Int) : Option Int := if gcmp v4 (((0 : Fin 2) : Nat) : Int) ≠ 0 then (j15_numberOfTrailingZeros v4 σ).bind (fun x9 => some (w32 ((64 * v3) + x9))) else some (-1)
set_option maxRecDepth 100000 in
theorem okj_x4_first_j62 {ω : gW} {l : Launch} {d : Nat} {N : Nat} {σ : gMem} {v3 : Int} {v4 : Int} (hl : l.stackTraces = false) (hdp : 2 ≤ d) (hv3 : g32 v3) (hv4 : g64 v4) : GG (fun x : Int => (.inl (some (vI x)), σ)) gE ω l d mu_x4_first σ 62 [(3, vI v3), (4, vL v4)] [] σ (x4_first_j62 N σ v3 v4 ) := by
  unfold x4_first_j62
  refine x_lload (μ := mu_x4_first) (pc := 62) 1 dX4_first_62 rfl ?_
  refine x_lconst (μ := mu_x4_first) (pc := 64) dX4_first_64 ?_
  refine x_lcmp (μ := mu_x4_first) (pc := 65) dX4_first_65 hv4 (by decide) ?_
  refine x_if_ne (μ := mu_x4_first) (pc := 66) (tgt := 73) dX4_first_66 rfl (gcmp_rng _ _) ?_ ?_
  · refine x_bipush (μ := mu_x4_first) (pc := 73) dX4_first_73 (by decide) ?_
    refine x_iload_n (μ := mu_x4_first) (pc := 75) 0 dX4_first_75 rfl ?_
    refine x_imul (μ := mu_x4_first) (pc := 76) dX4_first_76 ?_
    refine x_lload (μ := mu_x4_first) (pc := 77) 1 dX4_first_77 rfl ?_
    refine x_callS_pi (μ := mu_x4_first) (pc := 79) (ok_j15_numberOfTrailingZeros (ω := ω) (l := l) (d := d - 1) hl (by omega) hv4) gRel_E gRel_E (fun _ q => q) q949 q950 q263 q951 dX4_first_79 hy_j15_numberOfTrailingZeros (by omega) (Nat.le_of_ble_eq_true rfl) rfl (Nat.le_of_ble_eq_true rfl) (fun x9 hr10 => ?_)
    refine x_iadd (μ := mu_x4_first) (pc := 82) dX4_first_82 ?_
    refine x_w1 ?_
    exact x_iret (μ := mu_x4_first) (pc := 83) dX4_first_83 rfl rfl (gRel_E.1 _) (show g32 (w32 ((64 * v3) + x9)) from (w32_rng _))
  · refine x_iconst (μ := mu_x4_first) (pc := 69) dX4_first_69 ?_
    refine x_goto (μ := mu_x4_first) (pc := 70) (tgt := 83) dX4_first_70 rfl ?_
    exact x_iret (μ := mu_x4_first) (pc := 83) dX4_first_83 rfl rfl (gRel_E.1 _) (show g32 (-1) from (by decide))
def x4_first (N : Nat) (v0 : Nat) (v1 : Int) (v2 : Int) (σ : gMem) : Option Int := if v2 < 320 then if mT σ v0 = 4 then if mT σ (mR σ v0 0) = 101 then if 0 ≤ ((5 * v1) + (bShr v2 6)) ∧ ((5 * v1) + (bShr v2 6)) < (mN σ (mR σ v0 0) : Int) then x4_first_l32 N σ v0 v1 (fun y7 y8 => x4_first_j62 N σ y7 y8 ) N (bShr v2 6) (lAnd (mL σ (mR σ v0 0) ((5 * v1) + (bShr v2 6)).toNat) (lShl (-1) v2)) else none else none else none else some (-1)
set_option maxRecDepth 100000 in
theorem ok_x4_first {ω : gW} {l : Launch} {d : Nat} {N : Nat} {σ : gMem} {v0 : Nat} {v1 : Int} {v2 : Int} (hl : l.stackTraces = false) (hdp : 2 ≤ d) (hv1 : g32 v1) (hv2 : g32 v2) : gK (fun x : Int => (.inl (some (vI x)), σ)) gE ω l d mu_x4_first [vR v0, vI v1, vI v2] σ (x4_first N v0 v1 v2 σ) := by
  refine gK.of hp_X4 (Nat.le_of_ble_eq_true rfl) ?_
  unfold x4_first
  refine x_iload_n (μ := mu_x4_first) (pc := 0) 2 dX4_first_0 rfl ?_
  refine x_sipush (μ := mu_x4_first) (pc := 1) dX4_first_1 (by decide) ?_
  refine x_icmp_lt (μ := mu_x4_first) (pc := 4) (tgt := 9) dX4_first_4 rfl hv2 (by decide) ?_ ?_
  · refine x_iload_n (μ := mu_x4_first) (pc := 9) 2 dX4_first_9 rfl ?_
    refine x_bipush (μ := mu_x4_first) (pc := 10) dX4_first_10 (by decide) ?_
    refine x_ishr (μ := mu_x4_first) (pc := 12) dX4_first_12 ?_
    refine x_istore_n (μ := mu_x4_first) (pc := 13) (lv' := [(3, vI (bShr v2 6)), (0, vR v0), (1, vI v1), (2, vI v2)]) dX4_first_13 rfl (by decide) rfl ?_
    refine x_aload_n (μ := mu_x4_first) (pc := 14) 1 dX4_first_14 rfl ?_
    refine x_if (fun hT1 => ?_)
    refine x_fgr (μ := mu_x4_first) (pc := 15) fX4_0 (by first | exact Or.inl ⟨_, rfl⟩ | exact Or.inr ⟨_, rfl⟩) q320 dX4_first_15 hT1 ?_
    refine x_iconst (μ := mu_x4_first) (pc := 18) dX4_first_18 ?_
    refine x_iload_n (μ := mu_x4_first) (pc := 19) 2 dX4_first_19 rfl ?_
    refine x_imul (μ := mu_x4_first) (pc := 20) dX4_first_20 ?_
    refine x_iload_n (μ := mu_x4_first) (pc := 21) 0 dX4_first_21 rfl ?_
    refine x_iadd (μ := mu_x4_first) (pc := 22) dX4_first_22 ?_
    refine x_if (fun hT2 => ?_)
    refine x_lald (μ := mu_x4_first) (pc := 23) dX4_first_23 hT2 rfl (fun hr3 => ?_)
    refine x_ldc2 (μ := mu_x4_first) (pc := 24) (n := -1) dX4_first_24 ((by decide : (-1 : Int64) = Int64.ofInt (-1)) ▸ q948) ?_
    refine x_iload_n (μ := mu_x4_first) (pc := 27) 3 dX4_first_27 rfl ?_
    refine x_lshl (μ := mu_x4_first) (pc := 28) dX4_first_28 ?_
    refine x_land (μ := mu_x4_first) (pc := 29) dX4_first_29 ?_
    refine x_lstore (μ := mu_x4_first) (pc := 30) (lv' := [(4, vL (lAnd (mL σ (mR σ v0 0) ((5 * v1) + (bShr v2 6)).toNat) (lShl (-1) v2))), (3, vI (bShr v2 6)), (0, vR v0), (1, vI v1), (2, vI v2)]) dX4_first_30 (by decide) rfl ?_
    refine x_loc (lv' := [(0, vR v0), (1, vI v1), (3, vI (bShr v2 6)), (4, vL (lAnd (mL σ (mR σ v0 0) ((5 * v1) + (bShr v2 6)).toNat) (lShl (-1) v2)))]) [2, 3, 1, 0] rfl ?_
    refine okl_x4_first_l32 hl hdp hv1 (fun y7 y8 hy7 hy8 => ?_) N (bShr v2 6) (lAnd (mL σ (mR σ v0 0) ((5 * v1) + (bShr v2 6)).toNat) (lShl (-1) v2)) (bShr_rng _ _) (lAnd_rng _ _)
    exact okj_x4_first_j62 hl hdp hy7 hy8
  · refine x_iconst (μ := mu_x4_first) (pc := 7) dX4_first_7 ?_
    exact x_iret (μ := mu_x4_first) (pc := 8) dX4_first_8 rfl rfl (gRel_E.1 _) (show g32 (-1) from (by decide))
def x6_isPlain (N : Nat) (v0 : Nat) (σ : gMem) : Option Int := if mT σ v0 = 102 then if w32 (mN σ v0 : Int) = 0 then some 0 else if 0 ≤ (0 : Int) ∧ (0 : Int) < (mN σ v0 : Int) then if mI σ v0 (0 : Int).toNat = 39 then some 0 else if 0 ≤ (0 : Int) ∧ (0 : Int) < (mN σ v0 : Int) then if mI σ v0 (0 : Int).toNat = 61 then some 0 else if 0 ≤ (0 : Int) ∧ (0 : Int) < (mN σ v0 : Int) then if mI σ v0 (0 : Int).toNat = 32 then some 0 else if 0 ≤ ((w32 (mN σ v0 : Int)) - 1) ∧ ((w32 (mN σ v0 : Int)) - 1) < (mN σ v0 : Int) then if mI σ v0 ((w32 (mN σ v0 : Int)) - 1).toNat ≠ 32 then (x6_isWhole N v0 0 (w32 (mN σ v0 : Int)) σ).bind (fun x6 => if x6 ≠ 0 then some 0 else (x6_isTruth N v0 0 (w32 (mN σ v0 : Int)) σ).bind (fun x8 => if x8 ≠ 0 then some 0 else some 1)) else some 0 else none else none else none else none else none
set_option maxRecDepth 100000 in
theorem ok_x6_isPlain {ω : gW} {l : Launch} {d : Nat} {N : Nat} {σ : gMem} {v0 : Nat} (hl : l.stackTraces = false) (hdp : 7 ≤ d) : gK (fun x : Int => (.inl (some (vI x)), σ)) gE ω l d mu_x6_isPlain [vR v0] σ (x6_isPlain N v0 σ) := by
  refine gK.of hp_X6 (Nat.le_of_ble_eq_true rfl) ?_
  unfold x6_isPlain
  refine x_aload_n (μ := mu_x6_isPlain) (pc := 0) 0 dX6_isPlain_0 rfl ?_
  refine x_if (fun hT1 => ?_)
  refine x_len (μ := mu_x6_isPlain) (pc := 1) 2 (fun _ => rfl) dX6_isPlain_1 hT1 ?_
  refine x_w1 ?_
  refine x_istore_n (μ := mu_x6_isPlain) (pc := 2) (lv' := [(1, vI (w32 (mN σ v0 : Int))), (0, vR v0)]) dX6_isPlain_2 rfl (by decide) rfl ?_
  refine x_iload_n (μ := mu_x6_isPlain) (pc := 3) 0 dX6_isPlain_3 rfl ?_
  refine x_if_eq (μ := mu_x6_isPlain) (pc := 4) (tgt := 41) dX6_isPlain_4 rfl (w32_rng _) ?_ ?_
  · refine x_iconst (μ := mu_x6_isPlain) (pc := 41) dX6_isPlain_41 ?_
    exact x_zret (μ := mu_x6_isPlain) (pc := 42) dX6_isPlain_42 rfl (by decide) rfl (gRel_E.1 _) (show g32 0 from (by decide))
  · refine x_aload_n (μ := mu_x6_isPlain) (pc := 7) 1 dX6_isPlain_7 rfl ?_
    refine x_iconst (μ := mu_x6_isPlain) (pc := 8) dX6_isPlain_8 ?_
    refine x_bald (μ := mu_x6_isPlain) (pc := 9) dX6_isPlain_9 hT1 rfl (fun hr2 => ?_)
    refine x_bipush (μ := mu_x6_isPlain) (pc := 10) dX6_isPlain_10 (by decide) ?_
    refine x_icmp_eq (μ := mu_x6_isPlain) (pc := 12) (tgt := 41) dX6_isPlain_12 rfl hr2 (by decide) ?_ ?_
    · refine x_iconst (μ := mu_x6_isPlain) (pc := 41) dX6_isPlain_41 ?_
      exact x_zret (μ := mu_x6_isPlain) (pc := 42) dX6_isPlain_42 rfl (by decide) rfl (gRel_E.1 _) (show g32 0 from (by decide))
    · refine x_aload_n (μ := mu_x6_isPlain) (pc := 15) 1 dX6_isPlain_15 rfl ?_
      refine x_iconst (μ := mu_x6_isPlain) (pc := 16) dX6_isPlain_16 ?_
      refine x_bald (μ := mu_x6_isPlain) (pc := 17) dX6_isPlain_17 hT1 rfl (fun hr3 => ?_)
      refine x_bipush (μ := mu_x6_isPlain) (pc := 18) dX6_isPlain_18 (by decide) ?_
      refine x_icmp_eq (μ := mu_x6_isPlain) (pc := 20) (tgt := 41) dX6_isPlain_20 rfl hr3 (by decide) ?_ ?_
      · refine x_iconst (μ := mu_x6_isPlain) (pc := 41) dX6_isPlain_41 ?_
        exact x_zret (μ := mu_x6_isPlain) (pc := 42) dX6_isPlain_42 rfl (by decide) rfl (gRel_E.1 _) (show g32 0 from (by decide))
      · refine x_aload_n (μ := mu_x6_isPlain) (pc := 23) 1 dX6_isPlain_23 rfl ?_
        refine x_iconst (μ := mu_x6_isPlain) (pc := 24) dX6_isPlain_24 ?_
        refine x_bald (μ := mu_x6_isPlain) (pc := 25) dX6_isPlain_25 hT1 rfl (fun hr4 => ?_)
        refine x_bipush (μ := mu_x6_isPlain) (pc := 26) dX6_isPlain_26 (by decide) ?_
        refine x_icmp_eq (μ := mu_x6_isPlain) (pc := 28) (tgt := 41) dX6_isPlain_28 rfl hr4 (by decide) ?_ ?_
        · refine x_iconst (μ := mu_x6_isPlain) (pc := 41) dX6_isPlain_41 ?_
          exact x_zret (μ := mu_x6_isPlain) (pc := 42) dX6_isPlain_42 rfl (by decide) rfl (gRel_E.1 _) (show g32 0 from (by decide))
        · refine x_aload_n (μ := mu_x6_isPlain) (pc := 31) 1 dX6_isPlain_31 rfl ?_
          refine x_iload_n (μ := mu_x6_isPlain) (pc := 32) 0 dX6_isPlain_32 rfl ?_
          refine x_iconst (μ := mu_x6_isPlain) (pc := 33) dX6_isPlain_33 ?_
          refine x_isub (μ := mu_x6_isPlain) (pc := 34) dX6_isPlain_34 ?_
          refine x_bald (μ := mu_x6_isPlain) (pc := 35) dX6_isPlain_35 hT1 rfl (fun hr5 => ?_)
          refine x_bipush (μ := mu_x6_isPlain) (pc := 36) dX6_isPlain_36 (by decide) ?_
          refine x_icmp_ne (μ := mu_x6_isPlain) (pc := 38) (tgt := 43) dX6_isPlain_38 rfl hr5 (by decide) ?_ ?_
          · refine x_aload_n (μ := mu_x6_isPlain) (pc := 43) 1 dX6_isPlain_43 rfl ?_
            refine x_iconst (μ := mu_x6_isPlain) (pc := 44) dX6_isPlain_44 ?_
            refine x_iload_n (μ := mu_x6_isPlain) (pc := 45) 0 dX6_isPlain_45 rfl ?_
            refine x_callS_pi (μ := mu_x6_isPlain) (pc := 46) (ok_x6_isWhole (ω := ω) (l := l) (d := d - 1) hl (by omega) (by decide) (w32_rng _)) gRel_E gRel_E (fun _ q => q) q1534 q1535 q226 q1536 dX6_isPlain_46 hy_x6_isWhole (by omega) (Nat.le_of_ble_eq_true rfl) rfl (Nat.le_of_ble_eq_true rfl) (fun x6 hr7 => ?_)
            refine x_if_ne (μ := mu_x6_isPlain) (pc := 49) (tgt := 65) dX6_isPlain_49 rfl hr7 ?_ ?_
            · refine x_iconst (μ := mu_x6_isPlain) (pc := 65) dX6_isPlain_65 ?_
              exact x_zret (μ := mu_x6_isPlain) (pc := 66) dX6_isPlain_66 rfl (by decide) rfl (gRel_E.1 _) (show g32 0 from (by decide))
            · refine x_aload_n (μ := mu_x6_isPlain) (pc := 52) 1 dX6_isPlain_52 rfl ?_
              refine x_iconst (μ := mu_x6_isPlain) (pc := 53) dX6_isPlain_53 ?_
              refine x_iload_n (μ := mu_x6_isPlain) (pc := 54) 0 dX6_isPlain_54 rfl ?_
              refine x_callS_pi (μ := mu_x6_isPlain) (pc := 55) (ok_x6_isTruth (ω := ω) (l := l) (d := d - 1) hl (by omega) (by decide) (w32_rng _)) gRel_E gRel_E (fun _ q => q) q1540 q1541 q226 q1542 dX6_isPlain_55 hy_x6_isTruth (by omega) (Nat.le_of_ble_eq_true rfl) rfl (Nat.le_of_ble_eq_true rfl) (fun x8 hr9 => ?_)
              refine x_if_ne (μ := mu_x6_isPlain) (pc := 58) (tgt := 65) dX6_isPlain_58 rfl hr9 ?_ ?_
              · refine x_iconst (μ := mu_x6_isPlain) (pc := 65) dX6_isPlain_65 ?_
                exact x_zret (μ := mu_x6_isPlain) (pc := 66) dX6_isPlain_66 rfl (by decide) rfl (gRel_E.1 _) (show g32 0 from (by decide))
              · refine x_iconst (μ := mu_x6_isPlain) (pc := 61) dX6_isPlain_61 ?_
                refine x_goto (μ := mu_x6_isPlain) (pc := 62) (tgt := 66) dX6_isPlain_62 rfl ?_
                exact x_zret (μ := mu_x6_isPlain) (pc := 66) dX6_isPlain_66 rfl (by decide) rfl (gRel_E.1 _) (show g32 1 from (by decide))
          · refine x_iconst (μ := mu_x6_isPlain) (pc := 41) dX6_isPlain_41 ?_
            exact x_zret (μ := mu_x6_isPlain) (pc := 42) dX6_isPlain_42 rfl (by decide) rfl (gRel_E.1 _) (show g32 0 from (by decide))
def x6_product_l10_j66 (N : Nat) (W : Nat → gMem → Option gR) (v0 : Nat) (v1 : Nat) (t0 : Nat) (t1 : Nat) (Kh : Nat → Int → gMem → Option gR) (K : Nat → gMem → Option gR) (s : gMem) : Option gR := if mT s v0 = 6 then (W v0 s).bind (fun p => gThrR p (fun x13 s15 => if mT s15 t1 = 6 then (x6_two t1 t0 v1 x13 s15).bind (fun x17 => (x6_peek N v0 (x17.2)).bind (fun x19 => Kh (x17.1) (x19.1) (x19.2))) else none)) else none
set_option maxRecDepth 100000 in
theorem okj_x6_product_l10_j66 {ω : gW} {l : Launch} {d : Nat} {N : Nat} {W : Nat → gMem → Option gR} {dW : Nat} {σ0 : gMem} {s : gMem} {v0 : Nat} {v1 : Nat} {t0 : Nat} {t1 : Nat} {Kh : Nat → Int → gMem → Option gR} {K : Nat → gMem → Option gR} (hl : l.stackTraces = false) (hW : ∀ (a0 : Nat) (s : gMem), gK (fun p : gR => p) gE ω l dW mu_x6_sign [vR a0] s (W a0 s)) (hdp : 4 ≤ d) (hdw : dW + 1 ≤ d) (hKh : ∀ (v1 : Nat) (v2 : Int) (s : gMem) , g32 v2 → GG (fun p : gR => p) gE ω l d mu_x6_product σ0 10 [(0, vR v0), (1, vR v1), (2, vI v2)] [] s (Kh v1 v2 s)) (hK : ∀ (v1 : Nat) (s : gMem) , GG (fun p : gR => p) gE ω l d mu_x6_product σ0 83 [(1, vR v1)] [] s (K v1 s)) : GG (fun p : gR => p) gE ω l d mu_x6_product σ0 66 [(0, vR v0), (1, vR v1)] [vR t0, vR t1] s (x6_product_l10_j66 N W v0 v1 t0 t1 Kh K s) := by
  unfold x6_product_l10_j66
  refine x_aload_n (μ := mu_x6_product) (pc := 66) 1 dX6_product_66 rfl ?_
  refine x_aload_n (μ := mu_x6_product) (pc := 67) 0 dX6_product_67 rfl ?_
  refine x_if (fun hT12 => ?_)
  refine x_callV_xr (μ := mu_x6_product) (pc := 68) (hW v0 s ) q1807 q1809 qs33 q226 q1810 dX6_product_68 rfl hT12 hy_x6_sign (by omega) (Nat.le_of_ble_eq_true rfl) rfl (Nat.le_of_ble_eq_true rfl) (by decide) (fun x13 s15 k14 => ?_)
  refine x_if (fun hT16 => ?_)
  refine x_callV_mr (μ := mu_x6_product) (pc := 71) (ok_x6_two (ω := ω) (l := l) (d := d - 1) hl (by omega) ) gRel_E gRel_E (fun _ q => q) q2062 q2064 qs57 q226 q2065 dX6_product_71 rfl hT16 hy_x6_two (by omega) (Nat.le_of_ble_eq_true rfl) rfl (Nat.le_of_ble_eq_true rfl) (fun x17 k18 => ?_)
  refine x_astore_n (μ := mu_x6_product) (pc := 74) (lv' := [(1, vR (x17.1)), (0, vR v0)]) dX6_product_74 rfl (by decide) rfl ?_
  refine x_aload_n (μ := mu_x6_product) (pc := 75) 1 dX6_product_75 rfl ?_
  refine x_callV_mi (μ := mu_x6_product) (pc := 76) (ok_x6_peek (ω := ω) (l := l) (d := d - 1) hl (by omega) ) gRel_E gRel_E (fun _ q => q) q1811 q1813 qs34 q226 q1814 dX6_product_76 rfl (gT_E k18 (gT_E k14 hT12 (by decide)) (by decide)) hy_x6_peek (by omega) (Nat.le_of_ble_eq_true rfl) rfl (Nat.le_of_ble_eq_true rfl) (fun x19 k21 hr20 => ?_)
  refine x_istore_n (μ := mu_x6_product) (pc := 79) (lv' := [(2, vI (x19.1)), (1, vR (x17.1)), (0, vR v0)]) dX6_product_79 rfl (by decide) rfl ?_
  refine x_goto (μ := mu_x6_product) (pc := 80) (tgt := 10) dX6_product_80 rfl ?_
  refine x_loc (lv' := [(0, vR v0), (1, vR (x17.1)), (2, vI (x19.1))]) [2, 1, 0] rfl ?_
  exact hKh (x17.1) (x19.1) (x19.2) hr20
def x6_product_l10_j28 (N : Nat) (W : Nat → gMem → Option gR) (v0 : Nat) (v1 : Nat) (v2 : Int) (Kh : Nat → Int → gMem → Option gR) (K : Nat → gMem → Option gR) (s : gMem) : Option gR := if mT s v0 = 6 then gLet (wI s v0 6 (w32 ((mI s v0 6) + 1))) (fun s10 => if v2 ≠ 42 then if v2 ≠ 47 then x6_product_l10_j66 N W v0 v1 (mR s10 0 31) v0 (Kh) K s10 else x6_product_l10_j66 N W v0 v1 (mR s10 0 30) v0 (Kh) K s10 else x6_product_l10_j66 N W v0 v1 (mR s10 0 29) v0 (Kh) K s10) else none
set_option maxRecDepth 100000 in
theorem okj_x6_product_l10_j28 {ω : gW} {l : Launch} {d : Nat} {N : Nat} {W : Nat → gMem → Option gR} {dW : Nat} {σ0 : gMem} {s : gMem} {v0 : Nat} {v1 : Nat} {v2 : Int} {Kh : Nat → Int → gMem → Option gR} {K : Nat → gMem → Option gR} (hl : l.stackTraces = false) (hW : ∀ (a0 : Nat) (s : gMem), gK (fun p : gR => p) gE ω l dW mu_x6_sign [vR a0] s (W a0 s)) (hdp : 4 ≤ d) (hdw : dW + 1 ≤ d) (hv2 : g32 v2) (hKh : ∀ (v1 : Nat) (v2 : Int) (s : gMem) , g32 v2 → GG (fun p : gR => p) gE ω l d mu_x6_product σ0 10 [(0, vR v0), (1, vR v1), (2, vI v2)] [] s (Kh v1 v2 s)) (hK : ∀ (v1 : Nat) (s : gMem) , GG (fun p : gR => p) gE ω l d mu_x6_product σ0 83 [(1, vR v1)] [] s (K v1 s)) : GG (fun p : gR => p) gE ω l d mu_x6_product σ0 28 [(0, vR v0), (1, vR v1), (2, vI v2)] [] s (x6_product_l10_j28 N W v0 v1 v2 Kh K s) := by
  unfold x6_product_l10_j28
  refine x_aload_n (μ := mu_x6_product) (pc := 28) 0 dX6_product_28 rfl ?_
  refine x_dup (μ := mu_x6_product) (pc := 29) dX6_product_29 rfl ?_
  refine x_if (fun hT8 => ?_)
  refine x_fgi (μ := mu_x6_product) (pc := 30) fX6_6 q487 dX6_product_30 hT8 (fun hr9 => ?_)
  refine x_iconst (μ := mu_x6_product) (pc := 33) dX6_product_33 ?_
  refine x_iadd (μ := mu_x6_product) (pc := 34) dX6_product_34 ?_
  refine x_w1 ?_
  refine x_fpi (μ := mu_x6_product) (pc := 35) fX6_6 q487 dX6_product_35 hT8 (fun _ q => gE_wI q) ?_
  refine x_let (fun s10 e11 => ?_)
  refine x_aload_n (μ := mu_x6_product) (pc := 38) 0 dX6_product_38 rfl ?_
  refine x_iload_n (μ := mu_x6_product) (pc := 39) 2 dX6_product_39 rfl ?_
  refine x_bipush (μ := mu_x6_product) (pc := 40) dX6_product_40 (by decide) ?_
  refine x_icmp_ne (μ := mu_x6_product) (pc := 42) (tgt := 51) dX6_product_42 rfl hv2 (by decide) ?_ ?_
  · refine x_iload_n (μ := mu_x6_product) (pc := 51) 2 dX6_product_51 rfl ?_
    refine x_bipush (μ := mu_x6_product) (pc := 52) dX6_product_52 (by decide) ?_
    refine x_icmp_ne (μ := mu_x6_product) (pc := 54) (tgt := 63) dX6_product_54 rfl hv2 (by decide) ?_ ?_
    · refine x_gst (μ := mu_x6_product) (pc := 63) (j := 31) (List.mem_of_getElem? (i := 29) rfl) q2060 dX6_product_63 ?_
      refine x_loc (lv' := [(0, vR v0), (1, vR v1)]) [0, 1] rfl ?_
      exact okj_x6_product_l10_j66 hl hW hdp hdw hKh hK
    · refine x_gst (μ := mu_x6_product) (pc := 57) (j := 30) (List.mem_of_getElem? (i := 28) rfl) q2059 dX6_product_57 ?_
      refine x_goto (μ := mu_x6_product) (pc := 60) (tgt := 66) dX6_product_60 rfl ?_
      refine x_loc (lv' := [(0, vR v0), (1, vR v1)]) [0, 1] rfl ?_
      exact okj_x6_product_l10_j66 hl hW hdp hdw hKh hK
  · refine x_gst (μ := mu_x6_product) (pc := 45) (j := 29) (List.mem_of_getElem? (i := 27) rfl) q2057 dX6_product_45 ?_
    refine x_goto (μ := mu_x6_product) (pc := 48) (tgt := 66) dX6_product_48 rfl ?_
    refine x_loc (lv' := [(0, vR v0), (1, vR v1)]) [0, 1] rfl ?_
    exact okj_x6_product_l10_j66 hl hW hdp hdw hKh hK
def x6_product_l10 (N : Nat) (W : Nat → gMem → Option gR) (v0 : Nat) (K : Nat → gMem → Option gR) : Nat → Nat → Int → gMem → Option gR
  | 0, _, _, _ => none
  | n + 1, v1, v2, s => if v2 = 42 then x6_product_l10_j28 N W v0 v1 v2  (x6_product_l10 N W v0 K n) K s else if v2 = 47 then x6_product_l10_j28 N W v0 v1 v2  (x6_product_l10 N W v0 K n) K s else if v2 ≠ 37 then K v1 s else x6_product_l10_j28 N W v0 v1 v2  (x6_product_l10 N W v0 K n) K s
set_option maxRecDepth 100000 in
theorem okl_x6_product_l10 {ω : gW} {l : Launch} {d : Nat} {N : Nat} {W : Nat → gMem → Option gR} {dW : Nat} {σ0 : gMem} {v0 : Nat} {K : Nat → gMem → Option gR} (hl : l.stackTraces = false) (hW : ∀ (a0 : Nat) (s : gMem), gK (fun p : gR => p) gE ω l dW mu_x6_sign [vR a0] s (W a0 s)) (hdp : 4 ≤ d) (hdw : dW + 1 ≤ d) (hK : ∀ (v1 : Nat) (s : gMem) , GG (fun p : gR => p) gE ω l d mu_x6_product σ0 83 [(1, vR v1)] [] s (K v1 s)) : ∀ (n : Nat) (v1 : Nat) (v2 : Int) (s : gMem) , g32 v2 → GG (fun p : gR => p) gE ω l d mu_x6_product σ0 10 [(0, vR v0), (1, vR v1), (2, vI v2)] [] s (x6_product_l10 N W v0 K n v1 v2 s) := by
  intro n
  induction n with
  | zero => intros; exact x_none
  | succ n ih =>
    intro v1 v2 s hv2
    unfold x6_product_l10
    refine x_iload_n (μ := mu_x6_product) (pc := 10) 2 dX6_product_10 rfl ?_
    refine x_bipush (μ := mu_x6_product) (pc := 11) dX6_product_11 (by decide) ?_
    refine x_icmp_eq (μ := mu_x6_product) (pc := 13) (tgt := 28) dX6_product_13 rfl hv2 (by decide) ?_ ?_
    · exact okj_x6_product_l10_j28 hl hW hdp hdw hv2 ih hK
    · refine x_iload_n (μ := mu_x6_product) (pc := 16) 2 dX6_product_16 rfl ?_
      refine x_bipush (μ := mu_x6_product) (pc := 17) dX6_product_17 (by decide) ?_
      refine x_icmp_eq (μ := mu_x6_product) (pc := 19) (tgt := 28) dX6_product_19 rfl hv2 (by decide) ?_ ?_
      · exact okj_x6_product_l10_j28 hl hW hdp hdw hv2 ih hK
      · refine x_iload_n (μ := mu_x6_product) (pc := 22) 2 dX6_product_22 rfl ?_
        refine x_bipush (μ := mu_x6_product) (pc := 23) dX6_product_23 (by decide) ?_
        refine x_icmp_ne (μ := mu_x6_product) (pc := 25) (tgt := 83) dX6_product_25 rfl hv2 (by decide) ?_ ?_
        · refine x_loc (lv' := [(1, vR v1)]) [1] rfl ?_
          exact hK v1 s
        · exact okj_x6_product_l10_j28 hl hW hdp hdw hv2 ih hK
def x6_product (N : Nat) (W : Nat → gMem → Option gR) (v0 : Nat) (σ : gMem) : Option gR := if mT σ v0 = 6 then (W v0 σ).bind (fun p => gThrR p (fun x2 s4 => (x6_peek N v0 s4).bind (fun x5 => x6_product_l10 N W v0 (fun y22 s23 => some (.inl (some (vR y22)), s23)) N x2 (x5.1) (x5.2)))) else none
set_option maxRecDepth 100000 in
theorem ok_x6_product {ω : gW} {l : Launch} {d : Nat} {N : Nat} {W : Nat → gMem → Option gR} {dW : Nat} {σ : gMem} {v0 : Nat} (hl : l.stackTraces = false) (hW : ∀ (a0 : Nat) (s : gMem), gK (fun p : gR => p) gE ω l dW mu_x6_sign [vR a0] s (W a0 s)) (hdp : 4 ≤ d) (hdw : dW + 1 ≤ d) : gK (fun p : gR => p) gE ω l d mu_x6_product [vR v0] σ (x6_product N W v0 σ) := by
  refine gK.of hp_X6 (Nat.le_of_ble_eq_true rfl) ?_
  unfold x6_product
  refine x_aload_n (μ := mu_x6_product) (pc := 0) 0 dX6_product_0 rfl ?_
  refine x_if (fun hT1 => ?_)
  refine x_callV_xr (μ := mu_x6_product) (pc := 1) (hW v0 σ ) q1807 q1809 qs33 q226 q1810 dX6_product_1 rfl hT1 hy_x6_sign (by omega) (Nat.le_of_ble_eq_true rfl) rfl (Nat.le_of_ble_eq_true rfl) (by decide) (fun x2 s4 k3 => ?_)
  refine x_astore_n (μ := mu_x6_product) (pc := 4) (lv' := [(1, vR x2), (0, vR v0)]) dX6_product_4 rfl (by decide) rfl ?_
  refine x_aload_n (μ := mu_x6_product) (pc := 5) 1 dX6_product_5 rfl ?_
  refine x_callV_mi (μ := mu_x6_product) (pc := 6) (ok_x6_peek (ω := ω) (l := l) (d := d - 1) hl (by omega) ) gRel_E gRel_E (fun _ q => q) q1811 q1813 qs34 q226 q1814 dX6_product_6 rfl (gT_E k3 hT1 (by decide)) hy_x6_peek (by omega) (Nat.le_of_ble_eq_true rfl) rfl (Nat.le_of_ble_eq_true rfl) (fun x5 k7 hr6 => ?_)
  refine x_istore_n (μ := mu_x6_product) (pc := 9) (lv' := [(2, vI (x5.1)), (1, vR x2), (0, vR v0)]) dX6_product_9 rfl (by decide) rfl ?_
  refine x_loc (lv' := [(0, vR v0), (1, vR x2), (2, vI (x5.1))]) [2, 1, 0] rfl ?_
  refine okl_x6_product_l10 hl hW hdp hdw (fun y22 s23 => ?_) N x2 (x5.1) (x5.2) hr6
  refine x_aload_n (μ := mu_x6_product) (pc := 83) 0 dX6_product_83 rfl ?_
  exact x_aret (μ := mu_x6_product) (pc := 84) (a1 := ((.inl (some (vR y22)), s23) : gR)) dX6_product_84 rfl (by first | exact Or.inl ⟨_, rfl⟩ | exact Or.inr ⟨_, rfl⟩) rfl (gRel_E.1 _) trivial
def x6_opens (v0 : Nat) (σ : gMem) : Option gR := if mT σ v0 = 6 then if mI σ v0 7 ≠ 20 then gLet (wI σ v0 7 (w32 ((mI σ v0 7) + 1))) (fun s4 => gLet (wI s4 v0 6 (w32 ((mI s4 v0 6) + 1))) (fun s7 => some (.inl none, s7))) else (x6_wrong v0 2 (mI σ v0 6) σ).bind (fun x10 => if mT (x10.2) (x10.1) = 25 then some (.inr "SheetBranches$Wrong", x10.2) else none) else none
set_option maxRecDepth 100000 in
theorem ok_x6_opens {ω : gW} {l : Launch} {d : Nat} {σ : gMem} {v0 : Nat} (hl : l.stackTraces = false) (hdp : 10 ≤ d) : gK (fun p : gR => p) gE ω l d mu_x6_opens [vR v0] σ (x6_opens v0 σ) := by
  refine gK.of hp_X6 (Nat.le_of_ble_eq_true rfl) ?_
  unfold x6_opens
  refine x_aload_n (μ := mu_x6_opens) (pc := 0) 0 dX6_opens_0 rfl ?_
  refine x_if (fun hT1 => ?_)
  refine x_fgi (μ := mu_x6_opens) (pc := 1) fX6_7 q488 dX6_opens_1 hT1 (fun hr2 => ?_)
  refine x_bipush (μ := mu_x6_opens) (pc := 4) dX6_opens_4 (by decide) ?_
  refine x_icmp_ne (μ := mu_x6_opens) (pc := 6) (tgt := 19) dX6_opens_6 rfl hr2 (by decide) ?_ ?_
  · refine x_aload_n (μ := mu_x6_opens) (pc := 19) 0 dX6_opens_19 rfl ?_
    refine x_dup (μ := mu_x6_opens) (pc := 20) dX6_opens_20 rfl ?_
    refine x_fgi (μ := mu_x6_opens) (pc := 21) fX6_7 q488 dX6_opens_21 hT1 (fun hr3 => ?_)
    refine x_iconst (μ := mu_x6_opens) (pc := 24) dX6_opens_24 ?_
    refine x_iadd (μ := mu_x6_opens) (pc := 25) dX6_opens_25 ?_
    refine x_w1 ?_
    refine x_fpi (μ := mu_x6_opens) (pc := 26) fX6_7 q488 dX6_opens_26 hT1 (fun _ q => gE_wI q) ?_
    refine x_let (fun s4 e5 => ?_)
    refine x_aload_n (μ := mu_x6_opens) (pc := 29) 0 dX6_opens_29 rfl ?_
    refine x_dup (μ := mu_x6_opens) (pc := 30) dX6_opens_30 rfl ?_
    refine x_fgi (μ := mu_x6_opens) (pc := 31) fX6_6 q487 dX6_opens_31 (gT_I e5 hT1) (fun hr6 => ?_)
    refine x_iconst (μ := mu_x6_opens) (pc := 34) dX6_opens_34 ?_
    refine x_iadd (μ := mu_x6_opens) (pc := 35) dX6_opens_35 ?_
    refine x_w1 ?_
    refine x_fpi (μ := mu_x6_opens) (pc := 36) fX6_6 q487 dX6_opens_36 (gT_I e5 hT1) (fun _ q => gE_wI q) ?_
    refine x_let (fun s7 e8 => ?_)
    exact x_vret (μ := mu_x6_opens) (pc := 39) (a1 := ((.inl none, s7) : gR)) dX6_opens_39 rfl rfl (gRel_E.1 _) trivial
  · refine x_aload_n (μ := mu_x6_opens) (pc := 9) 0 dX6_opens_9 rfl ?_
    refine x_iconst (μ := mu_x6_opens) (pc := 10) dX6_opens_10 ?_
    refine x_aload_n (μ := mu_x6_opens) (pc := 11) 0 dX6_opens_11 rfl ?_
    refine x_fgi (μ := mu_x6_opens) (pc := 12) fX6_6 q487 dX6_opens_12 hT1 (fun hr9 => ?_)
    refine x_callV_mr (μ := mu_x6_opens) (pc := 15) (ok_x6_wrong (ω := ω) (l := l) (d := d - 1) hl (by omega) (by decide) hr9) gRel_E gRel_E (fun _ q => q) q1827 q1829 qs38 q226 q1830 dX6_opens_15 rfl hT1 hy_x6_wrong (by omega) (Nat.le_of_ble_eq_true rfl) rfl (Nat.le_of_ble_eq_true rfl) (fun x10 k11 => ?_)
    refine x_if (fun hT12 => ?_)
    exact x_athrow (μ := mu_x6_opens) (pc := 18) dX6_opens_18 hT12 (by decide)
def x6_spot (N : Nat) (v0 : Nat) (σ : gMem) : Option gR := if mT σ v0 = 6 then (x6_corner v0 (mI σ v0 6) σ).bind (fun x5 => gLet (wI σ v0 6 (w32 ((mI σ v0 6) + x5))) (fun s7 => (x6_version N v0 s7).bind (fun p => gThrI p (fun x9 s12 => (x6_sheetOf v0 x9 s12).bind (fun x13 => (x6_cornerOf N v0 (mI σ v0 6) (w32 ((mI σ v0 6) + x5)) x13 s12).bind (fun x14 => gLet (wI (x14.2) v0 8 (w32 ((mI (x14.2) v0 8) + 1))) (fun s17 => if x14.1 ≠ 0 then gLet (wN s17 15 2) (fun s20 => (x17_init (mZ s17) (x14.1) x9 s20).bind (fun x22 => some (.inl (some (vR (mZ s17))), x22))) else (x6_late v0 3 (mI σ v0 6) s17).bind (fun x24 => gLet (wN x24 15 2) (fun s27 => (x17_init (mZ x24) (x14.1) x9 s27).bind (fun x29 => some (.inl (some (vR (mZ x24))), x29))))))))))) else none
set_option maxRecDepth 100000 in
theorem ok_x6_spot {ω : gW} {l : Launch} {d : Nat} {N : Nat} {σ : gMem} {v0 : Nat} (hl : l.stackTraces = false) (hdp : 11 ≤ d) : gK (fun p : gR => p) gE ω l d mu_x6_spot [vR v0] σ (x6_spot N v0 σ) := by
  refine gK.of hp_X6 (Nat.le_of_ble_eq_true rfl) ?_
  unfold x6_spot
  refine x_aload_n (μ := mu_x6_spot) (pc := 0) 0 dX6_spot_0 rfl ?_
  refine x_if (fun hT1 => ?_)
  refine x_fgi (μ := mu_x6_spot) (pc := 1) fX6_6 q487 dX6_spot_1 hT1 (fun hr2 => ?_)
  refine x_istore_n (μ := mu_x6_spot) (pc := 4) (lv' := [(1, vI (mI σ v0 6)), (0, vR v0)]) dX6_spot_4 rfl (by decide) rfl ?_
  refine x_aload_n (μ := mu_x6_spot) (pc := 5) 1 dX6_spot_5 rfl ?_
  refine x_fgi (μ := mu_x6_spot) (pc := 6) fX6_6 q487 dX6_spot_6 hT1 (fun hr3 => ?_)
  refine x_aload_n (μ := mu_x6_spot) (pc := 9) 1 dX6_spot_9 rfl ?_
  refine x_aload_n (μ := mu_x6_spot) (pc := 10) 1 dX6_spot_10 rfl ?_
  refine x_fgi (μ := mu_x6_spot) (pc := 11) fX6_6 q487 dX6_spot_11 hT1 (fun hr4 => ?_)
  refine x_callV_pi (μ := mu_x6_spot) (pc := 14) (ok_x6_corner (ω := ω) (l := l) (d := d - 1) hl (by omega) hr4) gRel_E gRel_E (fun _ q => q) q1910 q1912 qs46 q226 q1913 dX6_spot_14 rfl hT1 hy_x6_corner (by omega) (Nat.le_of_ble_eq_true rfl) rfl (Nat.le_of_ble_eq_true rfl) (fun x5 hr6 => ?_)
  refine x_iadd (μ := mu_x6_spot) (pc := 17) dX6_spot_17 ?_
  refine x_w1 ?_
  refine x_istore_n (μ := mu_x6_spot) (pc := 18) (lv' := [(2, vI (w32 ((mI σ v0 6) + x5))), (1, vI (mI σ v0 6)), (0, vR v0)]) dX6_spot_18 rfl (by decide) rfl ?_
  refine x_aload_n (μ := mu_x6_spot) (pc := 19) 2 dX6_spot_19 rfl ?_
  refine x_iload_n (μ := mu_x6_spot) (pc := 20) 0 dX6_spot_20 rfl ?_
  refine x_fpi (μ := mu_x6_spot) (pc := 21) fX6_6 q487 dX6_spot_21 hT1 (fun _ q => gE_wI q) ?_
  refine x_let (fun s7 e8 => ?_)
  refine x_aload_n (μ := mu_x6_spot) (pc := 24) 2 dX6_spot_24 rfl ?_
  refine x_callV_xi (μ := mu_x6_spot) (pc := 25) (ok_x6_version (ω := ω) (l := l) (d := d - 1) hl (by omega) ) q1921 q1923 qs48 q226 q1924 dX6_spot_25 rfl (gT_I e8 hT1) hy_x6_version (by omega) (Nat.le_of_ble_eq_true rfl) rfl (Nat.le_of_ble_eq_true rfl) (by decide) (fun x9 s12 k11 hr10 => ?_)
  refine x_istore_n (μ := mu_x6_spot) (pc := 28) (lv' := [(3, vI x9), (2, vI (w32 ((mI σ v0 6) + x5))), (1, vI (mI σ v0 6)), (0, vR v0)]) dX6_spot_28 rfl (by decide) rfl ?_
  refine x_aload_n (μ := mu_x6_spot) (pc := 29) 3 dX6_spot_29 rfl ?_
  refine x_iload_n (μ := mu_x6_spot) (pc := 30) 2 dX6_spot_30 rfl ?_
  refine x_iload_n (μ := mu_x6_spot) (pc := 31) 1 dX6_spot_31 rfl ?_
  refine x_aload_n (μ := mu_x6_spot) (pc := 32) 3 dX6_spot_32 rfl ?_
  refine x_iload_n (μ := mu_x6_spot) (pc := 33) 0 dX6_spot_33 rfl ?_
  refine x_callV_pr (μ := mu_x6_spot) (pc := 34) (ok_x6_sheetOf (ω := ω) (l := l) (d := d - 1) hl (by omega) hr10) gRel_E gRel_E (fun _ q => q) q1925 q1927 qs49 q226 q1928 dX6_spot_34 rfl (gT_E k11 (gT_I e8 hT1) (by decide)) hy_x6_sheetOf (by omega) (Nat.le_of_ble_eq_true rfl) rfl (Nat.le_of_ble_eq_true rfl) (fun x13 => ?_)
  refine x_callV_mr (μ := mu_x6_spot) (pc := 37) (ok_x6_cornerOf (ω := ω) (l := l) (d := d - 1) hl (by omega) hr2 (w32_rng _)) gRel_E gRel_E (fun _ q => q) q1929 q1931 qs50 q226 q1932 dX6_spot_37 rfl (gT_E k11 (gT_I e8 hT1) (by decide)) hy_x6_cornerOf (by omega) (Nat.le_of_ble_eq_true rfl) rfl (Nat.le_of_ble_eq_true rfl) (fun x14 k15 => ?_)
  refine x_astore (μ := mu_x6_spot) (pc := 40) (lv' := [(4, vR (x14.1)), (3, vI x9), (2, vI (w32 ((mI σ v0 6) + x5))), (1, vI (mI σ v0 6)), (0, vR v0)]) dX6_spot_40 (by decide) rfl ?_
  refine x_aload_n (μ := mu_x6_spot) (pc := 42) 4 dX6_spot_42 rfl ?_
  refine x_dup (μ := mu_x6_spot) (pc := 43) dX6_spot_43 rfl ?_
  refine x_fgi (μ := mu_x6_spot) (pc := 44) fX6_8 q489 dX6_spot_44 (gT_E k15 (gT_E k11 (gT_I e8 hT1) (by decide)) (by decide)) (fun hr16 => ?_)
  refine x_iconst (μ := mu_x6_spot) (pc := 47) dX6_spot_47 ?_
  refine x_iadd (μ := mu_x6_spot) (pc := 48) dX6_spot_48 ?_
  refine x_w1 ?_
  refine x_fpi (μ := mu_x6_spot) (pc := 49) fX6_8 q489 dX6_spot_49 (gT_E k15 (gT_E k11 (gT_I e8 hT1) (by decide)) (by decide)) (fun _ q => gE_wI q) ?_
  refine x_let (fun s17 e18 => ?_)
  refine x_aload (μ := mu_x6_spot) (pc := 52) 0 dX6_spot_52 rfl ?_
  refine x_ifnonnull (μ := mu_x6_spot) (pc := 54) (tgt := 63) dX6_spot_54 rfl ?_ ?_
  · refine x_ok (fun ok19 => ?_)
    refine x_new (μ := mu_x6_spot) (pc := 63) (ci := 14) gk_X17 gd_X17 q1965 q1966 q249 dX6_spot_63 ?_
    refine x_let (fun s20 e21 => ?_)
    refine x_dup (μ := mu_x6_spot) (pc := 66) dX6_spot_66 rfl ?_
    refine x_aload (μ := mu_x6_spot) (pc := 67) 0 dX6_spot_67 rfl ?_
    refine x_iload_n (μ := mu_x6_spot) (pc := 69) 1 dX6_spot_69 rfl ?_
    refine x_callIN_mv (μ := mu_x6_spot) (pc := 70) (ok_x17_init (ω := ω) (l := l) (d := d - 1) hl (by omega) hr10) gRel_E gRel_E (fun _ q => q) q1967 q1968 q249 q1969 dX6_spot_70 (gT_ne (gT_new e21)) rfl hy_x17_init (by omega) (Nat.le_of_ble_eq_true rfl) rfl (Nat.le_of_ble_eq_true rfl) (fun x22 k23 => ?_)
    exact x_aret (μ := mu_x6_spot) (pc := 73) (a1 := ((.inl (some (vR (mZ s17))), x22) : gR)) dX6_spot_73 rfl (by first | exact Or.inl ⟨_, rfl⟩ | exact Or.inr ⟨_, rfl⟩) rfl (gRel_E.1 _) trivial
  · refine x_aload_n (μ := mu_x6_spot) (pc := 57) 4 dX6_spot_57 rfl ?_
    refine x_iconst (μ := mu_x6_spot) (pc := 58) dX6_spot_58 ?_
    refine x_iload_n (μ := mu_x6_spot) (pc := 59) 3 dX6_spot_59 rfl ?_
    refine x_callV_mv (μ := mu_x6_spot) (pc := 60) (ok_x6_late (ω := ω) (l := l) (d := d - 1) hl (by omega) (by decide) hr2) gRel_E gRel_E (fun _ q => q) q1961 q1963 qs51 q226 q1964 dX6_spot_60 rfl (gT_I e18 (gT_E k15 (gT_E k11 (gT_I e8 hT1) (by decide)) (by decide))) hy_x6_late (by omega) (Nat.le_of_ble_eq_true rfl) rfl (Nat.le_of_ble_eq_true rfl) (fun x24 k25 => ?_)
    refine x_ok (fun ok26 => ?_)
    refine x_new (μ := mu_x6_spot) (pc := 63) (ci := 14) gk_X17 gd_X17 q1965 q1966 q249 dX6_spot_63 ?_
    refine x_let (fun s27 e28 => ?_)
    refine x_dup (μ := mu_x6_spot) (pc := 66) dX6_spot_66 rfl ?_
    refine x_aload (μ := mu_x6_spot) (pc := 67) 0 dX6_spot_67 rfl ?_
    refine x_iload_n (μ := mu_x6_spot) (pc := 69) 1 dX6_spot_69 rfl ?_
    refine x_callIN_mv (μ := mu_x6_spot) (pc := 70) (ok_x17_init (ω := ω) (l := l) (d := d - 1) hl (by omega) hr10) gRel_E gRel_E (fun _ q => q) q1967 q1968 q249 q1969 dX6_spot_70 (gT_ne (gT_new e28)) rfl hy_x17_init (by omega) (Nat.le_of_ble_eq_true rfl) rfl (Nat.le_of_ble_eq_true rfl) (fun x29 k30 => ?_)
    exact x_aret (μ := mu_x6_spot) (pc := 73) (a1 := ((.inl (some (vR (mZ x24))), x29) : gR)) dX6_spot_73 rfl (by first | exact Or.inl ⟨_, rfl⟩ | exact Or.inr ⟨_, rfl⟩) rfl (gRel_E.1 _) trivial
def x9_lay_2_l22 (N : Nat) (v0 : Nat) (v1 : Nat) (v2 : Nat) (v3 : Nat) (v4 : Int) (K : gMem → Option gMem) : Nat → Int → gMem → Option gMem
  | 0, _, _ => none
  | n + 1, v5, s => if mT s v2 = 100 then if w32 (mN s v2 : Int) ≤ v5 then K s else if mT s v3 = 111 then if 0 ≤ v4 ∧ v4 < (mN s v3 : Int) then if mT s v1 = 100 then if 0 ≤ v4 ∧ v4 < (mN s v1 : Int) then if 0 ≤ v5 ∧ v5 < (mN s v2 : Int) then if mT s v0 = 8 then (x9_of N v0 (mI s v1 v4.toNat) (mI s v2 v5.toNat) s).bind (fun x14 => if mT s (mR s v3 v4.toNat) = 110 then if x14 = 0 ∨ gAsg 10 (mT s x14) = true then if 0 ≤ v5 ∧ v5 < (mN s (mR s v3 v4.toNat) : Int) then gLet (wR s (mR s v3 v4.toNat) v5.toNat x14) (fun s17 => x9_lay_2_l22 N v0 v1 v2 v3 v4 K n (w32 (v5 + 1)) s17) else none else none else none) else none else none else none else none else none else none else none
set_option maxRecDepth 100000 in
theorem okl_x9_lay_2_l22 {ω : gW} {l : Launch} {d : Nat} {N : Nat} {σ0 : gMem} {v0 : Nat} {v1 : Nat} {v2 : Nat} {v3 : Nat} {v4 : Int} {K : gMem → Option gMem} (hl : l.stackTraces = false) (hdp : 3 ≤ d) (hv4 : g32 v4) (hK : ∀ (s : gMem) , GG (fun p : gMem => (.inl none, p)) gE ω l d mu_x9_lay_2 σ0 54 [(0, vR v0), (1, vR v1), (2, vR v2), (3, vR v3), (4, vI v4)] [] s (K s)) : ∀ (n : Nat) (v5 : Int) (s : gMem) , g32 v5 → GG (fun p : gMem => (.inl none, p)) gE ω l d mu_x9_lay_2 σ0 22 [(0, vR v0), (1, vR v1), (2, vR v2), (3, vR v3), (4, vI v4), (5, vI v5)] [] s (x9_lay_2_l22 N v0 v1 v2 v3 v4 K n v5 s) := by
  intro n
  induction n with
  | zero => intros; exact x_none
  | succ n ih =>
    intro v5 s hv5
    unfold x9_lay_2_l22
    refine x_iload (μ := mu_x9_lay_2) (pc := 22) 5 dX9_lay_2_22 rfl ?_
    refine x_aload_n (μ := mu_x9_lay_2) (pc := 24) 2 dX9_lay_2_24 rfl ?_
    refine x_if (fun hT8 => ?_)
    refine x_len (μ := mu_x9_lay_2) (pc := 25) 0 (fun _ => rfl) dX9_lay_2_25 hT8 ?_
    refine x_w1 ?_
    refine x_icmp_ge (μ := mu_x9_lay_2) (pc := 26) (tgt := 54) dX9_lay_2_26 rfl hv5 (w32_rng _) ?_ ?_
    · refine x_loc (lv' := [(0, vR v0), (1, vR v1), (2, vR v2), (3, vR v3), (4, vI v4)]) [0, 1, 2, 3, 4] rfl ?_
      exact hK s
    · refine x_aload_n (μ := mu_x9_lay_2) (pc := 29) 3 dX9_lay_2_29 rfl ?_
      refine x_iload (μ := mu_x9_lay_2) (pc := 30) 4 dX9_lay_2_30 rfl ?_
      refine x_if (fun hT9 => ?_)
      refine x_aald (μ := mu_x9_lay_2) (pc := 32) 11 (fun _ => rfl) rfl rfl dX9_lay_2_32 hT9 rfl ?_
      refine x_iload (μ := mu_x9_lay_2) (pc := 33) 5 dX9_lay_2_33 rfl ?_
      refine x_aload_n (μ := mu_x9_lay_2) (pc := 35) 0 dX9_lay_2_35 rfl ?_
      refine x_aload_n (μ := mu_x9_lay_2) (pc := 36) 1 dX9_lay_2_36 rfl ?_
      refine x_iload (μ := mu_x9_lay_2) (pc := 37) 4 dX9_lay_2_37 rfl ?_
      refine x_if (fun hT10 => ?_)
      refine x_iald (μ := mu_x9_lay_2) (pc := 39) dX9_lay_2_39 hT10 rfl (fun hr11 => ?_)
      refine x_aload_n (μ := mu_x9_lay_2) (pc := 40) 2 dX9_lay_2_40 rfl ?_
      refine x_iload (μ := mu_x9_lay_2) (pc := 41) 5 dX9_lay_2_41 rfl ?_
      refine x_iald (μ := mu_x9_lay_2) (pc := 43) dX9_lay_2_43 hT8 rfl (fun hr12 => ?_)
      refine x_if (fun hT13 => ?_)
      refine x_callV_pr (μ := mu_x9_lay_2) (pc := 44) (ok_x9_of (ω := ω) (l := l) (d := d - 1) hl (by omega) hr11 hr12) gRel_E gRel_E (fun _ q => q) q2234 q2235 q2236 q230 q2237 dX9_lay_2_44 rfl hT13 hy_x9_of (by omega) (Nat.le_of_ble_eq_true rfl) rfl (Nat.le_of_ble_eq_true rfl) (fun x14 => ?_)
      refine x_if (fun hT15 => ?_)
      refine x_if (fun hz16 => ?_)
      refine x_aast (μ := mu_x9_lay_2) (pc := 47) 10 ⟨fun _ => rfl, rfl, rfl⟩ dX9_lay_2_47 hT15 rfl hz16 (fun _ _ q => gE_wR q) ?_
      refine x_let (fun s17 e18 => ?_)
      refine x_iincw (μ := mu_x9_lay_2) (pc := 48) (lv' := [(5, vI (w32 (v5 + 1))), (0, vR v0), (1, vR v1), (2, vR v2), (3, vR v3), (4, vI v4)]) 5 dX9_lay_2_48 rfl (by decide) rfl ?_
      refine x_goto (μ := mu_x9_lay_2) (pc := 51) (tgt := 22) dX9_lay_2_51 rfl ?_
      refine x_loc (lv' := [(0, vR v0), (1, vR v1), (2, vR v2), (3, vR v3), (4, vI v4), (5, vI (w32 (v5 + 1)))]) [1, 2, 3, 4, 5, 0] rfl ?_
      exact ih (w32 (v5 + 1)) s17 (w32_rng _)
def x9_lay_2_l12 (N : Nat) (v0 : Nat) (v1 : Nat) (v2 : Nat) (v3 : Nat) (K : gMem → Option gMem) : Nat → Int → gMem → Option gMem
  | 0, _, _ => none
  | n + 1, v4, s => if mT s v1 = 100 then if w32 (mN s v1 : Int) ≤ v4 then K s else x9_lay_2_l22 N v0 v1 v2 v3 v4 (fun s19 => x9_lay_2_l12 N v0 v1 v2 v3 K n (w32 (v4 + 1)) s19) N 0 s else none
set_option maxRecDepth 100000 in
theorem okl_x9_lay_2_l12 {ω : gW} {l : Launch} {d : Nat} {N : Nat} {σ0 : gMem} {v0 : Nat} {v1 : Nat} {v2 : Nat} {v3 : Nat} {K : gMem → Option gMem} (hl : l.stackTraces = false) (hdp : 3 ≤ d) (hK : ∀ (s : gMem) , GG (fun p : gMem => (.inl none, p)) gE ω l d mu_x9_lay_2 σ0 60 [(0, vR v0), (1, vR v1), (2, vR v2), (3, vR v3)] [] s (K s)) : ∀ (n : Nat) (v4 : Int) (s : gMem) , g32 v4 → GG (fun p : gMem => (.inl none, p)) gE ω l d mu_x9_lay_2 σ0 12 [(0, vR v0), (1, vR v1), (2, vR v2), (3, vR v3), (4, vI v4)] [] s (x9_lay_2_l12 N v0 v1 v2 v3 K n v4 s) := by
  intro n
  induction n with
  | zero => intros; exact x_none
  | succ n ih =>
    intro v4 s hv4
    unfold x9_lay_2_l12
    refine x_iload (μ := mu_x9_lay_2) (pc := 12) 4 dX9_lay_2_12 rfl ?_
    refine x_aload_n (μ := mu_x9_lay_2) (pc := 14) 1 dX9_lay_2_14 rfl ?_
    refine x_if (fun hT7 => ?_)
    refine x_len (μ := mu_x9_lay_2) (pc := 15) 0 (fun _ => rfl) dX9_lay_2_15 hT7 ?_
    refine x_w1 ?_
    refine x_icmp_ge (μ := mu_x9_lay_2) (pc := 16) (tgt := 60) dX9_lay_2_16 rfl hv4 (w32_rng _) ?_ ?_
    · refine x_loc (lv' := [(0, vR v0), (1, vR v1), (2, vR v2), (3, vR v3)]) [0, 1, 2, 3] rfl ?_
      exact hK s
    · refine x_iconst (μ := mu_x9_lay_2) (pc := 19) dX9_lay_2_19 ?_
      refine x_istore (μ := mu_x9_lay_2) (pc := 20) (lv' := [(5, vI 0), (0, vR v0), (1, vR v1), (2, vR v2), (3, vR v3), (4, vI v4)]) dX9_lay_2_20 (by decide) rfl ?_
      refine x_loc (lv' := [(0, vR v0), (1, vR v1), (2, vR v2), (3, vR v3), (4, vI v4), (5, vI 0)]) [1, 2, 3, 4, 5, 0] rfl ?_
      refine okl_x9_lay_2_l22 hl hdp hv4 (fun s19 => ?_) N 0 s (by decide)
      refine x_iincw (μ := mu_x9_lay_2) (pc := 54) (lv' := [(4, vI (w32 (v4 + 1))), (0, vR v0), (1, vR v1), (2, vR v2), (3, vR v3)]) 4 dX9_lay_2_54 rfl (by decide) rfl ?_
      refine x_goto (μ := mu_x9_lay_2) (pc := 57) (tgt := 12) dX9_lay_2_57 rfl ?_
      refine x_loc (lv' := [(0, vR v0), (1, vR v1), (2, vR v2), (3, vR v3), (4, vI (w32 (v4 + 1)))]) [1, 2, 3, 4, 0] rfl ?_
      exact ih (w32 (v4 + 1)) s19 (w32_rng _)
def x9_lay_2 (N : Nat) (v0 : Nat) (v1 : Nat) (v2 : Nat) (σ : gMem) : Option gMem := if mT σ v1 = 100 then if mT σ v2 = 100 then if (0 ≤ (w32 (mN σ v1 : Int)) ∧ (w32 (mN σ v1 : Int)) < 1000) ∧ 0 ≤ (w32 (mN σ v2 : Int)) ∧ (w32 (mN σ v2 : Int)) < 1000 then gLet (wM σ (w32 (mN σ v1 : Int)).toNat (w32 (mN σ v2 : Int)).toNat) (fun s5 => x9_lay_2_l12 N v0 v1 v2 (mZ σ) (fun s20 => if mT s20 v0 = 8 then gLet (wR s20 v0 0 v1) (fun s22 => gLet (wR s22 v0 1 v2) (fun s24 => gLet (wR s24 v0 2 (mZ σ)) (fun s26 => some s26))) else none) N 0 s5) else none else none else none
set_option maxRecDepth 100000 in
theorem ok_x9_lay_2 {ω : gW} {l : Launch} {d : Nat} {N : Nat} {σ : gMem} {v0 : Nat} {v1 : Nat} {v2 : Nat} (hl : l.stackTraces = false) (hdp : 3 ≤ d) : gK (fun p : gMem => (.inl none, p)) gE ω l d mu_x9_lay_2 [vR v0, vR v1, vR v2] σ (x9_lay_2 N v0 v1 v2 σ) := by
  refine gK.of hp_X9 (Nat.le_of_ble_eq_true rfl) ?_
  unfold x9_lay_2
  refine x_aload_n (μ := mu_x9_lay_2) (pc := 0) 1 dX9_lay_2_0 rfl ?_
  refine x_if (fun hT1 => ?_)
  refine x_len (μ := mu_x9_lay_2) (pc := 1) 0 (fun _ => rfl) dX9_lay_2_1 hT1 ?_
  refine x_aload_n (μ := mu_x9_lay_2) (pc := 2) 2 dX9_lay_2_2 rfl ?_
  refine x_if (fun hT2 => ?_)
  refine x_len (μ := mu_x9_lay_2) (pc := 3) 0 (fun _ => rfl) dX9_lay_2_3 hT2 ?_
  refine x_w1 ?_
  refine x_w2 ?_
  refine x_if (fun hg3 => ?_)
  refine x_ok (fun ok4 => ?_)
  refine x_multi (μ := mu_x9_lay_2) (pc := 4) q564 dX9_lay_2_4 hg3 ?_
  refine x_let (fun s5 e6 => ?_)
  refine x_astore_n (μ := mu_x9_lay_2) (pc := 8) (lv' := [(3, vR (mZ σ)), (0, vR v0), (1, vR v1), (2, vR v2)]) dX9_lay_2_8 rfl (by decide) rfl ?_
  refine x_iconst (μ := mu_x9_lay_2) (pc := 9) dX9_lay_2_9 ?_
  refine x_istore (μ := mu_x9_lay_2) (pc := 10) (lv' := [(4, vI 0), (3, vR (mZ σ)), (0, vR v0), (1, vR v1), (2, vR v2)]) dX9_lay_2_10 (by decide) rfl ?_
  refine x_loc (lv' := [(0, vR v0), (1, vR v1), (2, vR v2), (3, vR (mZ σ)), (4, vI 0)]) [2, 3, 4, 1, 0] rfl ?_
  refine okl_x9_lay_2_l12 hl hdp (fun s20 => ?_) N 0 s5 (by decide)
  refine x_aload_n (μ := mu_x9_lay_2) (pc := 60) 0 dX9_lay_2_60 rfl ?_
  refine x_aload_n (μ := mu_x9_lay_2) (pc := 61) 1 dX9_lay_2_61 rfl ?_
  refine x_if (fun hT21 => ?_)
  refine x_fpr (μ := mu_x9_lay_2) (pc := 62) fX9_0 q568 (by first | exact Or.inl ⟨_, rfl⟩ | exact Or.inr ⟨_, rfl⟩) dX9_lay_2_62 hT21 (fun _ q => gE_wR q) ?_
  refine x_let (fun s22 e23 => ?_)
  refine x_aload_n (μ := mu_x9_lay_2) (pc := 65) 0 dX9_lay_2_65 rfl ?_
  refine x_aload_n (μ := mu_x9_lay_2) (pc := 66) 2 dX9_lay_2_66 rfl ?_
  refine x_fpr (μ := mu_x9_lay_2) (pc := 67) fX9_1 q573 (by first | exact Or.inl ⟨_, rfl⟩ | exact Or.inr ⟨_, rfl⟩) dX9_lay_2_67 (gT_R e23 hT21) (fun _ q => gE_wR q) ?_
  refine x_let (fun s24 e25 => ?_)
  refine x_aload_n (μ := mu_x9_lay_2) (pc := 70) 0 dX9_lay_2_70 rfl ?_
  refine x_aload_n (μ := mu_x9_lay_2) (pc := 71) 3 dX9_lay_2_71 rfl ?_
  refine x_fpr (μ := mu_x9_lay_2) (pc := 72) fX9_2 q578 (by first | exact Or.inl ⟨_, rfl⟩ | exact Or.inr ⟨_, rfl⟩) dX9_lay_2_72 (gT_R e25 (gT_R e23 hT21)) (fun _ q => gE_wR q) ?_
  refine x_let (fun s26 e27 => ?_)
  exact x_vret (μ := mu_x9_lay_2) (pc := 75) (a1 := s26) dX9_lay_2_75 rfl rfl (gRel_E.1 _) trivial
def dp_Content_isAlike (N : Nat) : Nat → Nat → gMem → Option Int := fun a0 a1 s => if mT s a0 = 11 then x13_isAlike a0 a1 s else if mT s a0 = 12 then x14_isAlike N a0 a1 s else if mT s a0 = 16 then x18_isAlike a0 a1 s else if mT s a0 = 21 then x23_isAlike N a0 a1 s else none
set_option maxRecDepth 100000 in
theorem ok_dp_Content_isAlike {ω : gW} {l : Launch} {d : Nat} {N : Nat} (hl : l.stackTraces = false) (a0 : Nat) (a1 : Nat) (s : gMem) (hd : 66 ≤ d) : gKI (fun x : Int => (.inl (some (vI x)), s)) gE ω l d iy_Content_isAlike (some .boolean) [vR a0, vR a1] s (dp_Content_isAlike N a0 a1 s) := by
  unfold dp_Content_isAlike
  refine gKI.cls (ci := 10) rfl (List.mem_of_getElem? (i := 0) rfl) q1663 q1665 q241 q1667 (Nat.le_of_ble_eq_true rfl) (ok_x13_isAlike hl (by omega)) ?_
  refine gKI.cls (ci := 11) rfl (List.mem_of_getElem? (i := 1) rfl) q1668 q1670 q242 q1672 (Nat.le_of_ble_eq_true rfl) (ok_x14_isAlike hl (by omega)) ?_
  refine gKI.cls (ci := 15) rfl (List.mem_of_getElem? (i := 2) rfl) q1658 q1660 q250 q1662 (Nat.le_of_ble_eq_true rfl) (ok_x18_isAlike hl (by omega)) ?_
  refine gKI.cls (ci := 20) rfl (List.mem_of_getElem? (i := 3) rfl) q1578 q1580 q256 q1582 (Nat.le_of_ble_eq_true rfl) (ok_x23_isAlike hl (by omega)) ?_
  exact gKI.none
def dp_Part_leads (N : Nat) : Nat → Nat → Nat → Nat → gMem → Option gMem
  | 0 => fun _ _ _ _ => none
  | n + 1 => fun a0 a1 a2 s => if mT s a0 = 11 then x13_leads a0 a1 a2 s else if mT s a0 = 12 then x14_leads a0 a1 a2 s else if mT s a0 = 16 then x18_leads a0 a1 a2 s else if mT s a0 = 13 then x15_leads a0 a1 a2 s else if mT s a0 = 15 then x17_leads N a0 a1 a2 s else if mT s a0 = 17 then x19_leads N a0 a1 a2 s else if mT s a0 = 19 then x21_leads N (dp_Part_leads N n) a0 a1 a2 s else if mT s a0 = 20 then x22_leads N (dp_Part_leads N n) a0 a1 a2 s else if mT s a0 = 18 then x20_leads N (dp_Part_leads N n) a0 a1 a2 s else none
set_option maxRecDepth 100000 in
theorem ok_dp_Part_leads {ω : gW} {l : Launch} {N : Nat} (hl : l.stackTraces = false) : ∀ (n : Nat) {d : Nat} (a0 : Nat) (a1 : Nat) (a2 : Nat) (s : gMem), 3 + 1 * n ≤ d → gKI (fun p : gMem => (.inl none, p)) gE ω l d iy_Part_leads none [vR a0, vR a1, vR a2] s (dp_Part_leads N n a0 a1 a2 s) := by
  intro n
  induction n with
  | zero => intro d a0 a1 a2 s hd; exact gKI.none
  | succ n ih =>
    intro d a0 a1 a2 s hd
    unfold dp_Part_leads
    refine gKI.cls (ci := 10) rfl (List.mem_of_getElem? (i := 12) rfl) q925 q927 q241 q929 (Nat.le_of_ble_eq_true rfl) (ok_x13_leads hl (by omega)) ?_
    refine gKI.cls (ci := 11) rfl (List.mem_of_getElem? (i := 13) rfl) q931 q933 q242 q935 (Nat.le_of_ble_eq_true rfl) (ok_x14_leads hl (by omega)) ?_
    refine gKI.cls (ci := 15) rfl (List.mem_of_getElem? (i := 14) rfl) q911 q913 q250 q915 (Nat.le_of_ble_eq_true rfl) (ok_x18_leads hl (by omega)) ?_
    refine gKI.cls (ci := 12) rfl (List.mem_of_getElem? (i := 15) rfl) q887 q889 q247 q891 (Nat.le_of_ble_eq_true rfl) (ok_x15_leads hl (by omega)) ?_
    refine gKI.cls (ci := 14) rfl (List.mem_of_getElem? (i := 16) rfl) q901 q903 q249 q905 (Nat.le_of_ble_eq_true rfl) (ok_x17_leads hl (by omega)) ?_
    refine gKI.cls (ci := 16) rfl (List.mem_of_getElem? (i := 17) rfl) q846 q848 q251 q850 (Nat.le_of_ble_eq_true rfl) (ok_x19_leads hl (by omega)) ?_
    refine gKI.cls (ci := 18) rfl (List.mem_of_getElem? (i := 18) rfl) q893 q895 q253 q897 (Nat.le_of_ble_eq_true rfl) (ok_x21_leads hl (dW := 3 + 1 * n) (fun a0 a1 a2 s => ih a0 a1 a2 s (Nat.le_refl _)) (by omega) (by omega)) ?_
    refine gKI.cls (ci := 19) rfl (List.mem_of_getElem? (i := 19) rfl) q917 q919 q255 q921 (Nat.le_of_ble_eq_true rfl) (ok_x22_leads hl (dW := 3 + 1 * n) (fun a0 a1 a2 s => ih a0 a1 a2 s (Nat.le_refl _)) (by omega) (by omega)) ?_
    refine gKI.cls (ci := 17) rfl (List.mem_of_getElem? (i := 20) rfl) q870 q872 q252 q874 (Nat.le_of_ble_eq_true rfl) (ok_x20_leads hl (dW := 3 + 1 * n) (fun a0 a1 a2 s => ih a0 a1 a2 s (Nat.le_refl _)) (by omega) (by omega)) ?_
    exact gKI.none
def dp_Part_shifted (N : Nat) : Nat → Nat → Nat → gMem → Option (Nat × gMem)
  | 0 => fun _ _ _ => none
  | n + 1 => fun a0 a1 s => if mT s a0 = 11 then x13_shifted a0 a1 s else if mT s a0 = 12 then x14_shifted a0 a1 s else if mT s a0 = 16 then x18_shifted a0 a1 s else if mT s a0 = 13 then x15_shifted a0 a1 s else if mT s a0 = 15 then x17_shifted N a0 a1 s else if mT s a0 = 17 then x19_shifted N a0 a1 s else if mT s a0 = 19 then x21_shifted N (dp_Part_shifted N n) a0 a1 s else if mT s a0 = 20 then x22_shifted N (dp_Part_shifted N n) a0 a1 s else if mT s a0 = 18 then x20_shifted N (dp_Part_shifted N n) a0 a1 s else none
set_option maxRecDepth 100000 in
theorem ok_dp_Part_shifted {ω : gW} {l : Launch} {N : Nat} (hl : l.stackTraces = false) : ∀ (n : Nat) {d : Nat} (a0 : Nat) (a1 : Nat) (s : gMem), 4 + 1 * n ≤ d → gKI (fun p : Nat × gMem => (.inl (some (vR p.1)), p.2)) gE ω l d iy_Part_shifted (some (.object "SheetBranches$Part")) [vR a0, vR a1] s (dp_Part_shifted N n a0 a1 s) := by
  intro n
  induction n with
  | zero => intro d a0 a1 s hd; exact gKI.none
  | succ n ih =>
    intro d a0 a1 s hd
    unfold dp_Part_shifted
    refine gKI.cls (ci := 10) rfl (List.mem_of_getElem? (i := 39) rfl) q2357 q2359 q241 q2361 (Nat.le_of_ble_eq_true rfl) (ok_x13_shifted hl (by omega)) ?_
    refine gKI.cls (ci := 11) rfl (List.mem_of_getElem? (i := 40) rfl) q2362 q2364 q242 q2366 (Nat.le_of_ble_eq_true rfl) (ok_x14_shifted hl (by omega)) ?_
    refine gKI.cls (ci := 15) rfl (List.mem_of_getElem? (i := 41) rfl) q2345 q2347 q250 q2349 (Nat.le_of_ble_eq_true rfl) (ok_x18_shifted hl (by omega)) ?_
    refine gKI.cls (ci := 12) rfl (List.mem_of_getElem? (i := 42) rfl) q2323 q2325 q247 q2327 (Nat.le_of_ble_eq_true rfl) (ok_x15_shifted hl (by omega)) ?_
    refine gKI.cls (ci := 14) rfl (List.mem_of_getElem? (i := 43) rfl) q2335 q2337 q249 q2339 (Nat.le_of_ble_eq_true rfl) (ok_x17_shifted hl (by omega)) ?_
    refine gKI.cls (ci := 16) rfl (List.mem_of_getElem? (i := 44) rfl) q2294 q2296 q251 q2298 (Nat.le_of_ble_eq_true rfl) (ok_x19_shifted hl (by omega)) ?_
    refine gKI.cls (ci := 18) rfl (List.mem_of_getElem? (i := 45) rfl) q2328 q2330 q253 q2332 (Nat.le_of_ble_eq_true rfl) (ok_x21_shifted hl (dW := 4 + 1 * n) (fun a0 a1 s => ih a0 a1 s (Nat.le_refl _)) (by omega) (by omega)) ?_
    refine gKI.cls (ci := 19) rfl (List.mem_of_getElem? (i := 46) rfl) q2350 q2352 q255 q2354 (Nat.le_of_ble_eq_true rfl) (ok_x22_shifted hl (dW := 4 + 1 * n) (fun a0 a1 s => ih a0 a1 s (Nat.le_refl _)) (by omega) (by omega)) ?_
    refine gKI.cls (ci := 17) rfl (List.mem_of_getElem? (i := 47) rfl) q2315 q2317 q252 q2319 (Nat.le_of_ble_eq_true rfl) (ok_x20_shifted hl (dW := 4 + 1 * n) (fun a0 a1 s => ih a0 a1 s (Nat.le_refl _)) (by omega) (by omega)) ?_
    exact gKI.none
def x0_erase (N : Nat) (v0 : Nat) (v1 : Int) (v2 : Int) (v3 : Int) (v4 : Int) (v5 : Nat) (σ : gMem) : Option (Int × gMem) := if mT σ v0 = 1 then (x1_erase N v0 v1 v2 v3 v4 σ).bind (fun p => gTryI p (fun x2 s5 => if mT s5 v5 = 101 then if 0 ≤ (0 : Int) ∧ (0 : Int) < (mN s5 v5 : Int) then gLet (wL s5 v5 (0 : Int).toNat x2) (fun s11 => some (0, s11)) else none else none) (fun E6 s7 => if E6 = "java/lang/IndexOutOfBoundsException" then some (1, s7) else if E6 = "java/lang/IllegalArgumentException" then some (2, s7) else none)) else none
set_option maxRecDepth 100000 in
theorem ok_x0_erase {ω : gW} {l : Launch} {d : Nat} {N : Nat} {σ : gMem} {v0 : Nat} {v1 : Int} {v2 : Int} {v3 : Int} {v4 : Int} {v5 : Nat} (hl : l.stackTraces = false) (hdp : 10 ≤ d) (hv1 : g32 v1) (hv2 : g32 v2) (hv3 : g32 v3) (hv4 : g32 v4) : gK (fun p : Int × gMem => (.inl (some (vI p.1)), p.2)) gE ω l d mu_x0_erase [vR v0, vI v1, vI v2, vI v3, vI v4, vR v5] σ (x0_erase N v0 v1 v2 v3 v4 v5 σ) := by
  refine gK.ofH hp_X0 (Nat.le_of_ble_eq_true rfl) ?_
  unfold x0_erase
  refine x_aload (μ := mu_x0_erase) (pc := 0) 5 dX0_erase_0 rfl ?_
  refine x_iconst (μ := mu_x0_erase) (pc := 2) dX0_erase_2 ?_
  refine x_aload_n (μ := mu_x0_erase) (pc := 3) 0 dX0_erase_3 rfl ?_
  refine x_iload_n (μ := mu_x0_erase) (pc := 4) 1 dX0_erase_4 rfl ?_
  refine x_iload_n (μ := mu_x0_erase) (pc := 5) 2 dX0_erase_5 rfl ?_
  refine x_iload_n (μ := mu_x0_erase) (pc := 6) 3 dX0_erase_6 rfl ?_
  refine x_iload (μ := mu_x0_erase) (pc := 7) 4 dX0_erase_7 rfl ?_
  refine x_if (fun hT1 => ?_)
  refine x_callV_ti (μ := mu_x0_erase) (pc := 9) (ok_x1_erase (ω := ω) (l := l) (d := d - 1) hl (by omega) hv1 hv2 hv3 hv4) q2183 q2184 q2185 q221 q2186 dX0_erase_9 rfl hT1 hy_x1_erase (by omega) (Nat.le_of_ble_eq_true rfl) rfl (Nat.le_of_ble_eq_true rfl) (fun x2 s5 k4 hr3 => ?_) (fun E6 s7 k9 => ?_)
  · refine x_i2l (μ := mu_x0_erase) (pc := 12) dX0_erase_12 hr3 ?_
    refine x_if (fun hT10 => ?_)
    refine x_last (μ := mu_x0_erase) (pc := 13) dX0_erase_13 hT10 rfl (fun _ _ q => gE_wL q) ?_
    refine x_let (fun s11 e12 => ?_)
    refine x_goto (μ := mu_x0_erase) (pc := 14) (tgt := 25) dX0_erase_14 rfl ?_
    refine x_iconst (μ := mu_x0_erase) (pc := 25) dX0_erase_25 ?_
    exact x_iret (μ := mu_x0_erase) (pc := 26) dX0_erase_26 rfl rfl (gRel_E.1 _) (show g32 0 from (by decide))
  · refine x_eqE "java/lang/IndexOutOfBoundsException" (fun _ => ?_) (fun _ => ?_)
    · refine x_catch0 (pc := 9) (tgt := 17) rfl  q1676 q1764 (by decide) (fun q13 => ?_)
      refine x_astore (μ := mu_x0_erase) (pc := 17) (lv' := [(6, vR q13), (0, vR v0), (1, vI v1), (2, vI v2), (3, vI v3), (4, vI v4), (5, vR v5)]) dX0_erase_17 (by decide) rfl ?_
      refine x_iconst (μ := mu_x0_erase) (pc := 19) dX0_erase_19 ?_
      exact x_iret (μ := mu_x0_erase) (pc := 20) dX0_erase_20 rfl rfl (gRel_E.1 _) (show g32 1 from (by decide))
    refine x_eqE "java/lang/IllegalArgumentException" (fun _ => ?_) (fun _ => ?_)
    · refine x_catch1 (pc := 9) (tgt := 21) rfl q1676 (by decide) q1755 q2123 (by decide) (fun q14 => ?_)
      refine x_astore (μ := mu_x0_erase) (pc := 21) (lv' := [(6, vR q14), (0, vR v0), (1, vI v1), (2, vI v2), (3, vI v3), (4, vI v4), (5, vR v5)]) dX0_erase_21 (by decide) rfl ?_
      refine x_iconst (μ := mu_x0_erase) (pc := 23) dX0_erase_23 ?_
      exact x_iret (μ := mu_x0_erase) (pc := 24) dX0_erase_24 rfl rfl (gRel_E.1 _) (show g32 2 from (by decide))
    exact x_xnone
def x1_drop (N : Nat) (v0 : Nat) (σ : gMem) : Option (Int × gMem) := if mT σ v0 = 1 then (x1_take N v0 σ).bind (fun x2 => (x1_head v0 x2).bind (fun x4 => some (x4, x2))) else none
set_option maxRecDepth 100000 in
theorem ok_x1_drop {ω : gW} {l : Launch} {d : Nat} {N : Nat} {σ : gMem} {v0 : Nat} (hl : l.stackTraces = false) (hdp : 4 ≤ d) : gK (fun p : Int × gMem => (.inl (some (vI p.1)), p.2)) gE ω l d mu_x1_drop [vR v0] σ (x1_drop N v0 σ) := by
  refine gK.of hp_X1 (Nat.le_of_ble_eq_true rfl) ?_
  unfold x1_drop
  refine x_aload_n (μ := mu_x1_drop) (pc := 0) 0 dX1_drop_0 rfl ?_
  refine x_if (fun hT1 => ?_)
  refine x_callV_mv (μ := mu_x1_drop) (pc := 1) (ok_x1_take (ω := ω) (l := l) (d := d - 1) hl (by omega) ) gRel_E gRel_E (fun _ q => q) q762 q764 qs1 q221 q765 dX1_drop_1 rfl hT1 hy_x1_take (by omega) (Nat.le_of_ble_eq_true rfl) rfl (Nat.le_of_ble_eq_true rfl) (fun x2 k3 => ?_)
  refine x_aload_n (μ := mu_x1_drop) (pc := 4) 0 dX1_drop_4 rfl ?_
  refine x_callV_pi (μ := mu_x1_drop) (pc := 5) (ok_x1_head (ω := ω) (l := l) (d := d - 1) hl (by omega) ) gRel_E gRel_E (fun _ q => q) q766 q768 qs2 q221 q769 dX1_drop_5 rfl (gT_E k3 hT1 (by decide)) hy_x1_head (by omega) (Nat.le_of_ble_eq_true rfl) rfl (Nat.le_of_ble_eq_true rfl) (fun x4 hr5 => ?_)
  exact x_iret (μ := mu_x1_drop) (pc := 8) dX1_drop_8 rfl rfl (gRel_E.1 _) (show g32 x4 from hr5)
def x1_two (N : Nat) (v0 : Nat) (v1 : Nat) (v2 : Nat) (σ : gMem) : Option gMem := if mT σ v0 = 92 then if mI σ v0 2 ≠ 1 then if v0 ≠ mR σ 0 26 then if mT σ v1 = 5 then (x5_wantNumber v1 σ).bind (fun x4 => if x4.1 = 0 then some (x4.2) else if mT (x4.2) v2 = 5 then (x5_wantNumber v2 (x4.2)).bind (fun x8 => if x8.1 = 0 then (x5_copy v1 v2 (x8.2)).bind (fun x11 => some x11) else (x1_reckon v0 v1 (mL (x8.2) v2 2) (x8.2)).bind (fun x14 => some x14)) else none) else none else if mT σ v1 = 5 then (x5_wantText N v1 σ).bind (fun x17 => if mT x17 v2 = 5 then (x5_wantText N v2 x17).bind (fun x20 => (x5_join v1 v2 x20).bind (fun x22 => some x22)) else none) else none else (x1_compare N v0 v1 v2 σ).bind (fun x24 => some x24) else none
set_option maxRecDepth 100000 in
theorem ok_x1_two {ω : gW} {l : Launch} {d : Nat} {N : Nat} {σ : gMem} {v0 : Nat} {v1 : Nat} {v2 : Nat} (hl : l.stackTraces = false) (hdp : 7 ≤ d) : gK (fun p : gMem => (.inl none, p)) gE ω l d mu_x1_two [vR v0, vR v1, vR v2] σ (x1_two N v0 v1 v2 σ) := by
  refine gK.of hp_X1 (Nat.le_of_ble_eq_true rfl) ?_
  unfold x1_two
  refine x_aload_n (μ := mu_x1_two) (pc := 0) 0 dX1_two_0 rfl ?_
  refine x_if (fun hT1 => ?_)
  refine x_esN (μ := mu_x1_two) (pc := 1) (k := 2) (List.mem_of_getElem? (i := 1) rfl) (by decide) q3796 dX1_two_1 hT1 (fun hr2 => ?_)
  refine x_iconst (μ := mu_x1_two) (pc := 4) dX1_two_4 ?_
  refine x_icmp_ne (μ := mu_x1_two) (pc := 5) (tgt := 17) dX1_two_5 rfl hr2 (by decide) ?_ ?_
  · refine x_aload_n (μ := mu_x1_two) (pc := 17) 0 dX1_two_17 rfl ?_
    refine x_gst (μ := mu_x1_two) (pc := 18) (j := 26) (List.mem_of_getElem? (i := 24) rfl) q1108 dX1_two_18 ?_
    refine x_acmp_ne (μ := mu_x1_two) (pc := 21) (tgt := 40) dX1_two_21 rfl ?_ ?_
    · refine x_aload_n (μ := mu_x1_two) (pc := 40) 1 dX1_two_40 rfl ?_
      refine x_if (fun hT3 => ?_)
      refine x_callV_mi (μ := mu_x1_two) (pc := 41) (ok_x5_wantNumber (ω := ω) (l := l) (d := d - 1) hl (by omega) ) gRel_E gRel_E (fun _ q => q) q1178 q1179 q1180 q225 q1181 dX1_two_41 rfl hT3 hy_x5_wantNumber (by omega) (Nat.le_of_ble_eq_true rfl) rfl (Nat.le_of_ble_eq_true rfl) (fun x4 k6 hr5 => ?_)
      refine x_if_eq (μ := mu_x1_two) (pc := 44) (tgt := 71) dX1_two_44 rfl hr5 ?_ ?_
      · exact x_vret (μ := mu_x1_two) (pc := 71) (a1 := x4.2) dX1_two_71 rfl rfl (gRel_E.1 _) trivial
      · refine x_aload_n (μ := mu_x1_two) (pc := 47) 2 dX1_two_47 rfl ?_
        refine x_if (fun hT7 => ?_)
        refine x_callV_mi (μ := mu_x1_two) (pc := 48) (ok_x5_wantNumber (ω := ω) (l := l) (d := d - 1) hl (by omega) ) gRel_E gRel_E (fun _ q => q) q1178 q1179 q1180 q225 q1181 dX1_two_48 rfl hT7 hy_x5_wantNumber (by omega) (Nat.le_of_ble_eq_true rfl) rfl (Nat.le_of_ble_eq_true rfl) (fun x8 k10 hr9 => ?_)
        refine x_if_eq (μ := mu_x1_two) (pc := 51) (tgt := 66) dX1_two_51 rfl hr9 ?_ ?_
        · refine x_aload_n (μ := mu_x1_two) (pc := 66) 1 dX1_two_66 rfl ?_
          refine x_aload_n (μ := mu_x1_two) (pc := 67) 2 dX1_two_67 rfl ?_
          refine x_callV_mv (μ := mu_x1_two) (pc := 68) (ok_x5_copy (ω := ω) (l := l) (d := d - 1) hl (by omega) ) gRel_E gRel_E (fun _ q => q) q1192 q1077 q1078 q225 q1079 dX1_two_68 rfl (gT_E k10 (gT_E k6 hT3 (by decide)) (by decide)) hy_x5_copy (by omega) (Nat.le_of_ble_eq_true rfl) rfl (Nat.le_of_ble_eq_true rfl) (fun x11 k12 => ?_)
          exact x_vret (μ := mu_x1_two) (pc := 71) (a1 := x11) dX1_two_71 rfl rfl (gRel_E.1 _) trivial
        · refine x_aload_n (μ := mu_x1_two) (pc := 54) 0 dX1_two_54 rfl ?_
          refine x_aload_n (μ := mu_x1_two) (pc := 55) 1 dX1_two_55 rfl ?_
          refine x_aload_n (μ := mu_x1_two) (pc := 56) 2 dX1_two_56 rfl ?_
          refine x_fglN (μ := mu_x1_two) (pc := 57) fX5_2 q381 dX1_two_57 (gT_E k10 hT7 (by decide)) (fun hr13 => ?_)
          refine x_callS_mv (μ := mu_x1_two) (pc := 60) (ok_x1_reckon (ω := ω) (l := l) (d := d - 1) hl (by omega) hr13) gRel_E gRel_E (fun _ q => q) q1182 q1183 q221 q1184 dX1_two_60 hy_x1_reckon (by omega) (Nat.le_of_ble_eq_true rfl) rfl (Nat.le_of_ble_eq_true rfl) (fun x14 k15 => ?_)
          refine x_goto (μ := mu_x1_two) (pc := 63) (tgt := 71) dX1_two_63 rfl ?_
          exact x_vret (μ := mu_x1_two) (pc := 71) (a1 := x14) dX1_two_71 rfl rfl (gRel_E.1 _) trivial
    · refine x_aload_n (μ := mu_x1_two) (pc := 24) 1 dX1_two_24 rfl ?_
      refine x_if (fun hT16 => ?_)
      refine x_callV_mv (μ := mu_x1_two) (pc := 25) (ok_x5_wantText (ω := ω) (l := l) (d := d - 1) hl (by omega) ) gRel_E gRel_E (fun _ q => q) q1110 q1111 q1112 q225 q1113 dX1_two_25 rfl hT16 hy_x5_wantText (by omega) (Nat.le_of_ble_eq_true rfl) rfl (Nat.le_of_ble_eq_true rfl) (fun x17 k18 => ?_)
      refine x_aload_n (μ := mu_x1_two) (pc := 28) 2 dX1_two_28 rfl ?_
      refine x_if (fun hT19 => ?_)
      refine x_callV_mv (μ := mu_x1_two) (pc := 29) (ok_x5_wantText (ω := ω) (l := l) (d := d - 1) hl (by omega) ) gRel_E gRel_E (fun _ q => q) q1110 q1111 q1112 q225 q1113 dX1_two_29 rfl hT19 hy_x5_wantText (by omega) (Nat.le_of_ble_eq_true rfl) rfl (Nat.le_of_ble_eq_true rfl) (fun x20 k21 => ?_)
      refine x_aload_n (μ := mu_x1_two) (pc := 32) 1 dX1_two_32 rfl ?_
      refine x_aload_n (μ := mu_x1_two) (pc := 33) 2 dX1_two_33 rfl ?_
      refine x_callV_mv (μ := mu_x1_two) (pc := 34) (ok_x5_join (ω := ω) (l := l) (d := d - 1) hl (by omega) ) gRel_E gRel_E (fun _ q => q) q1174 q1175 q1176 q225 q1177 dX1_two_34 rfl (gT_E k21 (gT_E k18 hT16 (by decide)) (by decide)) hy_x5_join (by omega) (Nat.le_of_ble_eq_true rfl) rfl (Nat.le_of_ble_eq_true rfl) (fun x22 k23 => ?_)
      refine x_goto (μ := mu_x1_two) (pc := 37) (tgt := 71) dX1_two_37 rfl ?_
      exact x_vret (μ := mu_x1_two) (pc := 71) (a1 := x22) dX1_two_71 rfl rfl (gRel_E.1 _) trivial
  · refine x_aload_n (μ := mu_x1_two) (pc := 8) 0 dX1_two_8 rfl ?_
    refine x_aload_n (μ := mu_x1_two) (pc := 9) 1 dX1_two_9 rfl ?_
    refine x_aload_n (μ := mu_x1_two) (pc := 10) 2 dX1_two_10 rfl ?_
    refine x_callS_mv (μ := mu_x1_two) (pc := 11) (ok_x1_compare (ω := ω) (l := l) (d := d - 1) hl (by omega) ) gRel_E gRel_E (fun _ q => q) q1083 q1084 q221 q1085 dX1_two_11 hy_x1_compare (by omega) (Nat.le_of_ble_eq_true rfl) rfl (Nat.le_of_ble_eq_true rfl) (fun x24 k25 => ?_)
    refine x_goto (μ := mu_x1_two) (pc := 14) (tgt := 71) dX1_two_14 rfl ?_
    exact x_vret (μ := mu_x1_two) (pc := 71) (a1 := x24) dX1_two_71 rfl rfl (gRel_E.1 _) trivial
def x1_isAlike_j8 (N : Nat) (σ : gMem) (v0 : Nat) (v1 : Nat) : Option Int := if v0 ≠ v1 then some 0 else some 1
set_option maxRecDepth 100000 in
theorem okj_x1_isAlike_j8 {ω : gW} {l : Launch} {d : Nat} {N : Nat} {σ : gMem} {v0 : Nat} {v1 : Nat} (hl : l.stackTraces = false) (hdp : 67 ≤ d) : GG (fun x : Int => (.inl (some (vI x)), σ)) gE ω l d mu_x1_isAlike σ 8 [(0, vR v0), (1, vR v1)] [] σ (x1_isAlike_j8 N σ v0 v1 ) := by
  unfold x1_isAlike_j8
  refine x_aload_n (μ := mu_x1_isAlike) (pc := 8) 0 dX1_isAlike_8 rfl ?_
  refine x_aload_n (μ := mu_x1_isAlike) (pc := 9) 1 dX1_isAlike_9 rfl ?_
  refine x_acmp_ne (μ := mu_x1_isAlike) (pc := 10) (tgt := 17) dX1_isAlike_10 rfl ?_ ?_
  · refine x_iconst (μ := mu_x1_isAlike) (pc := 17) dX1_isAlike_17 ?_
    refine x_goto (μ := mu_x1_isAlike) (pc := 18) (tgt := 28) dX1_isAlike_18 rfl ?_
    exact x_zret (μ := mu_x1_isAlike) (pc := 28) dX1_isAlike_28 rfl (by decide) rfl (gRel_E.1 _) (show g32 0 from (by decide))
  · refine x_iconst (μ := mu_x1_isAlike) (pc := 13) dX1_isAlike_13 ?_
    refine x_goto (μ := mu_x1_isAlike) (pc := 14) (tgt := 28) dX1_isAlike_14 rfl ?_
    exact x_zret (μ := mu_x1_isAlike) (pc := 28) dX1_isAlike_28 rfl (by decide) rfl (gRel_E.1 _) (show g32 1 from (by decide))
def x1_isAlike (N : Nat) (v0 : Nat) (v1 : Nat) (σ : gMem) : Option Int := if v0 = 0 then x1_isAlike_j8 N σ v0 v1  else if v1 ≠ 0 then (dp_Content_isAlike N v0 v1 σ).bind (fun x1 => if x1 = 0 ∨ x1 = 1 then some x1 else none) else x1_isAlike_j8 N σ v0 v1 
set_option maxRecDepth 100000 in
theorem ok_x1_isAlike {ω : gW} {l : Launch} {d : Nat} {N : Nat} {σ : gMem} {v0 : Nat} {v1 : Nat} (hl : l.stackTraces = false) (hdp : 67 ≤ d) : gK (fun x : Int => (.inl (some (vI x)), σ)) gE ω l d mu_x1_isAlike [vR v0, vR v1] σ (x1_isAlike N v0 v1 σ) := by
  refine gK.of hp_X1 (Nat.le_of_ble_eq_true rfl) ?_
  unfold x1_isAlike
  refine x_aload_n (μ := mu_x1_isAlike) (pc := 0) 0 dX1_isAlike_0 rfl ?_
  refine x_ifnull (μ := mu_x1_isAlike) (pc := 1) (tgt := 8) dX1_isAlike_1 rfl ?_ ?_
  · exact okj_x1_isAlike_j8 hl hdp
  · refine x_aload_n (μ := mu_x1_isAlike) (pc := 4) 1 dX1_isAlike_4 rfl ?_
    refine x_ifnonnull (μ := mu_x1_isAlike) (pc := 5) (tgt := 21) dX1_isAlike_5 rfl ?_ ?_
    · refine x_aload_n (μ := mu_x1_isAlike) (pc := 21) 0 dX1_isAlike_21 rfl ?_
      refine x_aload_n (μ := mu_x1_isAlike) (pc := 22) 1 dX1_isAlike_22 rfl ?_
      refine x_callF_pi (μ := mu_x1_isAlike) (pc := 23) (ok_dp_Content_isAlike (ω := ω) (l := l) (d := d - 1) hl v0 v1 σ (by omega)) gRel_E gRel_E (fun _ q => q) q1575 dX1_isAlike_23 iy_Content_isAlike_hy (by omega) rfl (Nat.le_of_ble_eq_true rfl) (fun x1 hr2 => ?_)
      exact x_if (μ := mu_x1_isAlike) (pc := 28) (fun hz => x_zret dX1_isAlike_28 rfl hz rfl (gRel_E.1 _) (show g32 x1 from hr2))
    · exact okj_x1_isAlike_j8 hl hdp
def x1_copy_l98_j146 (N : Nat) (v0 : Nat) (v1 : Int) (v2 : Int) (v5 : Int) (v6 : Int) (v7 : Int) (v8 : Int) (v10 : Int) (v11 : Int) (t0 : Int) (t1 : Int) (Kh : Int → Int → gMem → Option gR) (K : Int → gMem → Option gR) (s : gMem) : Option gR := Kh (w32 (t1 + t0)) (w32 (v11 + 1)) s
set_option maxRecDepth 100000 in
theorem okj_x1_copy_l98_j146 {ω : gW} {l : Launch} {d : Nat} {N : Nat} {σ0 : gMem} {s : gMem} {v0 : Nat} {v1 : Int} {v2 : Int} {v5 : Int} {v6 : Int} {v7 : Int} {v8 : Int} {v10 : Int} {v11 : Int} {t0 : Int} {t1 : Int} {Kh : Int → Int → gMem → Option gR} {K : Int → gMem → Option gR} (hl : l.stackTraces = false) (hdp : 69 ≤ d) (hv1 : g32 v1) (hv2 : g32 v2) (hv5 : g32 v5) (hv6 : g32 v6) (hv7 : g32 v7) (hv8 : g32 v8) (hv10 : g32 v10) (hv11 : g32 v11) (ht0 : g32 t0) (ht1 : g32 t1) (hKh : ∀ (v9 : Int) (v11 : Int) (s : gMem) , g32 v9 → g32 v11 → GG (fun p : gR => p) gE ω l d mu_x1_copy σ0 98 [(0, vR v0), (1, vI v1), (2, vI v2), (5, vI v5), (6, vI v6), (7, vI v7), (8, vI v8), (9, vI v9), (10, vI v10), (11, vI v11)] [] s (Kh v9 v11 s)) (hK : ∀ (v9 : Int) (s : gMem) , g32 v9 → GG (fun p : gR => p) gE ω l d mu_x1_copy σ0 155 [(0, vR v0), (1, vI v1), (2, vI v2), (5, vI v5), (6, vI v6), (7, vI v7), (8, vI v8), (9, vI v9), (10, vI v10)] [] s (K v9 s)) : GG (fun p : gR => p) gE ω l d mu_x1_copy σ0 146 [(0, vR v0), (1, vI v1), (2, vI v2), (5, vI v5), (6, vI v6), (7, vI v7), (8, vI v8), (10, vI v10), (11, vI v11)] [vI t0, vI t1] s (x1_copy_l98_j146 N v0 v1 v2 v5 v6 v7 v8 v10 v11 t0 t1 Kh K s) := by
  unfold x1_copy_l98_j146
  refine x_iadd (μ := mu_x1_copy) (pc := 146) dX1_copy_146 ?_
  refine x_w1 ?_
  refine x_istore (μ := mu_x1_copy) (pc := 147) (lv' := [(9, vI (w32 (t1 + t0))), (0, vR v0), (1, vI v1), (2, vI v2), (5, vI v5), (6, vI v6), (7, vI v7), (8, vI v8), (10, vI v10), (11, vI v11)]) dX1_copy_147 (by decide) rfl ?_
  refine x_iincw (μ := mu_x1_copy) (pc := 149) (lv' := [(11, vI (w32 (v11 + 1))), (9, vI (w32 (t1 + t0))), (0, vR v0), (1, vI v1), (2, vI v2), (5, vI v5), (6, vI v6), (7, vI v7), (8, vI v8), (10, vI v10)]) 9 dX1_copy_149 rfl (by decide) rfl ?_
  refine x_goto (μ := mu_x1_copy) (pc := 152) (tgt := 98) dX1_copy_152 rfl ?_
  refine x_loc (lv' := [(0, vR v0), (1, vI v1), (2, vI v2), (5, vI v5), (6, vI v6), (7, vI v7), (8, vI v8), (9, vI (w32 (t1 + t0))), (10, vI v10), (11, vI (w32 (v11 + 1)))]) [2, 3, 4, 5, 6, 7, 8, 1, 9, 0] rfl ?_
  exact hKh (w32 (t1 + t0)) (w32 (v11 + 1)) s (w32_rng _) (w32_rng _)
def x1_copy_l98 (N : Nat) (v0 : Nat) (v1 : Int) (v2 : Int) (v5 : Int) (v6 : Int) (v7 : Int) (v8 : Int) (v10 : Int) (K : Int → gMem → Option gR) : Nat → Int → Int → gMem → Option gR
  | 0, _, _, _ => none
  | n + 1, v9, v11, s => if v8 ≤ v11 then K v9 s else if mT s v0 = 1 then if mT s (mR s v0 8) = 8 then if mT s (mR s (mR s v0 8) 2) = 111 then if 0 ≤ ((v1 - 1) + v10) ∧ ((v1 - 1) + v10) < (mN s (mR s (mR s v0 8) 2) : Int) then if mT s (mR s (mR s (mR s v0 8) 2) ((v1 - 1) + v10).toNat) = 110 then if 0 ≤ ((v2 - 1) + v11) ∧ ((v2 - 1) + v11) < (mN s (mR s (mR s (mR s v0 8) 2) ((v1 - 1) + v10).toNat) : Int) then if mR s (mR s (mR s (mR s v0 8) 2) ((v1 - 1) + v10).toNat) ((v2 - 1) + v11).toNat ≠ 0 then (dp_Content_parts (mR s (mR s (mR s (mR s v0 8) 2) ((v1 - 1) + v10).toNat) ((v2 - 1) + v11).toNat) s).bind (fun x15 => x1_copy_l98_j146 N v0 v1 v2 v5 v6 v7 v8 v10 v11 x15 v9 (x1_copy_l98 N v0 v1 v2 v5 v6 v7 v8 v10 K n) K s) else x1_copy_l98_j146 N v0 v1 v2 v5 v6 v7 v8 v10 v11 0 v9 (x1_copy_l98 N v0 v1 v2 v5 v6 v7 v8 v10 K n) K s else none else none else none else none else none else none
set_option maxRecDepth 100000 in
theorem okl_x1_copy_l98 {ω : gW} {l : Launch} {d : Nat} {N : Nat} {σ0 : gMem} {v0 : Nat} {v1 : Int} {v2 : Int} {v5 : Int} {v6 : Int} {v7 : Int} {v8 : Int} {v10 : Int} {K : Int → gMem → Option gR} (hl : l.stackTraces = false) (hdp : 69 ≤ d) (hv1 : g32 v1) (hv2 : g32 v2) (hv5 : g32 v5) (hv6 : g32 v6) (hv7 : g32 v7) (hv8 : g32 v8) (hv10 : g32 v10) (hK : ∀ (v9 : Int) (s : gMem) , g32 v9 → GG (fun p : gR => p) gE ω l d mu_x1_copy σ0 155 [(0, vR v0), (1, vI v1), (2, vI v2), (5, vI v5), (6, vI v6), (7, vI v7), (8, vI v8), (9, vI v9), (10, vI v10)] [] s (K v9 s)) : ∀ (n : Nat) (v9 : Int) (v11 : Int) (s : gMem) , g32 v9 → g32 v11 → GG (fun p : gR => p) gE ω l d mu_x1_copy σ0 98 [(0, vR v0), (1, vI v1), (2, vI v2), (5, vI v5), (6, vI v6), (7, vI v7), (8, vI v8), (9, vI v9), (10, vI v10), (11, vI v11)] [] s (x1_copy_l98 N v0 v1 v2 v5 v6 v7 v8 v10 K n v9 v11 s) := by
  intro n
  induction n with
  | zero => intros; exact x_none
  | succ n ih =>
    intro v9 v11 s hv9 hv11
    unfold x1_copy_l98
    refine x_iload (μ := mu_x1_copy) (pc := 98) 9 dX1_copy_98 rfl ?_
    refine x_iload (μ := mu_x1_copy) (pc := 100) 6 dX1_copy_100 rfl ?_
    refine x_icmp_ge (μ := mu_x1_copy) (pc := 102) (tgt := 155) dX1_copy_102 rfl hv11 hv8 ?_ ?_
    · refine x_loc (lv' := [(0, vR v0), (1, vI v1), (2, vI v2), (5, vI v5), (6, vI v6), (7, vI v7), (8, vI v8), (9, vI v9), (10, vI v10)]) [0, 1, 2, 3, 4, 5, 6, 7, 8] rfl ?_
      exact hK v9 s hv9
    · refine x_aload_n (μ := mu_x1_copy) (pc := 105) 0 dX1_copy_105 rfl ?_
      refine x_if (fun hT11 => ?_)
      refine x_fgr (μ := mu_x1_copy) (pc := 106) fX1_8 (by first | exact Or.inl ⟨_, rfl⟩ | exact Or.inr ⟨_, rfl⟩) q653 dX1_copy_106 hT11 ?_
      refine x_if (fun hT12 => ?_)
      refine x_fgrN (μ := mu_x1_copy) (pc := 109) fX9_2 (by first | exact Or.inl ⟨_, rfl⟩ | exact Or.inr ⟨_, rfl⟩) q582 dX1_copy_109 hT12 ?_
      refine x_iload_n (μ := mu_x1_copy) (pc := 112) 1 dX1_copy_112 rfl ?_
      refine x_iconst (μ := mu_x1_copy) (pc := 113) dX1_copy_113 ?_
      refine x_isub (μ := mu_x1_copy) (pc := 114) dX1_copy_114 ?_
      refine x_iload (μ := mu_x1_copy) (pc := 115) 8 dX1_copy_115 rfl ?_
      refine x_iadd (μ := mu_x1_copy) (pc := 117) dX1_copy_117 ?_
      refine x_if (fun hT13 => ?_)
      refine x_aald (μ := mu_x1_copy) (pc := 118) 11 (fun _ => rfl) rfl rfl dX1_copy_118 hT13 rfl ?_
      refine x_iload_n (μ := mu_x1_copy) (pc := 119) 2 dX1_copy_119 rfl ?_
      refine x_iconst (μ := mu_x1_copy) (pc := 120) dX1_copy_120 ?_
      refine x_isub (μ := mu_x1_copy) (pc := 121) dX1_copy_121 ?_
      refine x_iload (μ := mu_x1_copy) (pc := 122) 9 dX1_copy_122 rfl ?_
      refine x_iadd (μ := mu_x1_copy) (pc := 124) dX1_copy_124 ?_
      refine x_if (fun hT14 => ?_)
      refine x_aald (μ := mu_x1_copy) (pc := 125) 10 (fun _ => rfl) rfl rfl dX1_copy_125 hT14 rfl ?_
      refine x_astore (μ := mu_x1_copy) (pc := 126) (lv' := [(12, vR (mR s (mR s (mR s (mR s v0 8) 2) ((v1 - 1) + v10).toNat) ((v2 - 1) + v11).toNat)), (0, vR v0), (1, vI v1), (2, vI v2), (5, vI v5), (6, vI v6), (7, vI v7), (8, vI v8), (9, vI v9), (10, vI v10), (11, vI v11)]) dX1_copy_126 (by decide) rfl ?_
      refine x_iload (μ := mu_x1_copy) (pc := 128) 8 dX1_copy_128 rfl ?_
      refine x_aload (μ := mu_x1_copy) (pc := 130) 0 dX1_copy_130 rfl ?_
      refine x_ifnonnull (μ := mu_x1_copy) (pc := 132) (tgt := 139) dX1_copy_132 rfl ?_ ?_
      · refine x_aload (μ := mu_x1_copy) (pc := 139) 0 dX1_copy_139 rfl ?_
        refine x_callF_pi (μ := mu_x1_copy) (pc := 141) (ok_dp_Content_parts (ω := ω) (l := l) (d := d - 1) hl (mR s (mR s (mR s (mR s v0 8) 2) ((v1 - 1) + v10).toNat) ((v2 - 1) + v11).toNat) s (by omega)) gRel_E gRel_E (fun _ q => q) q2137 dX1_copy_141 iy_Content_parts_hy (by omega) rfl (Nat.le_of_ble_eq_true rfl) (fun x15 hr16 => ?_)
        refine x_loc (lv' := [(0, vR v0), (1, vI v1), (2, vI v2), (5, vI v5), (6, vI v6), (7, vI v7), (8, vI v8), (10, vI v10), (11, vI v11)]) [1, 2, 3, 4, 5, 6, 7, 9, 10] rfl ?_
        exact okj_x1_copy_l98_j146 hl hdp hv1 hv2 hv5 hv6 hv7 hv8 hv10 hv11 hr16 hv9 ih hK
      · refine x_iconst (μ := mu_x1_copy) (pc := 135) dX1_copy_135 ?_
        refine x_goto (μ := mu_x1_copy) (pc := 136) (tgt := 146) dX1_copy_136 rfl ?_
        refine x_loc (lv' := [(0, vR v0), (1, vI v1), (2, vI v2), (5, vI v5), (6, vI v6), (7, vI v7), (8, vI v8), (10, vI v10), (11, vI v11)]) [1, 2, 3, 4, 5, 6, 7, 9, 10] rfl ?_
        exact okj_x1_copy_l98_j146 hl hdp hv1 hv2 hv5 hv6 hv7 hv8 hv10 hv11 (by decide) hv9 ih hK
def x1_copy_l88 (N : Nat) (v0 : Nat) (v1 : Int) (v2 : Int) (v5 : Int) (v6 : Int) (v7 : Int) (v8 : Int) (K : Int → gMem → Option gR) : Nat → Int → Int → gMem → Option gR
  | 0, _, _, _ => none
  | n + 1, v9, v10, s => if v7 ≤ v10 then K v9 s else x1_copy_l98 N v0 v1 v2 v5 v6 v7 v8 v10 (fun y17 s18 => x1_copy_l88 N v0 v1 v2 v5 v6 v7 v8 K n y17 (w32 (v10 + 1)) s18) N v9 0 s
set_option maxRecDepth 100000 in
theorem okl_x1_copy_l88 {ω : gW} {l : Launch} {d : Nat} {N : Nat} {σ0 : gMem} {v0 : Nat} {v1 : Int} {v2 : Int} {v5 : Int} {v6 : Int} {v7 : Int} {v8 : Int} {K : Int → gMem → Option gR} (hl : l.stackTraces = false) (hdp : 69 ≤ d) (hv1 : g32 v1) (hv2 : g32 v2) (hv5 : g32 v5) (hv6 : g32 v6) (hv7 : g32 v7) (hv8 : g32 v8) (hK : ∀ (v9 : Int) (s : gMem) , g32 v9 → GG (fun p : gR => p) gE ω l d mu_x1_copy σ0 161 [(0, vR v0), (1, vI v1), (2, vI v2), (5, vI v5), (6, vI v6), (7, vI v7), (8, vI v8), (9, vI v9)] [] s (K v9 s)) : ∀ (n : Nat) (v9 : Int) (v10 : Int) (s : gMem) , g32 v9 → g32 v10 → GG (fun p : gR => p) gE ω l d mu_x1_copy σ0 88 [(0, vR v0), (1, vI v1), (2, vI v2), (5, vI v5), (6, vI v6), (7, vI v7), (8, vI v8), (9, vI v9), (10, vI v10)] [] s (x1_copy_l88 N v0 v1 v2 v5 v6 v7 v8 K n v9 v10 s) := by
  intro n
  induction n with
  | zero => intros; exact x_none
  | succ n ih =>
    intro v9 v10 s hv9 hv10
    unfold x1_copy_l88
    refine x_iload (μ := mu_x1_copy) (pc := 88) 8 dX1_copy_88 rfl ?_
    refine x_iload (μ := mu_x1_copy) (pc := 90) 5 dX1_copy_90 rfl ?_
    refine x_icmp_ge (μ := mu_x1_copy) (pc := 92) (tgt := 161) dX1_copy_92 rfl hv10 hv7 ?_ ?_
    · refine x_loc (lv' := [(0, vR v0), (1, vI v1), (2, vI v2), (5, vI v5), (6, vI v6), (7, vI v7), (8, vI v8), (9, vI v9)]) [0, 1, 2, 3, 4, 5, 6, 7] rfl ?_
      exact hK v9 s hv9
    · refine x_iconst (μ := mu_x1_copy) (pc := 95) dX1_copy_95 ?_
      refine x_istore (μ := mu_x1_copy) (pc := 96) (lv' := [(11, vI 0), (0, vR v0), (1, vI v1), (2, vI v2), (5, vI v5), (6, vI v6), (7, vI v7), (8, vI v8), (9, vI v9), (10, vI v10)]) dX1_copy_96 (by decide) rfl ?_
      refine x_loc (lv' := [(0, vR v0), (1, vI v1), (2, vI v2), (5, vI v5), (6, vI v6), (7, vI v7), (8, vI v8), (9, vI v9), (10, vI v10), (11, vI 0)]) [1, 2, 3, 4, 5, 6, 7, 8, 9, 0] rfl ?_
      refine okl_x1_copy_l98 hl hdp hv1 hv2 hv5 hv6 hv7 hv8 hv10 (fun y17 s18 hy17 => ?_) N v9 0 s hv9 (by decide)
      refine x_iincw (μ := mu_x1_copy) (pc := 155) (lv' := [(10, vI (w32 (v10 + 1))), (0, vR v0), (1, vI v1), (2, vI v2), (5, vI v5), (6, vI v6), (7, vI v7), (8, vI v8), (9, vI y17)]) 8 dX1_copy_155 rfl (by decide) rfl ?_
      refine x_goto (μ := mu_x1_copy) (pc := 158) (tgt := 88) dX1_copy_158 rfl ?_
      refine x_loc (lv' := [(0, vR v0), (1, vI v1), (2, vI v2), (5, vI v5), (6, vI v6), (7, vI v7), (8, vI v8), (9, vI y17), (10, vI (w32 (v10 + 1)))]) [1, 2, 3, 4, 5, 6, 7, 8, 0] rfl ?_
      exact ih y17 (w32 (v10 + 1)) s18 hy17 (w32_rng _)
def x1_copy_l246_j313 (N : Nat) (v0 : Nat) (v1 : Int) (v2 : Int) (v5 : Int) (v6 : Int) (v7 : Int) (v8 : Int) (v10 : Nat) (v11 : Nat) (v12 : Int) (v13 : Int) (v14 : Nat) (Kh : Int → gMem → Option gR) (K : gMem → Option gR) (s : gMem) : Option gR := if mT s v0 = 1 then if mT s (mR s v0 8) = 8 then if mT s (mR s (mR s v0 8) 2) = 111 then if 0 ≤ ((v5 - 1) + v12) ∧ ((v5 - 1) + v12) < (mN s (mR s (mR s v0 8) 2) : Int) then if mT s (mR s (mR s (mR s v0 8) 2) ((v5 - 1) + v12).toNat) = 110 then if v14 = 0 ∨ gAsg 10 (mT s v14) = true then if 0 ≤ ((v6 - 1) + v13) ∧ ((v6 - 1) + v13) < (mN s (mR s (mR s (mR s v0 8) 2) ((v5 - 1) + v12).toNat) : Int) then gLet (wR s (mR s (mR s (mR s v0 8) 2) ((v5 - 1) + v12).toNat) ((v6 - 1) + v13).toNat v14) (fun s55 => Kh (w32 (v13 + 1)) s55) else none else none else none else none else none else none else none
set_option maxRecDepth 100000 in
theorem okj_x1_copy_l246_j313 {ω : gW} {l : Launch} {d : Nat} {N : Nat} {σ0 : gMem} {s : gMem} {v0 : Nat} {v1 : Int} {v2 : Int} {v5 : Int} {v6 : Int} {v7 : Int} {v8 : Int} {v10 : Nat} {v11 : Nat} {v12 : Int} {v13 : Int} {v14 : Nat} {Kh : Int → gMem → Option gR} {K : gMem → Option gR} (hl : l.stackTraces = false) (hdp : 69 ≤ d) (hv1 : g32 v1) (hv2 : g32 v2) (hv5 : g32 v5) (hv6 : g32 v6) (hv7 : g32 v7) (hv8 : g32 v8) (hv12 : g32 v12) (hv13 : g32 v13) (hKh : ∀ (v13 : Int) (s : gMem) , g32 v13 → GG (fun p : gR => p) gE ω l d mu_x1_copy σ0 246 [(0, vR v0), (1, vI v1), (2, vI v2), (5, vI v5), (6, vI v6), (7, vI v7), (8, vI v8), (10, vR v10), (11, vR v11), (12, vI v12), (13, vI v13)] [] s (Kh v13 s)) (hK : ∀ (s : gMem) , GG (fun p : gR => p) gE ω l d mu_x1_copy σ0 344 [(0, vR v0), (1, vI v1), (2, vI v2), (5, vI v5), (6, vI v6), (7, vI v7), (8, vI v8), (10, vR v10), (11, vR v11), (12, vI v12)] [] s (K s)) : GG (fun p : gR => p) gE ω l d mu_x1_copy σ0 313 [(0, vR v0), (1, vI v1), (2, vI v2), (5, vI v5), (6, vI v6), (7, vI v7), (8, vI v8), (10, vR v10), (11, vR v11), (12, vI v12), (13, vI v13), (14, vR v14)] [] s (x1_copy_l246_j313 N v0 v1 v2 v5 v6 v7 v8 v10 v11 v12 v13 v14 Kh K s) := by
  unfold x1_copy_l246_j313
  refine x_aload_n (μ := mu_x1_copy) (pc := 313) 0 dX1_copy_313 rfl ?_
  refine x_if (fun hT50 => ?_)
  refine x_fgr (μ := mu_x1_copy) (pc := 314) fX1_8 (by first | exact Or.inl ⟨_, rfl⟩ | exact Or.inr ⟨_, rfl⟩) q653 dX1_copy_314 hT50 ?_
  refine x_if (fun hT51 => ?_)
  refine x_fgrN (μ := mu_x1_copy) (pc := 317) fX9_2 (by first | exact Or.inl ⟨_, rfl⟩ | exact Or.inr ⟨_, rfl⟩) q582 dX1_copy_317 hT51 ?_
  refine x_iload (μ := mu_x1_copy) (pc := 320) 3 dX1_copy_320 rfl ?_
  refine x_iconst (μ := mu_x1_copy) (pc := 322) dX1_copy_322 ?_
  refine x_isub (μ := mu_x1_copy) (pc := 323) dX1_copy_323 ?_
  refine x_iload (μ := mu_x1_copy) (pc := 324) 9 dX1_copy_324 rfl ?_
  refine x_iadd (μ := mu_x1_copy) (pc := 326) dX1_copy_326 ?_
  refine x_if (fun hT52 => ?_)
  refine x_aald (μ := mu_x1_copy) (pc := 327) 11 (fun _ => rfl) rfl rfl dX1_copy_327 hT52 rfl ?_
  refine x_iload (μ := mu_x1_copy) (pc := 328) 4 dX1_copy_328 rfl ?_
  refine x_iconst (μ := mu_x1_copy) (pc := 330) dX1_copy_330 ?_
  refine x_isub (μ := mu_x1_copy) (pc := 331) dX1_copy_331 ?_
  refine x_iload (μ := mu_x1_copy) (pc := 332) 10 dX1_copy_332 rfl ?_
  refine x_iadd (μ := mu_x1_copy) (pc := 334) dX1_copy_334 ?_
  refine x_aload (μ := mu_x1_copy) (pc := 335) 11 dX1_copy_335 rfl ?_
  refine x_if (fun hT53 => ?_)
  refine x_if (fun hz54 => ?_)
  refine x_aast (μ := mu_x1_copy) (pc := 337) 10 ⟨fun _ => rfl, rfl, rfl⟩ dX1_copy_337 hT53 rfl hz54 (fun _ _ q => gE_wR q) ?_
  refine x_let (fun s55 e56 => ?_)
  refine x_iincw (μ := mu_x1_copy) (pc := 338) (lv' := [(13, vI (w32 (v13 + 1))), (0, vR v0), (1, vI v1), (2, vI v2), (5, vI v5), (6, vI v6), (7, vI v7), (8, vI v8), (10, vR v10), (11, vR v11), (12, vI v12), (14, vR v14)]) 10 dX1_copy_338 rfl (by decide) rfl ?_
  refine x_goto (μ := mu_x1_copy) (pc := 341) (tgt := 246) dX1_copy_341 rfl ?_
  refine x_loc (lv' := [(0, vR v0), (1, vI v1), (2, vI v2), (5, vI v5), (6, vI v6), (7, vI v7), (8, vI v8), (10, vR v10), (11, vR v11), (12, vI v12), (13, vI (w32 (v13 + 1)))]) [1, 2, 3, 4, 5, 6, 7, 8, 9, 10, 0] rfl ?_
  exact hKh (w32 (v13 + 1)) s55 (w32_rng _)
def x1_copy_l246 (N : Nat) (v0 : Nat) (v1 : Int) (v2 : Int) (v5 : Int) (v6 : Int) (v7 : Int) (v8 : Int) (v10 : Nat) (v11 : Nat) (v12 : Int) (K : gMem → Option gR) : Nat → Int → gMem → Option gR
  | 0, _, _ => none
  | n + 1, v13, s => if v8 ≤ v13 then K s else if mT s v10 = 8 then if mT s (mR s v10 2) = 111 then if 0 ≤ ((v1 - 1) + v12) ∧ ((v1 - 1) + v12) < (mN s (mR s v10 2) : Int) then if mT s (mR s (mR s v10 2) ((v1 - 1) + v12).toNat) = 110 then if 0 ≤ ((v2 - 1) + v13) ∧ ((v2 - 1) + v13) < (mN s (mR s (mR s v10 2) ((v1 - 1) + v12).toNat) : Int) then if mR s (mR s (mR s v10 2) ((v1 - 1) + v12).toNat) ((v2 - 1) + v13).toNat = 0 ∨ gNode (mT s (mR s (mR s (mR s v10 2) ((v1 - 1) + v12).toNat) ((v2 - 1) + v13).toNat)) = true then if mT s (mR s (mR s (mR s v10 2) ((v1 - 1) + v12).toNat) ((v2 - 1) + v13).toNat) = 21 then gLet (wN s 21 2) (fun s40 => if mR s (mR s (mR s v10 2) ((v1 - 1) + v12).toNat) ((v2 - 1) + v13).toNat = 0 ∨ mT s40 (mR s (mR s (mR s v10 2) ((v1 - 1) + v12).toNat) ((v2 - 1) + v13).toNat) = 21 then if mT s40 (mR s (mR s (mR s v10 2) ((v1 - 1) + v12).toNat) ((v2 - 1) + v13).toNat) = 21 then (dp_Part_shifted N 64 (mR s40 (mR s (mR s (mR s v10 2) ((v1 - 1) + v12).toNat) ((v2 - 1) + v13).toNat) 0) v11 s40).bind (fun x44 => (dp_Content_parts (mR s (mR s (mR s v10 2) ((v1 - 1) + v12).toNat) ((v2 - 1) + v13).toNat) (x44.2)).bind (fun x46 => (x23_init (mZ s) (x44.1) x46 (x44.2)).bind (fun x48 => x1_copy_l246_j313 N v0 v1 v2 v5 v6 v7 v8 v10 v11 v12 v13 (mZ s)  (x1_copy_l246 N v0 v1 v2 v5 v6 v7 v8 v10 v11 v12 K n) K x48))) else none else none) else x1_copy_l246_j313 N v0 v1 v2 v5 v6 v7 v8 v10 v11 v12 v13 (mR s (mR s (mR s v10 2) ((v1 - 1) + v12).toNat) ((v2 - 1) + v13).toNat)  (x1_copy_l246 N v0 v1 v2 v5 v6 v7 v8 v10 v11 v12 K n) K s else none else none else none else none else none else none
set_option maxRecDepth 100000 in
theorem okl_x1_copy_l246 {ω : gW} {l : Launch} {d : Nat} {N : Nat} {σ0 : gMem} {v0 : Nat} {v1 : Int} {v2 : Int} {v5 : Int} {v6 : Int} {v7 : Int} {v8 : Int} {v10 : Nat} {v11 : Nat} {v12 : Int} {K : gMem → Option gR} (hl : l.stackTraces = false) (hdp : 69 ≤ d) (hv1 : g32 v1) (hv2 : g32 v2) (hv5 : g32 v5) (hv6 : g32 v6) (hv7 : g32 v7) (hv8 : g32 v8) (hv12 : g32 v12) (hK : ∀ (s : gMem) , GG (fun p : gR => p) gE ω l d mu_x1_copy σ0 344 [(0, vR v0), (1, vI v1), (2, vI v2), (5, vI v5), (6, vI v6), (7, vI v7), (8, vI v8), (10, vR v10), (11, vR v11), (12, vI v12)] [] s (K s)) : ∀ (n : Nat) (v13 : Int) (s : gMem) , g32 v13 → GG (fun p : gR => p) gE ω l d mu_x1_copy σ0 246 [(0, vR v0), (1, vI v1), (2, vI v2), (5, vI v5), (6, vI v6), (7, vI v7), (8, vI v8), (10, vR v10), (11, vR v11), (12, vI v12), (13, vI v13)] [] s (x1_copy_l246 N v0 v1 v2 v5 v6 v7 v8 v10 v11 v12 K n v13 s) := by
  intro n
  induction n with
  | zero => intros; exact x_none
  | succ n ih =>
    intro v13 s hv13
    unfold x1_copy_l246
    refine x_iload (μ := mu_x1_copy) (pc := 246) 10 dX1_copy_246 rfl ?_
    refine x_iload (μ := mu_x1_copy) (pc := 248) 6 dX1_copy_248 rfl ?_
    refine x_icmp_ge (μ := mu_x1_copy) (pc := 250) (tgt := 344) dX1_copy_250 rfl hv13 hv8 ?_ ?_
    · refine x_loc (lv' := [(0, vR v0), (1, vI v1), (2, vI v2), (5, vI v5), (6, vI v6), (7, vI v7), (8, vI v8), (10, vR v10), (11, vR v11), (12, vI v12)]) [0, 1, 2, 3, 4, 5, 6, 7, 8, 9] rfl ?_
      exact hK s
    · refine x_aload (μ := mu_x1_copy) (pc := 253) 7 dX1_copy_253 rfl ?_
      refine x_if (fun hT35 => ?_)
      refine x_fgrN (μ := mu_x1_copy) (pc := 255) fX9_2 (by first | exact Or.inl ⟨_, rfl⟩ | exact Or.inr ⟨_, rfl⟩) q582 dX1_copy_255 hT35 ?_
      refine x_iload_n (μ := mu_x1_copy) (pc := 258) 1 dX1_copy_258 rfl ?_
      refine x_iconst (μ := mu_x1_copy) (pc := 259) dX1_copy_259 ?_
      refine x_isub (μ := mu_x1_copy) (pc := 260) dX1_copy_260 ?_
      refine x_iload (μ := mu_x1_copy) (pc := 261) 9 dX1_copy_261 rfl ?_
      refine x_iadd (μ := mu_x1_copy) (pc := 263) dX1_copy_263 ?_
      refine x_if (fun hT36 => ?_)
      refine x_aald (μ := mu_x1_copy) (pc := 264) 11 (fun _ => rfl) rfl rfl dX1_copy_264 hT36 rfl ?_
      refine x_iload_n (μ := mu_x1_copy) (pc := 265) 2 dX1_copy_265 rfl ?_
      refine x_iconst (μ := mu_x1_copy) (pc := 266) dX1_copy_266 ?_
      refine x_isub (μ := mu_x1_copy) (pc := 267) dX1_copy_267 ?_
      refine x_iload (μ := mu_x1_copy) (pc := 268) 10 dX1_copy_268 rfl ?_
      refine x_iadd (μ := mu_x1_copy) (pc := 270) dX1_copy_270 ?_
      refine x_if (fun hT37 => ?_)
      refine x_aald (μ := mu_x1_copy) (pc := 271) 10 (fun _ => rfl) rfl rfl dX1_copy_271 hT37 rfl ?_
      refine x_astore (μ := mu_x1_copy) (pc := 272) (lv' := [(14, vR (mR s (mR s (mR s v10 2) ((v1 - 1) + v12).toNat) ((v2 - 1) + v13).toNat)), (0, vR v0), (1, vI v1), (2, vI v2), (5, vI v5), (6, vI v6), (7, vI v7), (8, vI v8), (10, vR v10), (11, vR v11), (12, vI v12), (13, vI v13)]) dX1_copy_272 (by decide) rfl ?_
      refine x_aload (μ := mu_x1_copy) (pc := 274) 0 dX1_copy_274 rfl ?_
      refine x_if (fun hg38 => ?_)
      refine x_inst (μ := mu_x1_copy) (pc := 276) (ci := 20) (by decide) rfl q2289 dX1_copy_276 hg38 ?_ ?_
      · refine x_if_eqF (μ := mu_x1_copy) (pc := 279) (tgt := 313) dX1_copy_279 rfl (by decide) (by decide) ?_
        refine x_ok (fun ok39 => ?_)
        refine x_new (μ := mu_x1_copy) (pc := 282) (ci := 20) gk_X23 gd_X23 q2289 q2102 q256 dX1_copy_282 ?_
        refine x_let (fun s40 e41 => ?_)
        refine x_dup (μ := mu_x1_copy) (pc := 285) dX1_copy_285 rfl ?_
        refine x_aload (μ := mu_x1_copy) (pc := 286) 0 dX1_copy_286 rfl ?_
        refine x_if (fun hg42 => ?_)
        refine x_castC (μ := mu_x1_copy) (pc := 288) (ci := 20) rfl q2289 dX1_copy_288 hg42 ?_
        refine x_if (fun hT43 => ?_)
        refine x_fgrN (μ := mu_x1_copy) (pc := 291) fX23_0 (by first | exact Or.inl ⟨_, rfl⟩ | exact Or.inr ⟨_, rfl⟩) q2110 dX1_copy_291 hT43 ?_
        refine x_aload (μ := mu_x1_copy) (pc := 294) 9 dX1_copy_294 rfl ?_
        refine x_callF_mr (μ := mu_x1_copy) (pc := 296) (ok_dp_Part_shifted (ω := ω) (l := l) (d := d - 1) hl 64 (mR s40 (mR s (mR s (mR s v10 2) ((v1 - 1) + v12).toNat) ((v2 - 1) + v13).toNat) 0) v11 s40 (by omega)) gRel_E gRel_E (fun _ q => q) q2291 dX1_copy_296 iy_Part_shifted_hy (by omega) rfl (Nat.le_of_ble_eq_true rfl) (fun x44 k45 => ?_)
        refine x_aload (μ := mu_x1_copy) (pc := 301) 0 dX1_copy_301 rfl ?_
        refine x_callF_pi (μ := mu_x1_copy) (pc := 303) (ok_dp_Content_parts (ω := ω) (l := l) (d := d - 1) hl (mR s (mR s (mR s v10 2) ((v1 - 1) + v12).toNat) ((v2 - 1) + v13).toNat) (x44.2) (by omega)) gRel_E gRel_E (fun _ q => q) q2137 dX1_copy_303 iy_Content_parts_hy (by omega) rfl (Nat.le_of_ble_eq_true rfl) (fun x46 hr47 => ?_)
        refine x_callIN_mv (μ := mu_x1_copy) (pc := 308) (ok_x23_init (ω := ω) (l := l) (d := d - 1) hl (by omega) hr47) gRel_E gRel_E (fun _ q => q) q2370 q2104 q256 q2105 dX1_copy_308 (gT_ne (gT_E k45 (gT_new e41) (by decide))) rfl hy_x23_init (by omega) (Nat.le_of_ble_eq_true rfl) rfl (Nat.le_of_ble_eq_true rfl) (fun x48 k49 => ?_)
        refine x_astore (μ := mu_x1_copy) (pc := 311) (lv' := [(14, vR (mZ s)), (0, vR v0), (1, vI v1), (2, vI v2), (5, vI v5), (6, vI v6), (7, vI v7), (8, vI v8), (10, vR v10), (11, vR v11), (12, vI v12), (13, vI v13)]) dX1_copy_311 (by decide) rfl ?_
        refine x_loc (lv' := [(0, vR v0), (1, vI v1), (2, vI v2), (5, vI v5), (6, vI v6), (7, vI v7), (8, vI v8), (10, vR v10), (11, vR v11), (12, vI v12), (13, vI v13), (14, vR (mZ s))]) [1, 2, 3, 4, 5, 6, 7, 8, 9, 10, 11, 0] rfl ?_
        exact okj_x1_copy_l246_j313 hl hdp hv1 hv2 hv5 hv6 hv7 hv8 hv12 hv13 ih hK
      · refine x_if_eqT (μ := mu_x1_copy) (pc := 279) (tgt := 313) dX1_copy_279 rfl (by decide) (by decide) ?_
        refine x_loc (lv' := [(0, vR v0), (1, vI v1), (2, vI v2), (5, vI v5), (6, vI v6), (7, vI v7), (8, vI v8), (10, vR v10), (11, vR v11), (12, vI v12), (13, vI v13), (14, vR (mR s (mR s (mR s v10 2) ((v1 - 1) + v12).toNat) ((v2 - 1) + v13).toNat))]) [1, 2, 3, 4, 5, 6, 7, 8, 9, 10, 11, 0] rfl ?_
        exact okj_x1_copy_l246_j313 hl hdp hv1 hv2 hv5 hv6 hv7 hv8 hv12 hv13 ih hK
def x1_copy_l236 (N : Nat) (v0 : Nat) (v1 : Int) (v2 : Int) (v5 : Int) (v6 : Int) (v7 : Int) (v8 : Int) (v10 : Nat) (v11 : Nat) (K : gMem → Option gR) : Nat → Int → gMem → Option gR
  | 0, _, _ => none
  | n + 1, v12, s => if v7 ≤ v12 then K s else x1_copy_l246 N v0 v1 v2 v5 v6 v7 v8 v10 v11 v12 (fun s57 => x1_copy_l236 N v0 v1 v2 v5 v6 v7 v8 v10 v11 K n (w32 (v12 + 1)) s57) N 0 s
set_option maxRecDepth 100000 in
theorem okl_x1_copy_l236 {ω : gW} {l : Launch} {d : Nat} {N : Nat} {σ0 : gMem} {v0 : Nat} {v1 : Int} {v2 : Int} {v5 : Int} {v6 : Int} {v7 : Int} {v8 : Int} {v10 : Nat} {v11 : Nat} {K : gMem → Option gR} (hl : l.stackTraces = false) (hdp : 69 ≤ d) (hv1 : g32 v1) (hv2 : g32 v2) (hv5 : g32 v5) (hv6 : g32 v6) (hv7 : g32 v7) (hv8 : g32 v8) (hK : ∀ (s : gMem) , GG (fun p : gR => p) gE ω l d mu_x1_copy σ0 350 [(7, vI v7), (8, vI v8)] [] s (K s)) : ∀ (n : Nat) (v12 : Int) (s : gMem) , g32 v12 → GG (fun p : gR => p) gE ω l d mu_x1_copy σ0 236 [(0, vR v0), (1, vI v1), (2, vI v2), (5, vI v5), (6, vI v6), (7, vI v7), (8, vI v8), (10, vR v10), (11, vR v11), (12, vI v12)] [] s (x1_copy_l236 N v0 v1 v2 v5 v6 v7 v8 v10 v11 K n v12 s) := by
  intro n
  induction n with
  | zero => intros; exact x_none
  | succ n ih =>
    intro v12 s hv12
    unfold x1_copy_l236
    refine x_iload (μ := mu_x1_copy) (pc := 236) 9 dX1_copy_236 rfl ?_
    refine x_iload (μ := mu_x1_copy) (pc := 238) 5 dX1_copy_238 rfl ?_
    refine x_icmp_ge (μ := mu_x1_copy) (pc := 240) (tgt := 350) dX1_copy_240 rfl hv12 hv7 ?_ ?_
    · refine x_loc (lv' := [(7, vI v7), (8, vI v8)]) [5, 6] rfl ?_
      exact hK s
    · refine x_iconst (μ := mu_x1_copy) (pc := 243) dX1_copy_243 ?_
      refine x_istore (μ := mu_x1_copy) (pc := 244) (lv' := [(13, vI 0), (0, vR v0), (1, vI v1), (2, vI v2), (5, vI v5), (6, vI v6), (7, vI v7), (8, vI v8), (10, vR v10), (11, vR v11), (12, vI v12)]) dX1_copy_244 (by decide) rfl ?_
      refine x_loc (lv' := [(0, vR v0), (1, vI v1), (2, vI v2), (5, vI v5), (6, vI v6), (7, vI v7), (8, vI v8), (10, vR v10), (11, vR v11), (12, vI v12), (13, vI 0)]) [1, 2, 3, 4, 5, 6, 7, 8, 9, 10, 0] rfl ?_
      refine okl_x1_copy_l246 hl hdp hv1 hv2 hv5 hv6 hv7 hv8 hv12 (fun s57 => ?_) N 0 s (by decide)
      refine x_iincw (μ := mu_x1_copy) (pc := 344) (lv' := [(12, vI (w32 (v12 + 1))), (0, vR v0), (1, vI v1), (2, vI v2), (5, vI v5), (6, vI v6), (7, vI v7), (8, vI v8), (10, vR v10), (11, vR v11)]) 9 dX1_copy_344 rfl (by decide) rfl ?_
      refine x_goto (μ := mu_x1_copy) (pc := 347) (tgt := 236) dX1_copy_347 rfl ?_
      refine x_loc (lv' := [(0, vR v0), (1, vI v1), (2, vI v2), (5, vI v5), (6, vI v6), (7, vI v7), (8, vI v8), (10, vR v10), (11, vR v11), (12, vI (w32 (v12 + 1)))]) [1, 2, 3, 4, 5, 6, 7, 8, 9, 0] rfl ?_
      exact ih (w32 (v12 + 1)) s57 (w32_rng _)
def x1_copy (N : Nat) (v0 : Nat) (v1 : Int) (v2 : Int) (v3 : Int) (v4 : Int) (v5 : Int) (v6 : Int) (σ : gMem) : Option gR := if mT σ v0 = 1 then if mT σ (mR σ v0 8) = 8 then (x9_has (mR σ v0 8) (w32 (v5 - 1)) (w32 (v6 - 1)) σ).bind (fun x3 => if x3 ≠ 0 then (x1_look v0 v1 v2 v3 v4 σ).bind (fun p => gThrV p (fun s7 => if mT s7 (mR s7 v0 8) = 8 then if mT s7 (mR s7 (mR s7 v0 8) 0) = 100 then if mT s7 (mR s7 (mR s7 v0 8) 1) = 100 then x1_copy_l88 N v0 v1 v2 v5 v6 (w32 (if (w32 (((mN s7 (mR s7 (mR s7 v0 8) 0) : Int) - v5) + 1)) < (w32 ((v3 - v1) + 1)) then (w32 (((mN s7 (mR s7 (mR s7 v0 8) 0) : Int) - v5) + 1)) else (w32 ((v3 - v1) + 1)))) (w32 (if (w32 (((mN s7 (mR s7 (mR s7 v0 8) 1) : Int) - v6) + 1)) < (w32 ((v4 - v2) + 1)) then (w32 (((mN s7 (mR s7 (mR s7 v0 8) 1) : Int) - v6) + 1)) else (w32 ((v4 - v2) + 1)))) (fun y19 s20 => if mT s20 v0 = 1 then if w32 ((mI s20 v0 17) + y19) ≤ 60000 then gLet (wI s20 v0 17 (w32 ((mI s20 v0 17) + y19))) (fun s24 => (x1_step N v0 s24).bind (fun x26 => if mT x26 (mR x26 v0 11) = 105 then if 0 ≤ ((mI x26 v0 13) - 1) ∧ ((mI x26 v0 13) - 1) < (mN x26 (mR x26 v0 11) : Int) then gLet (wN x26 22 4) (fun s31 => (x24_init (mZ x26) (w32 (v5 - v1)) (w32 (v6 - v2)) (mR x26 (mR x26 v0 11) ((mI x26 v0 13) - 1).toNat) (mR s31 v0 4) s31).bind (fun x33 => x1_copy_l236 N v0 v1 v2 v5 v6 (w32 (if (w32 (((mN s7 (mR s7 (mR s7 v0 8) 0) : Int) - v5) + 1)) < (w32 ((v3 - v1) + 1)) then (w32 (((mN s7 (mR s7 (mR s7 v0 8) 0) : Int) - v5) + 1)) else (w32 ((v3 - v1) + 1)))) (w32 (if (w32 (((mN s7 (mR s7 (mR s7 v0 8) 1) : Int) - v6) + 1)) < (w32 ((v4 - v2) + 1)) then (w32 (((mN s7 (mR s7 (mR s7 v0 8) 1) : Int) - v6) + 1)) else (w32 ((v4 - v2) + 1)))) (mR x26 (mR x26 v0 11) ((mI x26 v0 13) - 1).toNat) (mZ x26) (fun s58 => some (.inl (some (vI (w32 ((w32 (if (w32 (((mN s7 (mR s7 (mR s7 v0 8) 0) : Int) - v5) + 1)) < (w32 ((v3 - v1) + 1)) then (w32 (((mN s7 (mR s7 (mR s7 v0 8) 0) : Int) - v5) + 1)) else (w32 ((v3 - v1) + 1)))) * (w32 (if (w32 (((mN s7 (mR s7 (mR s7 v0 8) 1) : Int) - v6) + 1)) < (w32 ((v4 - v2) + 1)) then (w32 (((mN s7 (mR s7 (mR s7 v0 8) 1) : Int) - v6) + 1)) else (w32 ((v4 - v2) + 1)))))))), s58)) N 0 x33)) else none else none)) else some (.inr "java/lang/UnsupportedOperationException", wX s20 6) else none) N 0 0 s7 else none else none else none)) else some (.inr "java/lang/IndexOutOfBoundsException", wX σ 6)) else none else none
set_option maxRecDepth 100000 in
theorem ok_x1_copy {ω : gW} {l : Launch} {d : Nat} {N : Nat} {σ : gMem} {v0 : Nat} {v1 : Int} {v2 : Int} {v3 : Int} {v4 : Int} {v5 : Int} {v6 : Int} (hl : l.stackTraces = false) (hdp : 69 ≤ d) (hv1 : g32 v1) (hv2 : g32 v2) (hv3 : g32 v3) (hv4 : g32 v4) (hv5 : g32 v5) (hv6 : g32 v6) : gK (fun p : gR => p) gE ω l d mu_x1_copy [vR v0, vI v1, vI v2, vI v3, vI v4, vI v5, vI v6] σ (x1_copy N v0 v1 v2 v3 v4 v5 v6 σ) := by
  refine gK.of hp_X1 (Nat.le_of_ble_eq_true rfl) ?_
  unfold x1_copy
  refine x_aload_n (μ := mu_x1_copy) (pc := 0) 0 dX1_copy_0 rfl ?_
  refine x_if (fun hT1 => ?_)
  refine x_fgr (μ := mu_x1_copy) (pc := 1) fX1_8 (by first | exact Or.inl ⟨_, rfl⟩ | exact Or.inr ⟨_, rfl⟩) q653 dX1_copy_1 hT1 ?_
  refine x_iload (μ := mu_x1_copy) (pc := 4) 5 dX1_copy_4 rfl ?_
  refine x_iconst (μ := mu_x1_copy) (pc := 6) dX1_copy_6 ?_
  refine x_isub (μ := mu_x1_copy) (pc := 7) dX1_copy_7 ?_
  refine x_iload (μ := mu_x1_copy) (pc := 8) 6 dX1_copy_8 rfl ?_
  refine x_iconst (μ := mu_x1_copy) (pc := 10) dX1_copy_10 ?_
  refine x_isub (μ := mu_x1_copy) (pc := 11) dX1_copy_11 ?_
  refine x_w1 ?_
  refine x_w2 ?_
  refine x_if (fun hT2 => ?_)
  refine x_callV_pi (μ := mu_x1_copy) (pc := 12) (ok_x9_has (ω := ω) (l := l) (d := d - 1) hl (by omega) (w32_rng _) (w32_rng _)) gRel_E gRel_E (fun _ q => q) q820 q821 q822 q230 q823 dX1_copy_12 rfl hT2 hy_x9_has (by omega) (Nat.le_of_ble_eq_true rfl) rfl (Nat.le_of_ble_eq_true rfl) (fun x3 hr4 => ?_)
  refine x_if_ne (μ := mu_x1_copy) (pc := 15) (tgt := 26) dX1_copy_15 rfl hr4 ?_ ?_
  · refine x_aload_n (μ := mu_x1_copy) (pc := 26) 0 dX1_copy_26 rfl ?_
    refine x_iload_n (μ := mu_x1_copy) (pc := 27) 1 dX1_copy_27 rfl ?_
    refine x_iload_n (μ := mu_x1_copy) (pc := 28) 2 dX1_copy_28 rfl ?_
    refine x_iload_n (μ := mu_x1_copy) (pc := 29) 3 dX1_copy_29 rfl ?_
    refine x_iload (μ := mu_x1_copy) (pc := 30) 4 dX1_copy_30 rfl ?_
    refine x_callV_xv (μ := mu_x1_copy) (pc := 32) (ok_x1_look (ω := ω) (l := l) (d := d - 1) hl (by omega) hv1 hv2 hv3 hv4) q2187 q2189 qs61 q221 q2190 dX1_copy_32 rfl hT1 hy_x1_look (by omega) (Nat.le_of_ble_eq_true rfl) rfl (Nat.le_of_ble_eq_true rfl) (by decide) (fun s7 k6 => ?_)
    refine x_iload_n (μ := mu_x1_copy) (pc := 35) 3 dX1_copy_35 rfl ?_
    refine x_iload_n (μ := mu_x1_copy) (pc := 36) 1 dX1_copy_36 rfl ?_
    refine x_isub (μ := mu_x1_copy) (pc := 37) dX1_copy_37 ?_
    refine x_iconst (μ := mu_x1_copy) (pc := 38) dX1_copy_38 ?_
    refine x_iadd (μ := mu_x1_copy) (pc := 39) dX1_copy_39 ?_
    refine x_aload_n (μ := mu_x1_copy) (pc := 40) 0 dX1_copy_40 rfl ?_
    refine x_fgr (μ := mu_x1_copy) (pc := 41) fX1_8 (by first | exact Or.inl ⟨_, rfl⟩ | exact Or.inr ⟨_, rfl⟩) q653 dX1_copy_41 (gT_E k6 hT1 (by decide)) ?_
    refine x_if (fun hT8 => ?_)
    refine x_fgrN (μ := mu_x1_copy) (pc := 44) fX9_0 (by first | exact Or.inl ⟨_, rfl⟩ | exact Or.inr ⟨_, rfl⟩) q571 dX1_copy_44 hT8 ?_
    refine x_if (fun hT9 => ?_)
    refine x_len (μ := mu_x1_copy) (pc := 47) 0 (fun _ => rfl) dX1_copy_47 hT9 ?_
    refine x_iload (μ := mu_x1_copy) (pc := 48) 5 dX1_copy_48 rfl ?_
    refine x_isub (μ := mu_x1_copy) (pc := 50) dX1_copy_50 ?_
    refine x_iconst (μ := mu_x1_copy) (pc := 51) dX1_copy_51 ?_
    refine x_iadd (μ := mu_x1_copy) (pc := 52) dX1_copy_52 ?_
    refine x_w1 ?_
    refine x_w2 ?_
    refine x_mmin (μ := mu_x1_copy) (pc := 53) q2267 dX1_copy_53 (w32_rng _) (w32_rng _) (by omega) (Nat.le_of_ble_eq_true rfl) ?_
    refine x_w1 ?_
    refine x_istore (μ := mu_x1_copy) (pc := 56) (lv' := [(7, vI (w32 (if (w32 (((mN s7 (mR s7 (mR s7 v0 8) 0) : Int) - v5) + 1)) < (w32 ((v3 - v1) + 1)) then (w32 (((mN s7 (mR s7 (mR s7 v0 8) 0) : Int) - v5) + 1)) else (w32 ((v3 - v1) + 1))))), (0, vR v0), (1, vI v1), (2, vI v2), (3, vI v3), (4, vI v4), (5, vI v5), (6, vI v6)]) dX1_copy_56 (by decide) rfl ?_
    refine x_iload (μ := mu_x1_copy) (pc := 58) 5 dX1_copy_58 rfl ?_
    refine x_iload_n (μ := mu_x1_copy) (pc := 60) 3 dX1_copy_60 rfl ?_
    refine x_isub (μ := mu_x1_copy) (pc := 61) dX1_copy_61 ?_
    refine x_iconst (μ := mu_x1_copy) (pc := 62) dX1_copy_62 ?_
    refine x_iadd (μ := mu_x1_copy) (pc := 63) dX1_copy_63 ?_
    refine x_aload_n (μ := mu_x1_copy) (pc := 64) 1 dX1_copy_64 rfl ?_
    refine x_fgr (μ := mu_x1_copy) (pc := 65) fX1_8 (by first | exact Or.inl ⟨_, rfl⟩ | exact Or.inr ⟨_, rfl⟩) q653 dX1_copy_65 (gT_E k6 hT1 (by decide)) ?_
    refine x_fgrN (μ := mu_x1_copy) (pc := 68) fX9_1 (by first | exact Or.inl ⟨_, rfl⟩ | exact Or.inr ⟨_, rfl⟩) q576 dX1_copy_68 hT8 ?_
    refine x_if (fun hT10 => ?_)
    refine x_len (μ := mu_x1_copy) (pc := 71) 0 (fun _ => rfl) dX1_copy_71 hT10 ?_
    refine x_iload (μ := mu_x1_copy) (pc := 72) 7 dX1_copy_72 rfl ?_
    refine x_isub (μ := mu_x1_copy) (pc := 74) dX1_copy_74 ?_
    refine x_iconst (μ := mu_x1_copy) (pc := 75) dX1_copy_75 ?_
    refine x_iadd (μ := mu_x1_copy) (pc := 76) dX1_copy_76 ?_
    refine x_w1 ?_
    refine x_w2 ?_
    refine x_mmin (μ := mu_x1_copy) (pc := 77) q2267 dX1_copy_77 (w32_rng _) (w32_rng _) (by omega) (Nat.le_of_ble_eq_true rfl) ?_
    refine x_w1 ?_
    refine x_istore (μ := mu_x1_copy) (pc := 80) (lv' := [(8, vI (w32 (if (w32 (((mN s7 (mR s7 (mR s7 v0 8) 1) : Int) - v6) + 1)) < (w32 ((v4 - v2) + 1)) then (w32 (((mN s7 (mR s7 (mR s7 v0 8) 1) : Int) - v6) + 1)) else (w32 ((v4 - v2) + 1))))), (7, vI (w32 (if (w32 (((mN s7 (mR s7 (mR s7 v0 8) 0) : Int) - v5) + 1)) < (w32 ((v3 - v1) + 1)) then (w32 (((mN s7 (mR s7 (mR s7 v0 8) 0) : Int) - v5) + 1)) else (w32 ((v3 - v1) + 1))))), (0, vR v0), (1, vI v1), (2, vI v2), (3, vI v3), (4, vI v4), (5, vI v5), (6, vI v6)]) dX1_copy_80 (by decide) rfl ?_
    refine x_iconst (μ := mu_x1_copy) (pc := 82) dX1_copy_82 ?_
    refine x_istore (μ := mu_x1_copy) (pc := 83) (lv' := [(9, vI 0), (8, vI (w32 (if (w32 (((mN s7 (mR s7 (mR s7 v0 8) 1) : Int) - v6) + 1)) < (w32 ((v4 - v2) + 1)) then (w32 (((mN s7 (mR s7 (mR s7 v0 8) 1) : Int) - v6) + 1)) else (w32 ((v4 - v2) + 1))))), (7, vI (w32 (if (w32 (((mN s7 (mR s7 (mR s7 v0 8) 0) : Int) - v5) + 1)) < (w32 ((v3 - v1) + 1)) then (w32 (((mN s7 (mR s7 (mR s7 v0 8) 0) : Int) - v5) + 1)) else (w32 ((v3 - v1) + 1))))), (0, vR v0), (1, vI v1), (2, vI v2), (3, vI v3), (4, vI v4), (5, vI v5), (6, vI v6)]) dX1_copy_83 (by decide) rfl ?_
    refine x_iconst (μ := mu_x1_copy) (pc := 85) dX1_copy_85 ?_
    refine x_istore (μ := mu_x1_copy) (pc := 86) (lv' := [(10, vI 0), (9, vI 0), (8, vI (w32 (if (w32 (((mN s7 (mR s7 (mR s7 v0 8) 1) : Int) - v6) + 1)) < (w32 ((v4 - v2) + 1)) then (w32 (((mN s7 (mR s7 (mR s7 v0 8) 1) : Int) - v6) + 1)) else (w32 ((v4 - v2) + 1))))), (7, vI (w32 (if (w32 (((mN s7 (mR s7 (mR s7 v0 8) 0) : Int) - v5) + 1)) < (w32 ((v3 - v1) + 1)) then (w32 (((mN s7 (mR s7 (mR s7 v0 8) 0) : Int) - v5) + 1)) else (w32 ((v3 - v1) + 1))))), (0, vR v0), (1, vI v1), (2, vI v2), (3, vI v3), (4, vI v4), (5, vI v5), (6, vI v6)]) dX1_copy_86 (by decide) rfl ?_
    refine x_loc (lv' := [(0, vR v0), (1, vI v1), (2, vI v2), (5, vI v5), (6, vI v6), (7, vI (w32 (if (w32 (((mN s7 (mR s7 (mR s7 v0 8) 0) : Int) - v5) + 1)) < (w32 ((v3 - v1) + 1)) then (w32 (((mN s7 (mR s7 (mR s7 v0 8) 0) : Int) - v5) + 1)) else (w32 ((v3 - v1) + 1))))), (8, vI (w32 (if (w32 (((mN s7 (mR s7 (mR s7 v0 8) 1) : Int) - v6) + 1)) < (w32 ((v4 - v2) + 1)) then (w32 (((mN s7 (mR s7 (mR s7 v0 8) 1) : Int) - v6) + 1)) else (w32 ((v4 - v2) + 1))))), (9, vI 0), (10, vI 0)]) [4, 5, 6, 9, 10, 3, 2, 1, 0] rfl ?_
    refine okl_x1_copy_l88 hl hdp hv1 hv2 hv5 hv6 (w32_rng _) (w32_rng _) (fun y19 s20 hy19 => ?_) N 0 0 s7 (by decide) (by decide)
    refine x_aload_n (μ := mu_x1_copy) (pc := 161) 0 dX1_copy_161 rfl ?_
    refine x_if (fun hT21 => ?_)
    refine x_fgi (μ := mu_x1_copy) (pc := 162) fX1_17 q662 dX1_copy_162 hT21 (fun hr22 => ?_)
    refine x_iload (μ := mu_x1_copy) (pc := 165) 7 dX1_copy_165 rfl ?_
    refine x_iadd (μ := mu_x1_copy) (pc := 167) dX1_copy_167 ?_
    refine x_ldcw (μ := mu_x1_copy) (pc := 168) (n := 60000) dX1_copy_168 q2160 ?_
    refine x_w2 ?_
    refine x_icmp_le (μ := mu_x1_copy) (pc := 171) (tgt := 182) dX1_copy_171 rfl (w32_rng _) (by decide) ?_ ?_
    · refine x_aload_n (μ := mu_x1_copy) (pc := 182) 0 dX1_copy_182 rfl ?_
      refine x_dup (μ := mu_x1_copy) (pc := 183) dX1_copy_183 rfl ?_
      refine x_fgi (μ := mu_x1_copy) (pc := 184) fX1_17 q662 dX1_copy_184 hT21 (fun hr23 => ?_)
      refine x_iload (μ := mu_x1_copy) (pc := 187) 7 dX1_copy_187 rfl ?_
      refine x_iadd (μ := mu_x1_copy) (pc := 189) dX1_copy_189 ?_
      refine x_w1 ?_
      refine x_fpi (μ := mu_x1_copy) (pc := 190) fX1_17 q662 dX1_copy_190 hT21 (fun _ q => gE_wI q) ?_
      refine x_let (fun s24 e25 => ?_)
      refine x_aload_n (μ := mu_x1_copy) (pc := 193) 0 dX1_copy_193 rfl ?_
      refine x_callV_mv (μ := mu_x1_copy) (pc := 194) (ok_x1_step (ω := ω) (l := l) (d := d - 1) hl (by omega) ) gRel_E gRel_E (fun _ q => q) q2176 q2178 qs60 q221 q2179 dX1_copy_194 rfl (gT_I e25 hT21) hy_x1_step (by omega) (Nat.le_of_ble_eq_true rfl) rfl (Nat.le_of_ble_eq_true rfl) (fun x26 k27 => ?_)
      refine x_aload_n (μ := mu_x1_copy) (pc := 197) 0 dX1_copy_197 rfl ?_
      refine x_fgr (μ := mu_x1_copy) (pc := 198) fX1_11 (by first | exact Or.inl ⟨_, rfl⟩ | exact Or.inr ⟨_, rfl⟩) q656 dX1_copy_198 (gT_E k27 (gT_I e25 hT21) (by decide)) ?_
      refine x_aload_n (μ := mu_x1_copy) (pc := 201) 0 dX1_copy_201 rfl ?_
      refine x_fgi (μ := mu_x1_copy) (pc := 202) fX1_13 q658 dX1_copy_202 (gT_E k27 (gT_I e25 hT21) (by decide)) (fun hr28 => ?_)
      refine x_iconst (μ := mu_x1_copy) (pc := 205) dX1_copy_205 ?_
      refine x_isub (μ := mu_x1_copy) (pc := 206) dX1_copy_206 ?_
      refine x_if (fun hT29 => ?_)
      refine x_aald (μ := mu_x1_copy) (pc := 207) 5 (fun _ => rfl) rfl rfl dX1_copy_207 hT29 rfl ?_
      refine x_astore (μ := mu_x1_copy) (pc := 208) (lv' := [(10, vR (mR x26 (mR x26 v0 11) ((mI x26 v0 13) - 1).toNat)), (0, vR v0), (1, vI v1), (2, vI v2), (5, vI v5), (6, vI v6), (7, vI (w32 (if (w32 (((mN s7 (mR s7 (mR s7 v0 8) 0) : Int) - v5) + 1)) < (w32 ((v3 - v1) + 1)) then (w32 (((mN s7 (mR s7 (mR s7 v0 8) 0) : Int) - v5) + 1)) else (w32 ((v3 - v1) + 1))))), (8, vI (w32 (if (w32 (((mN s7 (mR s7 (mR s7 v0 8) 1) : Int) - v6) + 1)) < (w32 ((v4 - v2) + 1)) then (w32 (((mN s7 (mR s7 (mR s7 v0 8) 1) : Int) - v6) + 1)) else (w32 ((v4 - v2) + 1))))), (9, vI y19)]) dX1_copy_208 (by decide) rfl ?_
      refine x_ok (fun ok30 => ?_)
      refine x_new (μ := mu_x1_copy) (pc := 210) (ci := 21) gk_X24 gd_X24 q2268 q2269 q261 dX1_copy_210 ?_
      refine x_let (fun s31 e32 => ?_)
      refine x_dup (μ := mu_x1_copy) (pc := 213) dX1_copy_213 rfl ?_
      refine x_iload (μ := mu_x1_copy) (pc := 214) 4 dX1_copy_214 rfl ?_
      refine x_iload_n (μ := mu_x1_copy) (pc := 216) 2 dX1_copy_216 rfl ?_
      refine x_isub (μ := mu_x1_copy) (pc := 217) dX1_copy_217 ?_
      refine x_iload (μ := mu_x1_copy) (pc := 218) 5 dX1_copy_218 rfl ?_
      refine x_iload_n (μ := mu_x1_copy) (pc := 220) 3 dX1_copy_220 rfl ?_
      refine x_isub (μ := mu_x1_copy) (pc := 221) dX1_copy_221 ?_
      refine x_aload (μ := mu_x1_copy) (pc := 222) 0 dX1_copy_222 rfl ?_
      refine x_aload_n (μ := mu_x1_copy) (pc := 224) 1 dX1_copy_224 rfl ?_
      refine x_fgr (μ := mu_x1_copy) (pc := 225) fX1_4 (by first | exact Or.inl ⟨_, rfl⟩ | exact Or.inr ⟨_, rfl⟩) q649 dX1_copy_225 (gT_N e32 ok30 (gT_E k27 (gT_I e25 hT21) (by decide)) (by decide)) ?_
      refine x_stk (st2 := [vR (mR s31 v0 4), vR (mR x26 (mR x26 v0 11) ((mI x26 v0 13) - 1).toNat), vI (w32 (v6 - v2)), vI (v5 - v1), vR (mZ x26), vR (mZ x26)]) (by simp only [List.map_cons, gval_w32, gval_w64]) ?_
      refine x_stk (st2 := [vR (mR s31 v0 4), vR (mR x26 (mR x26 v0 11) ((mI x26 v0 13) - 1).toNat), vI (w32 (v6 - v2)), vI (w32 (v5 - v1)), vR (mZ x26), vR (mZ x26)]) (by simp only [List.map_cons, gval_w32, gval_w64]) ?_
      refine x_callIN_mv (μ := mu_x1_copy) (pc := 228) (ok_x24_init (ω := ω) (l := l) (d := d - 1) hl (by omega) (w32_rng _) (w32_rng _)) gRel_E gRel_E (fun _ q => q) q2270 q2271 q261 q2272 dX1_copy_228 (gT_ne (gT_new e32)) rfl hy_x24_init (by omega) (Nat.le_of_ble_eq_true rfl) rfl (Nat.le_of_ble_eq_true rfl) (fun x33 k34 => ?_)
      refine x_astore (μ := mu_x1_copy) (pc := 231) (lv' := [(11, vR (mZ x26)), (10, vR (mR x26 (mR x26 v0 11) ((mI x26 v0 13) - 1).toNat)), (0, vR v0), (1, vI v1), (2, vI v2), (5, vI v5), (6, vI v6), (7, vI (w32 (if (w32 (((mN s7 (mR s7 (mR s7 v0 8) 0) : Int) - v5) + 1)) < (w32 ((v3 - v1) + 1)) then (w32 (((mN s7 (mR s7 (mR s7 v0 8) 0) : Int) - v5) + 1)) else (w32 ((v3 - v1) + 1))))), (8, vI (w32 (if (w32 (((mN s7 (mR s7 (mR s7 v0 8) 1) : Int) - v6) + 1)) < (w32 ((v4 - v2) + 1)) then (w32 (((mN s7 (mR s7 (mR s7 v0 8) 1) : Int) - v6) + 1)) else (w32 ((v4 - v2) + 1))))), (9, vI y19)]) dX1_copy_231 (by decide) rfl ?_
      refine x_iconst (μ := mu_x1_copy) (pc := 233) dX1_copy_233 ?_
      refine x_istore (μ := mu_x1_copy) (pc := 234) (lv' := [(12, vI 0), (11, vR (mZ x26)), (10, vR (mR x26 (mR x26 v0 11) ((mI x26 v0 13) - 1).toNat)), (0, vR v0), (1, vI v1), (2, vI v2), (5, vI v5), (6, vI v6), (7, vI (w32 (if (w32 (((mN s7 (mR s7 (mR s7 v0 8) 0) : Int) - v5) + 1)) < (w32 ((v3 - v1) + 1)) then (w32 (((mN s7 (mR s7 (mR s7 v0 8) 0) : Int) - v5) + 1)) else (w32 ((v3 - v1) + 1))))), (8, vI (w32 (if (w32 (((mN s7 (mR s7 (mR s7 v0 8) 1) : Int) - v6) + 1)) < (w32 ((v4 - v2) + 1)) then (w32 (((mN s7 (mR s7 (mR s7 v0 8) 1) : Int) - v6) + 1)) else (w32 ((v4 - v2) + 1))))), (9, vI y19)]) dX1_copy_234 (by decide) rfl ?_
      refine x_loc (lv' := [(0, vR v0), (1, vI v1), (2, vI v2), (5, vI v5), (6, vI v6), (7, vI (w32 (if (w32 (((mN s7 (mR s7 (mR s7 v0 8) 0) : Int) - v5) + 1)) < (w32 ((v3 - v1) + 1)) then (w32 (((mN s7 (mR s7 (mR s7 v0 8) 0) : Int) - v5) + 1)) else (w32 ((v3 - v1) + 1))))), (8, vI (w32 (if (w32 (((mN s7 (mR s7 (mR s7 v0 8) 1) : Int) - v6) + 1)) < (w32 ((v4 - v2) + 1)) then (w32 (((mN s7 (mR s7 (mR s7 v0 8) 1) : Int) - v6) + 1)) else (w32 ((v4 - v2) + 1))))), (10, vR (mR x26 (mR x26 v0 11) ((mI x26 v0 13) - 1).toNat)), (11, vR (mZ x26)), (12, vI 0)]) [3, 4, 5, 6, 7, 8, 9, 2, 1, 0] rfl ?_
      refine okl_x1_copy_l236 hl hdp hv1 hv2 hv5 hv6 (w32_rng _) (w32_rng _) (fun s58 => ?_) N 0 x33 (by decide)
      refine x_iload (μ := mu_x1_copy) (pc := 350) 0 dX1_copy_350 rfl ?_
      refine x_iload (μ := mu_x1_copy) (pc := 352) 1 dX1_copy_352 rfl ?_
      refine x_imul (μ := mu_x1_copy) (pc := 354) dX1_copy_354 ?_
      refine x_w1 ?_
      exact x_iret (μ := mu_x1_copy) (pc := 355) (a1 := ((.inl (some (vI (w32 ((w32 (if (w32 (((mN s7 (mR s7 (mR s7 v0 8) 0) : Int) - v5) + 1)) < (w32 ((v3 - v1) + 1)) then (w32 (((mN s7 (mR s7 (mR s7 v0 8) 0) : Int) - v5) + 1)) else (w32 ((v3 - v1) + 1)))) * (w32 (if (w32 (((mN s7 (mR s7 (mR s7 v0 8) 1) : Int) - v6) + 1)) < (w32 ((v4 - v2) + 1)) then (w32 (((mN s7 (mR s7 (mR s7 v0 8) 1) : Int) - v6) + 1)) else (w32 ((v4 - v2) + 1)))))))), s58) : gR)) dX1_copy_355 rfl rfl (gRel_E.1 _) (show g32 (w32 ((w32 (if (w32 (((mN s7 (mR s7 (mR s7 v0 8) 0) : Int) - v5) + 1)) < (w32 ((v3 - v1) + 1)) then (w32 (((mN s7 (mR s7 (mR s7 v0 8) 0) : Int) - v5) + 1)) else (w32 ((v3 - v1) + 1)))) * (w32 (if (w32 (((mN s7 (mR s7 (mR s7 v0 8) 1) : Int) - v6) + 1)) < (w32 ((v4 - v2) + 1)) then (w32 (((mN s7 (mR s7 (mR s7 v0 8) 1) : Int) - v6) + 1)) else (w32 ((v4 - v2) + 1)))))) from (w32_rng _))
    · exact x_throw0 (μ := mu_x1_copy) (pc := 174) hl gex_UnsupportedOperationException (by decide) rfl q2161 q258 dX1_copy_174 dX1_copy_177 dX1_copy_178 dX1_copy_181 (by decide) (by omega) (Nat.le_of_ble_eq_true rfl)
  · exact x_throw0 (μ := mu_x1_copy) (pc := 18) hl gex_IndexOutOfBoundsException (by decide) rfl q1762 q236 dX1_copy_18 dX1_copy_21 dX1_copy_22 dX1_copy_25 (by decide) (by omega) (Nat.le_of_ble_eq_true rfl)
def x1_diff_l118_j196 (N : Nat) (v0 : Nat) (v3 : Nat) (v4 : Nat) (v5 : Int) (v6 : Int) (v7 : Int) (Kh : Int → gMem → Option gR) (K : gMem → Option gR) (s : gMem) : Option gR := Kh (w32 (v7 + 1)) s
set_option maxRecDepth 100000 in
theorem okj_x1_diff_l118_j196 {ω : gW} {l : Launch} {d : Nat} {N : Nat} {σ0 : gMem} {s : gMem} {v0 : Nat} {v3 : Nat} {v4 : Nat} {v5 : Int} {v6 : Int} {v7 : Int} {Kh : Int → gMem → Option gR} {K : gMem → Option gR} (hl : l.stackTraces = false) (hdp : 68 ≤ d) (hv5 : g32 v5) (hv6 : g32 v6) (hv7 : g32 v7) (hKh : ∀ (v7 : Int) (s : gMem) , g32 v7 → GG (fun p : gR => p) gE ω l d mu_x1_diff σ0 118 [(0, vR v0), (3, vR v3), (4, vR v4), (5, vI v5), (6, vI v6), (7, vI v7)] [] s (Kh v7 s)) (hK : ∀ (s : gMem) , GG (fun p : gR => p) gE ω l d mu_x1_diff σ0 202 [(0, vR v0), (3, vR v3), (4, vR v4), (5, vI v5)] [] s (K s)) : GG (fun p : gR => p) gE ω l d mu_x1_diff σ0 196 [(0, vR v0), (3, vR v3), (4, vR v4), (5, vI v5), (6, vI v6), (7, vI v7)] [] s (x1_diff_l118_j196 N v0 v3 v4 v5 v6 v7 Kh K s) := by
  unfold x1_diff_l118_j196
  refine x_iincw (μ := mu_x1_diff) (pc := 196) (lv' := [(7, vI (w32 (v7 + 1))), (0, vR v0), (3, vR v3), (4, vR v4), (5, vI v5), (6, vI v6)]) 5 dX1_diff_196 rfl (by decide) rfl ?_
  refine x_goto (μ := mu_x1_diff) (pc := 199) (tgt := 118) dX1_diff_199 rfl ?_
  refine x_loc (lv' := [(0, vR v0), (3, vR v3), (4, vR v4), (5, vI v5), (6, vI v6), (7, vI (w32 (v7 + 1)))]) [1, 2, 3, 4, 5, 0] rfl ?_
  exact hKh (w32 (v7 + 1)) s (w32_rng _)
def x1_diff_l118 (N : Nat) (v0 : Nat) (v3 : Nat) (v4 : Nat) (v5 : Int) (v6 : Int) (K : gMem → Option gR) : Nat → Int → gMem → Option gR
  | 0, _, _ => none
  | n + 1, v7, s => if v6 = (-1) then K s else if mT s v4 = 8 then if mT s (mR s v4 1) = 100 then if w32 (mN s (mR s v4 1) : Int) ≤ v7 then K s else if 0 ≤ v7 ∧ v7 < (mN s (mR s v4 1) : Int) then if mT s v3 = 8 then (x9_column N v3 (mI s (mR s v4 1) v7.toNat) s).bind (fun x28 => if x28 = (-1) then x1_diff_l118_j196 N v0 v3 v4 v5 v6 v7  (x1_diff_l118 N v0 v3 v4 v5 v6 K n) K s else if mT s (mR s v3 2) = 111 then if 0 ≤ v6 ∧ v6 < (mN s (mR s v3 2) : Int) then if mT s (mR s (mR s v3 2) v6.toNat) = 110 then if 0 ≤ x28 ∧ x28 < (mN s (mR s (mR s v3 2) v6.toNat) : Int) then if mT s (mR s v4 2) = 111 then if 0 ≤ v5 ∧ v5 < (mN s (mR s v4 2) : Int) then if mT s (mR s (mR s v4 2) v5.toNat) = 110 then if 0 ≤ v7 ∧ v7 < (mN s (mR s (mR s v4 2) v5.toNat) : Int) then (x1_isAlike N (mR s (mR s (mR s v3 2) v6.toNat) x28.toNat) (mR s (mR s (mR s v4 2) v5.toNat) v7.toNat) s).bind (fun x34 => if x34 ≠ 0 then x1_diff_l118_j196 N v0 v3 v4 v5 v6 v7  (x1_diff_l118 N v0 v3 v4 v5 v6 K n) K s else if mT s v0 = 1 then (x1_differ v0 7 (w32 (v5 + 1)) (w32 (v7 + 1)) s).bind (fun x37 => x1_diff_l118_j196 N v0 v3 v4 v5 v6 v7  (x1_diff_l118 N v0 v3 v4 v5 v6 K n) K x37) else none) else none else none else none else none else none else none else none else none) else none else none else none else none
set_option maxRecDepth 100000 in
theorem okl_x1_diff_l118 {ω : gW} {l : Launch} {d : Nat} {N : Nat} {σ0 : gMem} {v0 : Nat} {v3 : Nat} {v4 : Nat} {v5 : Int} {v6 : Int} {K : gMem → Option gR} (hl : l.stackTraces = false) (hdp : 68 ≤ d) (hv5 : g32 v5) (hv6 : g32 v6) (hK : ∀ (s : gMem) , GG (fun p : gR => p) gE ω l d mu_x1_diff σ0 202 [(0, vR v0), (3, vR v3), (4, vR v4), (5, vI v5)] [] s (K s)) : ∀ (n : Nat) (v7 : Int) (s : gMem) , g32 v7 → GG (fun p : gR => p) gE ω l d mu_x1_diff σ0 118 [(0, vR v0), (3, vR v3), (4, vR v4), (5, vI v5), (6, vI v6), (7, vI v7)] [] s (x1_diff_l118 N v0 v3 v4 v5 v6 K n v7 s) := by
  intro n
  induction n with
  | zero => intros; exact x_none
  | succ n ih =>
    intro v7 s hv7
    unfold x1_diff_l118
    refine x_iload (μ := mu_x1_diff) (pc := 118) 4 dX1_diff_118 rfl ?_
    refine x_iconst (μ := mu_x1_diff) (pc := 120) dX1_diff_120 ?_
    refine x_icmp_eq (μ := mu_x1_diff) (pc := 121) (tgt := 202) dX1_diff_121 rfl hv6 (by decide) ?_ ?_
    · refine x_loc (lv' := [(0, vR v0), (3, vR v3), (4, vR v4), (5, vI v5)]) [0, 1, 2, 3] rfl ?_
      exact hK s
    · refine x_iload (μ := mu_x1_diff) (pc := 124) 5 dX1_diff_124 rfl ?_
      refine x_aload (μ := mu_x1_diff) (pc := 126) 2 dX1_diff_126 rfl ?_
      refine x_if (fun hT24 => ?_)
      refine x_fgrN (μ := mu_x1_diff) (pc := 128) fX9_1 (by first | exact Or.inl ⟨_, rfl⟩ | exact Or.inr ⟨_, rfl⟩) q576 dX1_diff_128 hT24 ?_
      refine x_if (fun hT25 => ?_)
      refine x_len (μ := mu_x1_diff) (pc := 131) 0 (fun _ => rfl) dX1_diff_131 hT25 ?_
      refine x_w1 ?_
      refine x_icmp_ge (μ := mu_x1_diff) (pc := 132) (tgt := 202) dX1_diff_132 rfl hv7 (w32_rng _) ?_ ?_
      · refine x_loc (lv' := [(0, vR v0), (3, vR v3), (4, vR v4), (5, vI v5)]) [0, 1, 2, 3] rfl ?_
        exact hK s
      · refine x_aload_n (μ := mu_x1_diff) (pc := 135) 1 dX1_diff_135 rfl ?_
        refine x_aload (μ := mu_x1_diff) (pc := 136) 2 dX1_diff_136 rfl ?_
        refine x_fgrN (μ := mu_x1_diff) (pc := 138) fX9_1 (by first | exact Or.inl ⟨_, rfl⟩ | exact Or.inr ⟨_, rfl⟩) q576 dX1_diff_138 hT24 ?_
        refine x_iload (μ := mu_x1_diff) (pc := 141) 5 dX1_diff_141 rfl ?_
        refine x_iald (μ := mu_x1_diff) (pc := 143) dX1_diff_143 hT25 rfl (fun hr26 => ?_)
        refine x_if (fun hT27 => ?_)
        refine x_callV_pi (μ := mu_x1_diff) (pc := 144) (ok_x9_column (ω := ω) (l := l) (d := d - 1) hl (by omega) hr26) gRel_E gRel_E (fun _ q => q) q785 q786 q787 q230 q788 dX1_diff_144 rfl hT27 hy_x9_column (by omega) (Nat.le_of_ble_eq_true rfl) rfl (Nat.le_of_ble_eq_true rfl) (fun x28 hr29 => ?_)
        refine x_istore (μ := mu_x1_diff) (pc := 147) (lv' := [(8, vI x28), (0, vR v0), (3, vR v3), (4, vR v4), (5, vI v5), (6, vI v6), (7, vI v7)]) dX1_diff_147 (by decide) rfl ?_
        refine x_iload (μ := mu_x1_diff) (pc := 149) 0 dX1_diff_149 rfl ?_
        refine x_iconst (μ := mu_x1_diff) (pc := 151) dX1_diff_151 ?_
        refine x_icmp_eq (μ := mu_x1_diff) (pc := 152) (tgt := 196) dX1_diff_152 rfl hr29 (by decide) ?_ ?_
        · refine x_loc (lv' := [(0, vR v0), (3, vR v3), (4, vR v4), (5, vI v5), (6, vI v6), (7, vI v7)]) [1, 2, 3, 4, 5, 6] rfl ?_
          exact okj_x1_diff_l118_j196 hl hdp hv5 hv6 hv7 ih hK
        · refine x_aload_n (μ := mu_x1_diff) (pc := 155) 2 dX1_diff_155 rfl ?_
          refine x_fgrN (μ := mu_x1_diff) (pc := 156) fX9_2 (by first | exact Or.inl ⟨_, rfl⟩ | exact Or.inr ⟨_, rfl⟩) q582 dX1_diff_156 hT27 ?_
          refine x_iload (μ := mu_x1_diff) (pc := 159) 5 dX1_diff_159 rfl ?_
          refine x_if (fun hT30 => ?_)
          refine x_aald (μ := mu_x1_diff) (pc := 161) 11 (fun _ => rfl) rfl rfl dX1_diff_161 hT30 rfl ?_
          refine x_iload (μ := mu_x1_diff) (pc := 162) 0 dX1_diff_162 rfl ?_
          refine x_if (fun hT31 => ?_)
          refine x_aald (μ := mu_x1_diff) (pc := 164) 10 (fun _ => rfl) rfl rfl dX1_diff_164 hT31 rfl ?_
          refine x_aload (μ := mu_x1_diff) (pc := 165) 3 dX1_diff_165 rfl ?_
          refine x_fgrN (μ := mu_x1_diff) (pc := 167) fX9_2 (by first | exact Or.inl ⟨_, rfl⟩ | exact Or.inr ⟨_, rfl⟩) q582 dX1_diff_167 hT24 ?_
          refine x_iload (μ := mu_x1_diff) (pc := 170) 4 dX1_diff_170 rfl ?_
          refine x_if (fun hT32 => ?_)
          refine x_aald (μ := mu_x1_diff) (pc := 172) 11 (fun _ => rfl) rfl rfl dX1_diff_172 hT32 rfl ?_
          refine x_iload (μ := mu_x1_diff) (pc := 173) 6 dX1_diff_173 rfl ?_
          refine x_if (fun hT33 => ?_)
          refine x_aald (μ := mu_x1_diff) (pc := 175) 10 (fun _ => rfl) rfl rfl dX1_diff_175 hT33 rfl ?_
          refine x_callS_pi (μ := mu_x1_diff) (pc := 176) (ok_x1_isAlike (ω := ω) (l := l) (d := d - 1) hl (by omega) ) gRel_E gRel_E (fun _ q => q) q2609 q1572 q221 q1573 dX1_diff_176 hy_x1_isAlike (by omega) (Nat.le_of_ble_eq_true rfl) rfl (Nat.le_of_ble_eq_true rfl) (fun x34 hr35 => ?_)
          refine x_if_ne (μ := mu_x1_diff) (pc := 179) (tgt := 196) dX1_diff_179 rfl hr35 ?_ ?_
          · refine x_loc (lv' := [(0, vR v0), (3, vR v3), (4, vR v4), (5, vI v5), (6, vI v6), (7, vI v7)]) [1, 2, 3, 4, 5, 6] rfl ?_
            exact okj_x1_diff_l118_j196 hl hdp hv5 hv6 hv7 ih hK
          · refine x_aload_n (μ := mu_x1_diff) (pc := 182) 1 dX1_diff_182 rfl ?_
            refine x_bipush (μ := mu_x1_diff) (pc := 183) dX1_diff_183 (by decide) ?_
            refine x_iload (μ := mu_x1_diff) (pc := 185) 4 dX1_diff_185 rfl ?_
            refine x_iconst (μ := mu_x1_diff) (pc := 187) dX1_diff_187 ?_
            refine x_iadd (μ := mu_x1_diff) (pc := 188) dX1_diff_188 ?_
            refine x_iload (μ := mu_x1_diff) (pc := 189) 6 dX1_diff_189 rfl ?_
            refine x_iconst (μ := mu_x1_diff) (pc := 191) dX1_diff_191 ?_
            refine x_iadd (μ := mu_x1_diff) (pc := 192) dX1_diff_192 ?_
            refine x_w1 ?_
            refine x_w2 ?_
            refine x_if (fun hT36 => ?_)
            refine x_callV_mv (μ := mu_x1_diff) (pc := 193) (ok_x1_differ (ω := ω) (l := l) (d := d - 1) hl (by omega) (by decide) (w32_rng _) (w32_rng _)) gRel_E gRel_E (fun _ q => q) q2601 q2603 qs74 q221 q2604 dX1_diff_193 rfl hT36 hy_x1_differ (by omega) (Nat.le_of_ble_eq_true rfl) rfl (Nat.le_of_ble_eq_true rfl) (fun x37 k38 => ?_)
            refine x_loc (lv' := [(0, vR v0), (3, vR v3), (4, vR v4), (5, vI v5), (6, vI v6), (7, vI v7)]) [1, 2, 3, 4, 5, 6] rfl ?_
            exact okj_x1_diff_l118_j196 hl hdp hv5 hv6 hv7 ih hK
def x1_diff_l90_j202 (N : Nat) (v0 : Nat) (v3 : Nat) (v4 : Nat) (v5 : Int) (Kh : Int → gMem → Option gR) (K : gMem → Option gR) (s : gMem) : Option gR := Kh (w32 (v5 + 1)) s
set_option maxRecDepth 100000 in
theorem okj_x1_diff_l90_j202 {ω : gW} {l : Launch} {d : Nat} {N : Nat} {σ0 : gMem} {s : gMem} {v0 : Nat} {v3 : Nat} {v4 : Nat} {v5 : Int} {Kh : Int → gMem → Option gR} {K : gMem → Option gR} (hl : l.stackTraces = false) (hdp : 68 ≤ d) (hv5 : g32 v5) (hKh : ∀ (v5 : Int) (s : gMem) , g32 v5 → GG (fun p : gR => p) gE ω l d mu_x1_diff σ0 90 [(0, vR v0), (3, vR v3), (4, vR v4), (5, vI v5)] [] s (Kh v5 s)) (hK : ∀ (s : gMem) , GG (fun p : gR => p) gE ω l d mu_x1_diff σ0 208 [(0, vR v0)] [] s (K s)) : GG (fun p : gR => p) gE ω l d mu_x1_diff σ0 202 [(0, vR v0), (3, vR v3), (4, vR v4), (5, vI v5)] [] s (x1_diff_l90_j202 N v0 v3 v4 v5 Kh K s) := by
  unfold x1_diff_l90_j202
  refine x_iincw (μ := mu_x1_diff) (pc := 202) (lv' := [(5, vI (w32 (v5 + 1))), (0, vR v0), (3, vR v3), (4, vR v4)]) 3 dX1_diff_202 rfl (by decide) rfl ?_
  refine x_goto (μ := mu_x1_diff) (pc := 205) (tgt := 90) dX1_diff_205 rfl ?_
  refine x_loc (lv' := [(0, vR v0), (3, vR v3), (4, vR v4), (5, vI (w32 (v5 + 1)))]) [1, 2, 3, 0] rfl ?_
  exact hKh (w32 (v5 + 1)) s (w32_rng _)
def x1_diff_l90 (N : Nat) (v0 : Nat) (v3 : Nat) (v4 : Nat) (K : gMem → Option gR) : Nat → Int → gMem → Option gR
  | 0, _, _ => none
  | n + 1, v5, s => if mT s v4 = 8 then if mT s (mR s v4 0) = 100 then if w32 (mN s (mR s v4 0) : Int) ≤ v5 then K s else if 0 ≤ v5 ∧ v5 < (mN s (mR s v4 0) : Int) then if mT s v3 = 8 then (x9_row N v3 (mI s (mR s v4 0) v5.toNat) s).bind (fun x22 => x1_diff_l118 N v0 v3 v4 v5 x22 (fun s39 => x1_diff_l90_j202 N v0 v3 v4 v5  (x1_diff_l90 N v0 v3 v4 K n) K s39) N 0 s) else none else none else none else none
set_option maxRecDepth 100000 in
theorem okl_x1_diff_l90 {ω : gW} {l : Launch} {d : Nat} {N : Nat} {σ0 : gMem} {v0 : Nat} {v3 : Nat} {v4 : Nat} {K : gMem → Option gR} (hl : l.stackTraces = false) (hdp : 68 ≤ d) (hK : ∀ (s : gMem) , GG (fun p : gR => p) gE ω l d mu_x1_diff σ0 208 [(0, vR v0)] [] s (K s)) : ∀ (n : Nat) (v5 : Int) (s : gMem) , g32 v5 → GG (fun p : gR => p) gE ω l d mu_x1_diff σ0 90 [(0, vR v0), (3, vR v3), (4, vR v4), (5, vI v5)] [] s (x1_diff_l90 N v0 v3 v4 K n v5 s) := by
  intro n
  induction n with
  | zero => intros; exact x_none
  | succ n ih =>
    intro v5 s hv5
    unfold x1_diff_l90
    refine x_iload (μ := mu_x1_diff) (pc := 90) 3 dX1_diff_90 rfl ?_
    refine x_aload (μ := mu_x1_diff) (pc := 92) 2 dX1_diff_92 rfl ?_
    refine x_if (fun hT18 => ?_)
    refine x_fgrN (μ := mu_x1_diff) (pc := 94) fX9_0 (by first | exact Or.inl ⟨_, rfl⟩ | exact Or.inr ⟨_, rfl⟩) q571 dX1_diff_94 hT18 ?_
    refine x_if (fun hT19 => ?_)
    refine x_len (μ := mu_x1_diff) (pc := 97) 0 (fun _ => rfl) dX1_diff_97 hT19 ?_
    refine x_w1 ?_
    refine x_icmp_ge (μ := mu_x1_diff) (pc := 98) (tgt := 208) dX1_diff_98 rfl hv5 (w32_rng _) ?_ ?_
    · refine x_loc (lv' := [(0, vR v0)]) [0] rfl ?_
      exact hK s
    · refine x_aload_n (μ := mu_x1_diff) (pc := 101) 1 dX1_diff_101 rfl ?_
      refine x_aload (μ := mu_x1_diff) (pc := 102) 2 dX1_diff_102 rfl ?_
      refine x_fgrN (μ := mu_x1_diff) (pc := 104) fX9_0 (by first | exact Or.inl ⟨_, rfl⟩ | exact Or.inr ⟨_, rfl⟩) q571 dX1_diff_104 hT18 ?_
      refine x_iload (μ := mu_x1_diff) (pc := 107) 3 dX1_diff_107 rfl ?_
      refine x_iald (μ := mu_x1_diff) (pc := 109) dX1_diff_109 hT19 rfl (fun hr20 => ?_)
      refine x_if (fun hT21 => ?_)
      refine x_callV_pi (μ := mu_x1_diff) (pc := 110) (ok_x9_row (ω := ω) (l := l) (d := d - 1) hl (by omega) hr20) gRel_E gRel_E (fun _ q => q) q778 q779 q780 q230 q781 dX1_diff_110 rfl hT21 hy_x9_row (by omega) (Nat.le_of_ble_eq_true rfl) rfl (Nat.le_of_ble_eq_true rfl) (fun x22 hr23 => ?_)
      refine x_istore (μ := mu_x1_diff) (pc := 113) (lv' := [(6, vI x22), (0, vR v0), (3, vR v3), (4, vR v4), (5, vI v5)]) dX1_diff_113 (by decide) rfl ?_
      refine x_iconst (μ := mu_x1_diff) (pc := 115) dX1_diff_115 ?_
      refine x_istore (μ := mu_x1_diff) (pc := 116) (lv' := [(7, vI 0), (6, vI x22), (0, vR v0), (3, vR v3), (4, vR v4), (5, vI v5)]) dX1_diff_116 (by decide) rfl ?_
      refine x_loc (lv' := [(0, vR v0), (3, vR v3), (4, vR v4), (5, vI v5), (6, vI x22), (7, vI 0)]) [2, 3, 4, 5, 1, 0] rfl ?_
      refine okl_x1_diff_l118 hl hdp hv5 hr23 (fun s39 => ?_) N 0 s (by decide)
      exact okj_x1_diff_l90_j202 hl hdp hv5 ih hK
def x1_diff (N : Nat) (v0 : Nat) (v1 : Int) (v2 : Int) (σ : gMem) : Option gR := if mT σ v0 = 1 then (x1_sheetOf v0 v1 σ).bind (fun x2 => (x1_sheetOf v0 v2 σ).bind (fun x3 => if x2 = 0 then some (.inr "java/util/NoSuchElementException", wX σ 6) else if x3 ≠ 0 then gLet (wI σ v0 29 0) (fun s4 => (x1_differAlone N v0 x2 x3 0 1 s4).bind (fun x6 => (x1_differAlone N v0 x3 x2 0 2 x6).bind (fun x8 => (x1_differAlone N v0 x2 x3 1 3 x8).bind (fun x10 => (x1_differAlone N v0 x3 x2 1 4 x10).bind (fun x12 => (x1_differInOrder N v0 x2 x3 0 x12).bind (fun x14 => (x1_differInOrder N v0 x2 x3 1 x14).bind (fun x16 => x1_diff_l90 N v0 x2 x3 (fun s40 => if mT s40 v0 = 1 then some (.inl (some (vI (mI s40 v0 29))), s40) else none) N 0 x16))))))) else some (.inr "java/util/NoSuchElementException", wX σ 6))) else none
set_option maxRecDepth 100000 in
theorem ok_x1_diff {ω : gW} {l : Launch} {d : Nat} {N : Nat} {σ : gMem} {v0 : Nat} {v1 : Int} {v2 : Int} (hl : l.stackTraces = false) (hdp : 68 ≤ d) (hv1 : g32 v1) (hv2 : g32 v2) : gK (fun p : gR => p) gE ω l d mu_x1_diff [vR v0, vI v1, vI v2] σ (x1_diff N v0 v1 v2 σ) := by
  refine gK.of hp_X1 (Nat.le_of_ble_eq_true rfl) ?_
  unfold x1_diff
  refine x_aload_n (μ := mu_x1_diff) (pc := 0) 0 dX1_diff_0 rfl ?_
  refine x_iload_n (μ := mu_x1_diff) (pc := 1) 1 dX1_diff_1 rfl ?_
  refine x_if (fun hT1 => ?_)
  refine x_callV_pr (μ := mu_x1_diff) (pc := 2) (ok_x1_sheetOf (ω := ω) (l := l) (d := d - 1) hl (by omega) hv1) gRel_E gRel_E (fun _ q => q) q808 q810 qs4 q221 q811 dX1_diff_2 rfl hT1 hy_x1_sheetOf (by omega) (Nat.le_of_ble_eq_true rfl) rfl (Nat.le_of_ble_eq_true rfl) (fun x2 => ?_)
  refine x_astore_n (μ := mu_x1_diff) (pc := 5) (lv' := [(3, vR x2), (0, vR v0), (1, vI v1), (2, vI v2)]) dX1_diff_5 rfl (by decide) rfl ?_
  refine x_aload_n (μ := mu_x1_diff) (pc := 6) 1 dX1_diff_6 rfl ?_
  refine x_iload_n (μ := mu_x1_diff) (pc := 7) 3 dX1_diff_7 rfl ?_
  refine x_callV_pr (μ := mu_x1_diff) (pc := 8) (ok_x1_sheetOf (ω := ω) (l := l) (d := d - 1) hl (by omega) hv2) gRel_E gRel_E (fun _ q => q) q808 q810 qs4 q221 q811 dX1_diff_8 rfl hT1 hy_x1_sheetOf (by omega) (Nat.le_of_ble_eq_true rfl) rfl (Nat.le_of_ble_eq_true rfl) (fun x3 => ?_)
  refine x_astore (μ := mu_x1_diff) (pc := 11) (lv' := [(4, vR x3), (3, vR x2), (0, vR v0), (1, vI v1), (2, vI v2)]) dX1_diff_11 (by decide) rfl ?_
  refine x_aload_n (μ := mu_x1_diff) (pc := 13) 1 dX1_diff_13 rfl ?_
  refine x_ifnull (μ := mu_x1_diff) (pc := 14) (tgt := 22) dX1_diff_14 rfl ?_ ?_
  · exact x_throw0 (μ := mu_x1_diff) (pc := 22) hl gex_NoSuchElementException (by decide) rfl q2397 q265 dX1_diff_22 dX1_diff_25 dX1_diff_26 dX1_diff_29 (by decide) (by omega) (Nat.le_of_ble_eq_true rfl)
  · refine x_aload (μ := mu_x1_diff) (pc := 17) 0 dX1_diff_17 rfl ?_
    refine x_ifnonnull (μ := mu_x1_diff) (pc := 19) (tgt := 30) dX1_diff_19 rfl ?_ ?_
    · refine x_aload_n (μ := mu_x1_diff) (pc := 30) 2 dX1_diff_30 rfl ?_
      refine x_iconst (μ := mu_x1_diff) (pc := 31) dX1_diff_31 ?_
      refine x_fpi (μ := mu_x1_diff) (pc := 32) fX1_29 q674 dX1_diff_32 hT1 (fun _ q => gE_wI q) ?_
      refine x_let (fun s4 e5 => ?_)
      refine x_aload_n (μ := mu_x1_diff) (pc := 35) 2 dX1_diff_35 rfl ?_
      refine x_aload_n (μ := mu_x1_diff) (pc := 36) 1 dX1_diff_36 rfl ?_
      refine x_aload (μ := mu_x1_diff) (pc := 37) 0 dX1_diff_37 rfl ?_
      refine x_iconst (μ := mu_x1_diff) (pc := 39) dX1_diff_39 ?_
      refine x_iconst (μ := mu_x1_diff) (pc := 40) dX1_diff_40 ?_
      refine x_callV_mv (μ := mu_x1_diff) (pc := 41) (ok_x1_differAlone (ω := ω) (l := l) (d := d - 1) hl (by omega) (by decide) (by decide)) gRel_E gRel_E (fun _ q => q) q2597 q2599 qs73 q221 q2600 dX1_diff_41 rfl (gT_I e5 hT1) hy_x1_differAlone (by omega) (Nat.le_of_ble_eq_true rfl) rfl (Nat.le_of_ble_eq_true rfl) (fun x6 k7 => ?_)
      refine x_aload_n (μ := mu_x1_diff) (pc := 44) 2 dX1_diff_44 rfl ?_
      refine x_aload (μ := mu_x1_diff) (pc := 45) 0 dX1_diff_45 rfl ?_
      refine x_aload_n (μ := mu_x1_diff) (pc := 47) 1 dX1_diff_47 rfl ?_
      refine x_iconst (μ := mu_x1_diff) (pc := 48) dX1_diff_48 ?_
      refine x_iconst (μ := mu_x1_diff) (pc := 49) dX1_diff_49 ?_
      refine x_callV_mv (μ := mu_x1_diff) (pc := 50) (ok_x1_differAlone (ω := ω) (l := l) (d := d - 1) hl (by omega) (by decide) (by decide)) gRel_E gRel_E (fun _ q => q) q2597 q2599 qs73 q221 q2600 dX1_diff_50 rfl (gT_E k7 (gT_I e5 hT1) (by decide)) hy_x1_differAlone (by omega) (Nat.le_of_ble_eq_true rfl) rfl (Nat.le_of_ble_eq_true rfl) (fun x8 k9 => ?_)
      refine x_aload_n (μ := mu_x1_diff) (pc := 53) 2 dX1_diff_53 rfl ?_
      refine x_aload_n (μ := mu_x1_diff) (pc := 54) 1 dX1_diff_54 rfl ?_
      refine x_aload (μ := mu_x1_diff) (pc := 55) 0 dX1_diff_55 rfl ?_
      refine x_iconst (μ := mu_x1_diff) (pc := 57) dX1_diff_57 ?_
      refine x_iconst (μ := mu_x1_diff) (pc := 58) dX1_diff_58 ?_
      refine x_callV_mv (μ := mu_x1_diff) (pc := 59) (ok_x1_differAlone (ω := ω) (l := l) (d := d - 1) hl (by omega) (by decide) (by decide)) gRel_E gRel_E (fun _ q => q) q2597 q2599 qs73 q221 q2600 dX1_diff_59 rfl (gT_E k9 (gT_E k7 (gT_I e5 hT1) (by decide)) (by decide)) hy_x1_differAlone (by omega) (Nat.le_of_ble_eq_true rfl) rfl (Nat.le_of_ble_eq_true rfl) (fun x10 k11 => ?_)
      refine x_aload_n (μ := mu_x1_diff) (pc := 62) 2 dX1_diff_62 rfl ?_
      refine x_aload (μ := mu_x1_diff) (pc := 63) 0 dX1_diff_63 rfl ?_
      refine x_aload_n (μ := mu_x1_diff) (pc := 65) 1 dX1_diff_65 rfl ?_
      refine x_iconst (μ := mu_x1_diff) (pc := 66) dX1_diff_66 ?_
      refine x_iconst (μ := mu_x1_diff) (pc := 67) dX1_diff_67 ?_
      refine x_callV_mv (μ := mu_x1_diff) (pc := 68) (ok_x1_differAlone (ω := ω) (l := l) (d := d - 1) hl (by omega) (by decide) (by decide)) gRel_E gRel_E (fun _ q => q) q2597 q2599 qs73 q221 q2600 dX1_diff_68 rfl (gT_E k11 (gT_E k9 (gT_E k7 (gT_I e5 hT1) (by decide)) (by decide)) (by decide)) hy_x1_differAlone (by omega) (Nat.le_of_ble_eq_true rfl) rfl (Nat.le_of_ble_eq_true rfl) (fun x12 k13 => ?_)
      refine x_aload_n (μ := mu_x1_diff) (pc := 71) 2 dX1_diff_71 rfl ?_
      refine x_aload_n (μ := mu_x1_diff) (pc := 72) 1 dX1_diff_72 rfl ?_
      refine x_aload (μ := mu_x1_diff) (pc := 73) 0 dX1_diff_73 rfl ?_
      refine x_iconst (μ := mu_x1_diff) (pc := 75) dX1_diff_75 ?_
      refine x_callV_mv (μ := mu_x1_diff) (pc := 76) (ok_x1_differInOrder (ω := ω) (l := l) (d := d - 1) hl (by omega) (by decide)) gRel_E gRel_E (fun _ q => q) q2605 q2607 qs75 q221 q2608 dX1_diff_76 rfl (gT_E k13 (gT_E k11 (gT_E k9 (gT_E k7 (gT_I e5 hT1) (by decide)) (by decide)) (by decide)) (by decide)) hy_x1_differInOrder (by omega) (Nat.le_of_ble_eq_true rfl) rfl (Nat.le_of_ble_eq_true rfl) (fun x14 k15 => ?_)
      refine x_aload_n (μ := mu_x1_diff) (pc := 79) 2 dX1_diff_79 rfl ?_
      refine x_aload_n (μ := mu_x1_diff) (pc := 80) 1 dX1_diff_80 rfl ?_
      refine x_aload (μ := mu_x1_diff) (pc := 81) 0 dX1_diff_81 rfl ?_
      refine x_iconst (μ := mu_x1_diff) (pc := 83) dX1_diff_83 ?_
      refine x_callV_mv (μ := mu_x1_diff) (pc := 84) (ok_x1_differInOrder (ω := ω) (l := l) (d := d - 1) hl (by omega) (by decide)) gRel_E gRel_E (fun _ q => q) q2605 q2607 qs75 q221 q2608 dX1_diff_84 rfl (gT_E k15 (gT_E k13 (gT_E k11 (gT_E k9 (gT_E k7 (gT_I e5 hT1) (by decide)) (by decide)) (by decide)) (by decide)) (by decide)) hy_x1_differInOrder (by omega) (Nat.le_of_ble_eq_true rfl) rfl (Nat.le_of_ble_eq_true rfl) (fun x16 k17 => ?_)
      refine x_iconst (μ := mu_x1_diff) (pc := 87) dX1_diff_87 ?_
      refine x_istore (μ := mu_x1_diff) (pc := 88) (lv' := [(5, vI 0), (4, vR x3), (3, vR x2), (0, vR v0), (1, vI v1), (2, vI v2)]) dX1_diff_88 (by decide) rfl ?_
      refine x_loc (lv' := [(0, vR v0), (3, vR x2), (4, vR x3), (5, vI 0)]) [3, 2, 1, 0] rfl ?_
      refine okl_x1_diff_l90 hl hdp (fun s40 => ?_) N 0 x16 (by decide)
      refine x_aload_n (μ := mu_x1_diff) (pc := 208) 0 dX1_diff_208 rfl ?_
      refine x_if (fun hT41 => ?_)
      refine x_fgi (μ := mu_x1_diff) (pc := 209) fX1_29 q674 dX1_diff_209 hT41 (fun hr42 => ?_)
      exact x_iret (μ := mu_x1_diff) (pc := 212) (a1 := ((.inl (some (vI (mI s40 v0 29))), s40) : gR)) dX1_diff_212 rfl rfl (gRel_E.1 _) (show g32 (mI s40 v0 29) from hr42)
    · exact x_throw0 (μ := mu_x1_diff) (pc := 22) hl gex_NoSuchElementException (by decide) rfl q2397 q265 dX1_diff_22 dX1_diff_25 dX1_diff_26 dX1_diff_29 (by decide) (by omega) (Nat.le_of_ble_eq_true rfl)
def x1_has (N : Nat) (v0 : Nat) (v1 : Int) (v2 : Int) (v3 : Int) (v4 : Nat) (σ : gMem) : Option Int := if v1 ≠ (-1) then if mT σ v0 = 1 then if mT σ (mR σ v0 4) = 104 then if 0 ≤ v1 ∧ v1 < (mN σ (mR σ v0 4) : Int) then if mT σ (mR σ (mR σ v0 4) v1.toNat) = 9 then if mT σ (mR σ (mR σ (mR σ v0 4) v1.toNat) 0) = 8 then (x9_row N (mR σ (mR σ (mR σ v0 4) v1.toNat) 0) v2 σ).bind (fun x5 => if x5 = (-1) then some 0 else (x9_column N (mR σ (mR σ (mR σ v0 4) v1.toNat) 0) v3 σ).bind (fun x7 => if x7 = (-1) then some 0 else (x9_of N (mR σ (mR σ (mR σ v0 4) v1.toNat) 0) v2 v3 σ).bind (fun x9 => (x1_isAlike N x9 v4 σ).bind (fun x10 => if x10 = 0 then some 0 else some 1)))) else none else none else none else none else none else some 0
set_option maxRecDepth 100000 in
theorem ok_x1_has {ω : gW} {l : Launch} {d : Nat} {N : Nat} {σ : gMem} {v0 : Nat} {v1 : Int} {v2 : Int} {v3 : Int} {v4 : Nat} (hl : l.stackTraces = false) (hdp : 68 ≤ d) (hv1 : g32 v1) (hv2 : g32 v2) (hv3 : g32 v3) : gK (fun x : Int => (.inl (some (vI x)), σ)) gE ω l d mu_x1_has [vR v0, vI v1, vI v2, vI v3, vR v4] σ (x1_has N v0 v1 v2 v3 v4 σ) := by
  refine gK.of hp_X1 (Nat.le_of_ble_eq_true rfl) ?_
  unfold x1_has
  refine x_iload_n (μ := mu_x1_has) (pc := 0) 1 dX1_has_0 rfl ?_
  refine x_iconst (μ := mu_x1_has) (pc := 1) dX1_has_1 ?_
  refine x_icmp_ne (μ := mu_x1_has) (pc := 2) (tgt := 7) dX1_has_2 rfl hv1 (by decide) ?_ ?_
  · refine x_aload_n (μ := mu_x1_has) (pc := 7) 0 dX1_has_7 rfl ?_
    refine x_if (fun hT1 => ?_)
    refine x_fgr (μ := mu_x1_has) (pc := 8) fX1_4 (by first | exact Or.inl ⟨_, rfl⟩ | exact Or.inr ⟨_, rfl⟩) q649 dX1_has_8 hT1 ?_
    refine x_iload_n (μ := mu_x1_has) (pc := 11) 1 dX1_has_11 rfl ?_
    refine x_if (fun hT2 => ?_)
    refine x_aald (μ := mu_x1_has) (pc := 12) 4 (fun _ => rfl) rfl rfl dX1_has_12 hT2 rfl ?_
    refine x_if (fun hT3 => ?_)
    refine x_fgrN (μ := mu_x1_has) (pc := 13) fX10_0 (by first | exact Or.inl ⟨_, rfl⟩ | exact Or.inr ⟨_, rfl⟩) q600 dX1_has_13 hT3 ?_
    refine x_astore (μ := mu_x1_has) (pc := 16) (lv' := [(5, vR (mR σ (mR σ (mR σ v0 4) v1.toNat) 0)), (0, vR v0), (1, vI v1), (2, vI v2), (3, vI v3), (4, vR v4)]) dX1_has_16 (by decide) rfl ?_
    refine x_aload (μ := mu_x1_has) (pc := 18) 0 dX1_has_18 rfl ?_
    refine x_iload_n (μ := mu_x1_has) (pc := 20) 3 dX1_has_20 rfl ?_
    refine x_if (fun hT4 => ?_)
    refine x_callV_pi (μ := mu_x1_has) (pc := 21) (ok_x9_row (ω := ω) (l := l) (d := d - 1) hl (by omega) hv2) gRel_E gRel_E (fun _ q => q) q778 q779 q780 q230 q781 dX1_has_21 rfl hT4 hy_x9_row (by omega) (Nat.le_of_ble_eq_true rfl) rfl (Nat.le_of_ble_eq_true rfl) (fun x5 hr6 => ?_)
    refine x_iconst (μ := mu_x1_has) (pc := 24) dX1_has_24 ?_
    refine x_icmp_eq (μ := mu_x1_has) (pc := 25) (tgt := 57) dX1_has_25 rfl hr6 (by decide) ?_ ?_
    · refine x_iconst (μ := mu_x1_has) (pc := 57) dX1_has_57 ?_
      exact x_zret (μ := mu_x1_has) (pc := 58) dX1_has_58 rfl (by decide) rfl (gRel_E.1 _) (show g32 0 from (by decide))
    · refine x_aload (μ := mu_x1_has) (pc := 28) 0 dX1_has_28 rfl ?_
      refine x_iload_n (μ := mu_x1_has) (pc := 30) 4 dX1_has_30 rfl ?_
      refine x_callV_pi (μ := mu_x1_has) (pc := 31) (ok_x9_column (ω := ω) (l := l) (d := d - 1) hl (by omega) hv3) gRel_E gRel_E (fun _ q => q) q785 q786 q787 q230 q788 dX1_has_31 rfl hT4 hy_x9_column (by omega) (Nat.le_of_ble_eq_true rfl) rfl (Nat.le_of_ble_eq_true rfl) (fun x7 hr8 => ?_)
      refine x_iconst (μ := mu_x1_has) (pc := 34) dX1_has_34 ?_
      refine x_icmp_eq (μ := mu_x1_has) (pc := 35) (tgt := 57) dX1_has_35 rfl hr8 (by decide) ?_ ?_
      · refine x_iconst (μ := mu_x1_has) (pc := 57) dX1_has_57 ?_
        exact x_zret (μ := mu_x1_has) (pc := 58) dX1_has_58 rfl (by decide) rfl (gRel_E.1 _) (show g32 0 from (by decide))
      · refine x_aload (μ := mu_x1_has) (pc := 38) 0 dX1_has_38 rfl ?_
        refine x_iload_n (μ := mu_x1_has) (pc := 40) 3 dX1_has_40 rfl ?_
        refine x_iload_n (μ := mu_x1_has) (pc := 41) 4 dX1_has_41 rfl ?_
        refine x_callV_pr (μ := mu_x1_has) (pc := 42) (ok_x9_of (ω := ω) (l := l) (d := d - 1) hl (by omega) hv2 hv3) gRel_E gRel_E (fun _ q => q) q2621 q2235 q2236 q230 q2237 dX1_has_42 rfl hT4 hy_x9_of (by omega) (Nat.le_of_ble_eq_true rfl) rfl (Nat.le_of_ble_eq_true rfl) (fun x9 => ?_)
        refine x_aload (μ := mu_x1_has) (pc := 45) 5 dX1_has_45 rfl ?_
        refine x_callS_pi (μ := mu_x1_has) (pc := 47) (ok_x1_isAlike (ω := ω) (l := l) (d := d - 1) hl (by omega) ) gRel_E gRel_E (fun _ q => q) q2609 q1572 q221 q1573 dX1_has_47 hy_x1_isAlike (by omega) (Nat.le_of_ble_eq_true rfl) rfl (Nat.le_of_ble_eq_true rfl) (fun x10 hr11 => ?_)
        refine x_if_eq (μ := mu_x1_has) (pc := 50) (tgt := 57) dX1_has_50 rfl hr11 ?_ ?_
        · refine x_iconst (μ := mu_x1_has) (pc := 57) dX1_has_57 ?_
          exact x_zret (μ := mu_x1_has) (pc := 58) dX1_has_58 rfl (by decide) rfl (gRel_E.1 _) (show g32 0 from (by decide))
        · refine x_iconst (μ := mu_x1_has) (pc := 53) dX1_has_53 ?_
          refine x_goto (μ := mu_x1_has) (pc := 54) (tgt := 58) dX1_has_54 rfl ?_
          exact x_zret (μ := mu_x1_has) (pc := 58) dX1_has_58 rfl (by decide) rfl (gRel_E.1 _) (show g32 1 from (by decide))
  · refine x_iconst (μ := mu_x1_has) (pc := 5) dX1_has_5 ?_
    exact x_zret (μ := mu_x1_has) (pc := 6) dX1_has_6 rfl (by decide) rfl (gRel_E.1 _) (show g32 0 from (by decide))
def tw_readSum_l4 (N : Nat) (W : gMem → Option gMem) (h : Nat) (K : gMem → Option gMem) : Nat → gMem → Option gMem
  | 0, _ => none
  | n + 1, s => (tw_isSignOf h 17 18 s).bind (fun x4 => if x4 = 0 then K s else (tw_next N h s).bind (fun x7 => (tw_readProduct N W h x7).bind (fun x10 => (tw_part N h (mI s h 50) 2 x10).bind (fun x13 => tw_readSum_l4 N W h K n (x13.2)))))
set_option maxRecDepth 100000 in
theorem okl_tw_readSum_l4 {ω : gW} {l : Launch} {d : Nat} {N : Nat} {W : gMem → Option gMem} {dW : Nat} {h : Nat} {σ0 : gMem} {K : gMem → Option gMem} (hW : ∀ (s : gMem), TM s h → gK (fun p : gMem => (.inl none, p)) gTw ω l dW mu_tw_readSign [vR h] s (W s)) (hdp : 8 ≤ d) (hdw : dW + 2 ≤ d) (hK : ∀ (s : gMem) , TM s h → GG (fun p : gMem => (.inl none, p)) gTw ω l d mu_tw_readSum σ0 38 [] [] s (K s)) : ∀ (n : Nat) (s : gMem) , TM s h → GG (fun p : gMem => (.inl none, p)) gTw ω l d mu_tw_readSum σ0 4 [(0, vR h)] [] s (tw_readSum_l4 N W h K n s) := by
  intro n
  induction n with
  | zero => intros; exact x_none
  | succ n ih =>
    intro s hM
    unfold tw_readSum_l4
    refine x_aload_n (μ := mu_tw_readSum) (pc := 4) 0 dX11_readSum_4 rfl ?_
    refine x_bipush (μ := mu_tw_readSum) (pc := 5) dX11_readSum_5 (by decide) ?_
    refine x_bipush (μ := mu_tw_readSum) (pc := 7) dX11_readSum_7 (by decide) ?_
    refine x_callV_pi (μ := mu_tw_readSum) (pc := 9) (ok_tw_isSignOf (ω := ω) (l := l) (d := d - 1) (by omega) hM (by decide) (by decide)) gRel_Tw gRel_Tw (fun _ q => q) q3067 q3069 qs97 q232 q3070 dX11_readSum_9 rfl hM.1 hy_tw_isSignOf (by omega) (Nat.le_of_ble_eq_true rfl) rfl (Nat.le_of_ble_eq_true rfl) (fun x4 hr5 => ?_)
    refine x_if_eq (μ := mu_tw_readSum) (pc := 12) (tgt := 38) dX11_readSum_12 rfl hr5 ?_ ?_
    · refine x_loc (lv' := []) [] rfl ?_
      exact hK s hM
    · refine x_aload_n (μ := mu_tw_readSum) (pc := 15) 0 dX11_readSum_15 rfl ?_
      refine x_fgi (μ := mu_tw_readSum) (pc := 16) fX11_50 q2686 dX11_readSum_16 hM.1 (fun hr6 => ?_)
      refine x_istore_n (μ := mu_tw_readSum) (pc := 19) (lv' := [(1, vI (mI s h 50)), (0, vR h)]) dX11_readSum_19 rfl (by decide) rfl ?_
      refine x_aload_n (μ := mu_tw_readSum) (pc := 20) 1 dX11_readSum_20 rfl ?_
      refine x_callV_mv (μ := mu_tw_readSum) (pc := 21) (ok_tw_next (ω := ω) (l := l) (d := d - 1) (by omega) hM ) gRel_Tw gRel_Tw (fun _ q => q) q2995 q2997 qs82 q232 q2998 dX11_readSum_21 rfl hM.1 hy_tw_next (by omega) (Nat.le_of_ble_eq_true rfl) rfl (Nat.le_of_ble_eq_true rfl) (fun x7 k8 => ?_)
      have hM9 : TM x7 h := hM.tw k8
      refine x_aload_n (μ := mu_tw_readSum) (pc := 24) 1 dX11_readSum_24 rfl ?_
      refine x_callV_mv (μ := mu_tw_readSum) (pc := 25) (ok_tw_readProduct (ω := ω) (l := l) (d := d - 1) hW (by omega) (by omega) hM9 ) gRel_Tw gRel_Tw (fun _ q => q) q3059 q3061 qs95 q232 q3062 dX11_readSum_25 rfl hM9.1 hy_tw_readProduct (by omega) (Nat.le_of_ble_eq_true rfl) rfl (Nat.le_of_ble_eq_true rfl) (fun x10 k11 => ?_)
      have hM12 : TM x10 h := hM9.tw k11
      refine x_aload_n (μ := mu_tw_readSum) (pc := 28) 1 dX11_readSum_28 rfl ?_
      refine x_iload_n (μ := mu_tw_readSum) (pc := 29) 0 dX11_readSum_29 rfl ?_
      refine x_iconst (μ := mu_tw_readSum) (pc := 30) dX11_readSum_30 ?_
      refine x_callV_mi (μ := mu_tw_readSum) (pc := 31) (ok_tw_part (ω := ω) (l := l) (d := d - 1) (by omega) hM12 hr6 (by decide)) gRel_Tw gRel_Tw (fun _ q => q) q3083 q3085 qs101 q232 q3086 dX11_readSum_31 rfl hM12.1 hy_tw_part (by omega) (Nat.le_of_ble_eq_true rfl) rfl (Nat.le_of_ble_eq_true rfl) (fun x13 k15 hr14 => ?_)
      have hM16 : TM (x13.2) h := hM12.tw k15
      refine x_pop (μ := mu_tw_readSum) (pc := 34) dX11_readSum_34 rfl ?_
      refine x_goto (μ := mu_tw_readSum) (pc := 35) (tgt := 4) dX11_readSum_35 rfl ?_
      refine x_loc (lv' := [(0, vR h)]) [1] rfl ?_
      exact ih (x13.2) hM16
def tw_readSum (N : Nat) (W : gMem → Option gMem) (h : Nat) (σ : gMem) : Option gMem := (tw_readProduct N W h σ).bind (fun x1 => tw_readSum_l4 N W h (fun s17 => some s17) N x1)
set_option maxRecDepth 100000 in
theorem ok_tw_readSum {ω : gW} {l : Launch} {d : Nat} {N : Nat} {W : gMem → Option gMem} {dW : Nat} {h : Nat} {σ : gMem} (hW : ∀ (s : gMem), TM s h → gK (fun p : gMem => (.inl none, p)) gTw ω l dW mu_tw_readSign [vR h] s (W s)) (hdp : 8 ≤ d) (hdw : dW + 2 ≤ d) (hM : TM σ h) : gK (fun p : gMem => (.inl none, p)) gTw ω l d mu_tw_readSum [vR h] σ (tw_readSum N W h σ) := by
  refine gK.of hp_X11 (Nat.le_of_ble_eq_true rfl) ?_
  unfold tw_readSum
  refine x_aload_n (μ := mu_tw_readSum) (pc := 0) 0 dX11_readSum_0 rfl ?_
  refine x_callV_mv (μ := mu_tw_readSum) (pc := 1) (ok_tw_readProduct (ω := ω) (l := l) (d := d - 1) hW (by omega) (by omega) hM ) gRel_Tw gRel_Tw (fun _ q => q) q3059 q3061 qs95 q232 q3062 dX11_readSum_1 rfl hM.1 hy_tw_readProduct (by omega) (Nat.le_of_ble_eq_true rfl) rfl (Nat.le_of_ble_eq_true rfl) (fun x1 k2 => ?_)
  have hM3 : TM x1 h := hM.tw k2
  refine okl_tw_readSum_l4 hW hdp hdw (fun s17 hM18 => ?_) N x1 hM3
  exact x_vret (μ := mu_tw_readSum) (pc := 38) (a1 := s17) dX11_readSum_38 rfl rfl (gRel_Tw.1 _) trivial
def tw_leadsOf_l16_j149 (N : Nat) (h : Nat) (v1 : Int) (v2 : Int) (v3 : Int) (v4 : Int) (Kh : Int → gMem → Option gMem) (K : gMem → Option gMem) (s : gMem) : Option gMem := Kh (w32 (v4 + 1)) s
set_option maxRecDepth 100000 in
theorem okj_tw_leadsOf_l16_j149 {ω : gW} {l : Launch} {d : Nat} {N : Nat} {h : Nat} {σ0 : gMem} {s : gMem} {v1 : Int} {v2 : Int} {v3 : Int} {v4 : Int} {Kh : Int → gMem → Option gMem} {K : gMem → Option gMem} (hdp : 3 ≤ d) (hM : TM s h) (hv1 : g32 v1) (hv2 : g32 v2) (hv3 : g32 v3) (hv4 : g32 v4) (hKh : ∀ (v4 : Int) (s : gMem) , g32 v4 → TM s h → GG (fun p : gMem => (.inl none, p)) gTw ω l d mu_tw_leadsOf σ0 16 [(0, vR h), (1, vI v1), (2, vI v2), (3, vI v3), (4, vI v4)] [] s (Kh v4 s)) (hK : ∀ (s : gMem) , TM s h → GG (fun p : gMem => (.inl none, p)) gTw ω l d mu_tw_leadsOf σ0 155 [] [] s (K s)) : GG (fun p : gMem => (.inl none, p)) gTw ω l d mu_tw_leadsOf σ0 149 [(0, vR h), (1, vI v1), (2, vI v2), (3, vI v3), (4, vI v4)] [] s (tw_leadsOf_l16_j149 N h v1 v2 v3 v4 Kh K s) := by
  unfold tw_leadsOf_l16_j149
  refine x_iincw (μ := mu_tw_leadsOf) (pc := 149) (lv' := [(4, vI (w32 (v4 + 1))), (0, vR h), (1, vI v1), (2, vI v2), (3, vI v3)]) 4 dX11_leadsOf_149 rfl (by decide) rfl ?_
  refine x_goto (μ := mu_tw_leadsOf) (pc := 152) (tgt := 16) dX11_leadsOf_152 rfl ?_
  refine x_loc (lv' := [(0, vR h), (1, vI v1), (2, vI v2), (3, vI v3), (4, vI (w32 (v4 + 1)))]) [1, 2, 3, 4, 0] rfl ?_
  exact hKh (w32 (v4 + 1)) s (w32_rng _) hM
def tw_leadsOf_l117 (N : Nat) (h : Nat) (v1 : Int) (v2 : Int) (v3 : Int) (v4 : Int) (K : gMem → Option gMem) : Nat → Int → gMem → Option gMem
  | 0, _, _ => none
  | n + 1, v6, s => (tw_areaSize h s).bind (fun x9 => if x9 ≤ v6 then K s else (tw_areaCell h v6 s).bind (fun x11 => (tw_lead h v2 (w32 (x11 - (320 * v1))) s).bind (fun x13 => tw_leadsOf_l117 N h v1 v2 v3 v4 K n (w32 (v6 + 1)) x13)))
set_option maxRecDepth 100000 in
theorem okl_tw_leadsOf_l117 {ω : gW} {l : Launch} {d : Nat} {N : Nat} {h : Nat} {σ0 : gMem} {v1 : Int} {v2 : Int} {v3 : Int} {v4 : Int} {K : gMem → Option gMem} (hdp : 3 ≤ d) (hv1 : g32 v1) (hv2 : g32 v2) (hv3 : g32 v3) (hv4 : g32 v4) (hK : ∀ (s : gMem) , TM s h → GG (fun p : gMem => (.inl none, p)) gTw ω l d mu_tw_leadsOf σ0 149 [(0, vR h), (1, vI v1), (2, vI v2), (3, vI v3), (4, vI v4)] [] s (K s)) : ∀ (n : Nat) (v6 : Int) (s : gMem) , g32 v6 → TM s h → GG (fun p : gMem => (.inl none, p)) gTw ω l d mu_tw_leadsOf σ0 117 [(0, vR h), (1, vI v1), (2, vI v2), (3, vI v3), (4, vI v4), (6, vI v6)] [] s (tw_leadsOf_l117 N h v1 v2 v3 v4 K n v6 s) := by
  intro n
  induction n with
  | zero => intros; exact x_none
  | succ n ih =>
    intro v6 s hv6 hM
    unfold tw_leadsOf_l117
    refine x_iload (μ := mu_tw_leadsOf) (pc := 117) 5 dX11_leadsOf_117 rfl ?_
    refine x_aload_n (μ := mu_tw_leadsOf) (pc := 119) 0 dX11_leadsOf_119 rfl ?_
    refine x_callV_pi (μ := mu_tw_leadsOf) (pc := 120) (ok_tw_areaSize (ω := ω) (l := l) (d := d - 1) (by omega) hM ) gRel_Tw gRel_Tw (fun _ q => q) q3263 q3265 qs132 q232 q3266 dX11_leadsOf_120 rfl hM.1 hy_tw_areaSize (by omega) (Nat.le_of_ble_eq_true rfl) rfl (Nat.le_of_ble_eq_true rfl) (fun x9 hr10 => ?_)
    refine x_icmp_ge (μ := mu_tw_leadsOf) (pc := 123) (tgt := 149) dX11_leadsOf_123 rfl hv6 hr10 ?_ ?_
    · refine x_loc (lv' := [(0, vR h), (1, vI v1), (2, vI v2), (3, vI v3), (4, vI v4)]) [0, 1, 2, 3, 4] rfl ?_
      exact hK s hM
    · refine x_aload_n (μ := mu_tw_leadsOf) (pc := 126) 0 dX11_leadsOf_126 rfl ?_
      refine x_iload_n (μ := mu_tw_leadsOf) (pc := 127) 2 dX11_leadsOf_127 rfl ?_
      refine x_aload_n (μ := mu_tw_leadsOf) (pc := 128) 0 dX11_leadsOf_128 rfl ?_
      refine x_iload (μ := mu_tw_leadsOf) (pc := 129) 5 dX11_leadsOf_129 rfl ?_
      refine x_callV_pi (μ := mu_tw_leadsOf) (pc := 131) (ok_tw_areaCell (ω := ω) (l := l) (d := d - 1) (by omega) hM hv6) gRel_Tw gRel_Tw (fun _ q => q) q3267 q3269 qs133 q232 q3270 dX11_leadsOf_131 rfl hM.1 hy_tw_areaCell (by omega) (Nat.le_of_ble_eq_true rfl) rfl (Nat.le_of_ble_eq_true rfl) (fun x11 hr12 => ?_)
      refine x_sipush (μ := mu_tw_leadsOf) (pc := 134) dX11_leadsOf_134 (by decide) ?_
      refine x_iload_n (μ := mu_tw_leadsOf) (pc := 137) 1 dX11_leadsOf_137 rfl ?_
      refine x_imul (μ := mu_tw_leadsOf) (pc := 138) dX11_leadsOf_138 ?_
      refine x_isub (μ := mu_tw_leadsOf) (pc := 139) dX11_leadsOf_139 ?_
      refine x_w1 ?_
      refine x_callV_mv (μ := mu_tw_leadsOf) (pc := 140) (ok_tw_lead (ω := ω) (l := l) (d := d - 1) (by omega) hM hv2 (w32_rng _)) gRel_Tw gRel_Tw (fun _ q => q) q3249 q3251 qs130 q232 q3252 dX11_leadsOf_140 rfl hM.1 hy_tw_lead (by omega) (Nat.le_of_ble_eq_true rfl) rfl (Nat.le_of_ble_eq_true rfl) (fun x13 k14 => ?_)
      have hM15 : TM x13 h := hM.tw k14
      refine x_iincw (μ := mu_tw_leadsOf) (pc := 143) (lv' := [(6, vI (w32 (v6 + 1))), (0, vR h), (1, vI v1), (2, vI v2), (3, vI v3), (4, vI v4)]) 5 dX11_leadsOf_143 rfl (by decide) rfl ?_
      refine x_goto (μ := mu_tw_leadsOf) (pc := 146) (tgt := 117) dX11_leadsOf_146 rfl ?_
      refine x_loc (lv' := [(0, vR h), (1, vI v1), (2, vI v2), (3, vI v3), (4, vI v4), (6, vI (w32 (v6 + 1)))]) [1, 2, 3, 4, 5, 0] rfl ?_
      exact ih (w32 (v6 + 1)) x13 (w32_rng _) hM15
def tw_leadsOf_l16_j104 (N : Nat) (h : Nat) (v1 : Int) (v2 : Int) (v3 : Int) (v4 : Int) (v5 : Int) (Kh : Int → gMem → Option gMem) (K : gMem → Option gMem) (s : gMem) : Option gMem := (tw_area N h v5 v1 s).bind (fun x5 => if x5.1 = 0 then tw_leadsOf_l16_j149 N h v1 v2 v3 v4  (Kh) K (x5.2) else tw_leadsOf_l117 N h v1 v2 v3 v4 (fun s16 => tw_leadsOf_l16_j149 N h v1 v2 v3 v4  (Kh) K s16) N 0 (x5.2))
set_option maxRecDepth 100000 in
theorem okj_tw_leadsOf_l16_j104 {ω : gW} {l : Launch} {d : Nat} {N : Nat} {h : Nat} {σ0 : gMem} {s : gMem} {v1 : Int} {v2 : Int} {v3 : Int} {v4 : Int} {v5 : Int} {Kh : Int → gMem → Option gMem} {K : gMem → Option gMem} (hdp : 3 ≤ d) (hM : TM s h) (hv1 : g32 v1) (hv2 : g32 v2) (hv3 : g32 v3) (hv4 : g32 v4) (hv5 : g32 v5) (hKh : ∀ (v4 : Int) (s : gMem) , g32 v4 → TM s h → GG (fun p : gMem => (.inl none, p)) gTw ω l d mu_tw_leadsOf σ0 16 [(0, vR h), (1, vI v1), (2, vI v2), (3, vI v3), (4, vI v4)] [] s (Kh v4 s)) (hK : ∀ (s : gMem) , TM s h → GG (fun p : gMem => (.inl none, p)) gTw ω l d mu_tw_leadsOf σ0 155 [] [] s (K s)) : GG (fun p : gMem => (.inl none, p)) gTw ω l d mu_tw_leadsOf σ0 104 [(0, vR h), (1, vI v1), (2, vI v2), (3, vI v3), (4, vI v4), (5, vI v5)] [] s (tw_leadsOf_l16_j104 N h v1 v2 v3 v4 v5 Kh K s) := by
  unfold tw_leadsOf_l16_j104
  refine x_aload_n (μ := mu_tw_leadsOf) (pc := 104) 0 dX11_leadsOf_104 rfl ?_
  refine x_iload (μ := mu_tw_leadsOf) (pc := 105) 5 dX11_leadsOf_105 rfl ?_
  refine x_iload_n (μ := mu_tw_leadsOf) (pc := 107) 1 dX11_leadsOf_107 rfl ?_
  refine x_callV_mi (μ := mu_tw_leadsOf) (pc := 108) (ok_tw_area (ω := ω) (l := l) (d := d - 1) (by omega) hM hv5 hv1) gRel_Tw gRel_Tw (fun _ q => q) q3253 q3255 qs131 q232 q3256 dX11_leadsOf_108 rfl hM.1 hy_tw_area (by omega) (Nat.le_of_ble_eq_true rfl) rfl (Nat.le_of_ble_eq_true rfl) (fun x5 k7 hr6 => ?_)
  have hM8 : TM (x5.2) h := hM.tw k7
  refine x_if_eq (μ := mu_tw_leadsOf) (pc := 111) (tgt := 149) dX11_leadsOf_111 rfl hr6 ?_ ?_
  · refine x_loc (lv' := [(0, vR h), (1, vI v1), (2, vI v2), (3, vI v3), (4, vI v4)]) [0, 1, 2, 3, 4] rfl ?_
    exact okj_tw_leadsOf_l16_j149 hdp hM8 hv1 hv2 hv3 hv4 hKh hK
  · refine x_iconst (μ := mu_tw_leadsOf) (pc := 114) dX11_leadsOf_114 ?_
    refine x_istore (μ := mu_tw_leadsOf) (pc := 115) (lv' := [(6, vI 0), (0, vR h), (1, vI v1), (2, vI v2), (3, vI v3), (4, vI v4), (5, vI v5)]) dX11_leadsOf_115 (by decide) rfl ?_
    refine x_loc (lv' := [(0, vR h), (1, vI v1), (2, vI v2), (3, vI v3), (4, vI v4), (6, vI 0)]) [1, 2, 3, 4, 5, 0] rfl ?_
    refine okl_tw_leadsOf_l117 hdp hv1 hv2 hv3 hv4 (fun s16 hM17 => ?_) N 0 (x5.2) (by decide) hM8
    exact okj_tw_leadsOf_l16_j149 hdp hM17 hv1 hv2 hv3 hv4 hKh hK
def tw_leadsOf_l16 (N : Nat) (h : Nat) (v1 : Int) (v2 : Int) (v3 : Int) (K : gMem → Option gMem) : Nat → Int → gMem → Option gMem
  | 0, _, _ => none
  | n + 1, v4, s => if 0 ≤ (v3 - 1) ∧ (v3 - 1) < ((60420 : Nat) : Int) then if mI s (h + 26) (v3 - 1).toNat ≤ v4 then K s else if 0 ≤ (w32 ((v3 - 1) + v4)) ∧ (w32 ((v3 - 1) + v4)) < ((60420 : Nat) : Int) then if mI s (h + 25) (w32 ((v3 - 1) + v4)).toNat < 0 then if 0 ≤ (w32 ((v3 - 1) + v4)) ∧ (w32 ((v3 - 1) + v4)) < ((60420 : Nat) : Int) then if mI s (h + 14) (w32 ((v3 - 1) + v4)).toNat ≠ 5 then tw_leadsOf_l16_j104 N h v1 v2 v3 v4 (w32 ((v3 - 1) + v4))  (tw_leadsOf_l16 N h v1 v2 v3 K n) K s else if 0 ≤ (w32 ((v3 - 1) + v4)) ∧ (w32 ((v3 - 1) + v4)) < ((60420 : Nat) : Int) then if bAnd (mI s (h + 24) (w32 ((v3 - 1) + v4)).toNat) 16 ≠ 0 then tw_leadsOf_l16_j104 N h v1 v2 v3 v4 (w32 ((v3 - 1) + v4))  (tw_leadsOf_l16 N h v1 v2 v3 K n) K s else (tw_spotCell N h (w32 ((v3 - 1) + v4)) v1 s).bind (fun x19 => if x19 < 0 then tw_leadsOf_l16_j149 N h v1 v2 v3 v4  (tw_leadsOf_l16 N h v1 v2 v3 K n) K s else (tw_lead h v2 (w32 (x19 - (320 * v1))) s).bind (fun x21 => tw_leadsOf_l16_j149 N h v1 v2 v3 v4  (tw_leadsOf_l16 N h v1 v2 v3 K n) K x21)) else none else none else tw_leadsOf_l16_j149 N h v1 v2 v3 v4  (tw_leadsOf_l16 N h v1 v2 v3 K n) K s else none else none
set_option maxRecDepth 100000 in
theorem okl_tw_leadsOf_l16 {ω : gW} {l : Launch} {d : Nat} {N : Nat} {h : Nat} {σ0 : gMem} {v1 : Int} {v2 : Int} {v3 : Int} {K : gMem → Option gMem} (hdp : 3 ≤ d) (hv1 : g32 v1) (hv2 : g32 v2) (hv3 : g32 v3) (hK : ∀ (s : gMem) , TM s h → GG (fun p : gMem => (.inl none, p)) gTw ω l d mu_tw_leadsOf σ0 155 [] [] s (K s)) : ∀ (n : Nat) (v4 : Int) (s : gMem) , g32 v4 → TM s h → GG (fun p : gMem => (.inl none, p)) gTw ω l d mu_tw_leadsOf σ0 16 [(0, vR h), (1, vI v1), (2, vI v2), (3, vI v3), (4, vI v4)] [] s (tw_leadsOf_l16 N h v1 v2 v3 K n v4 s) := by
  intro n
  induction n with
  | zero => intros; exact x_none
  | succ n ih =>
    intro v4 s hv4 hM
    unfold tw_leadsOf_l16
    refine x_iload (μ := mu_tw_leadsOf) (pc := 16) 4 dX11_leadsOf_16 rfl ?_
    refine x_aload_n (μ := mu_tw_leadsOf) (pc := 18) 0 dX11_leadsOf_18 rfl ?_
    refine x_fgrE (μ := mu_tw_leadsOf) (pc := 19) fX11_38 (Or.inr ⟨_, rfl⟩) q2674 (hM.a38).1 dX11_leadsOf_19 hM.1 ?_
    refine x_iload_n (μ := mu_tw_leadsOf) (pc := 22) 3 dX11_leadsOf_22 rfl ?_
    refine x_iconst (μ := mu_tw_leadsOf) (pc := 23) dX11_leadsOf_23 ?_
    refine x_isub (μ := mu_tw_leadsOf) (pc := 24) dX11_leadsOf_24 ?_
    refine x_iald (μ := mu_tw_leadsOf) (pc := 25) dX11_leadsOf_25 (hM.a38).2.1 (hM.a38).2.2 (fun hr2 => ?_)
    refine x_icmp_ge (μ := mu_tw_leadsOf) (pc := 26) (tgt := 155) dX11_leadsOf_26 rfl hv4 hr2 ?_ ?_
    · refine x_loc (lv' := []) [] rfl ?_
      exact hK s hM
    · refine x_iload_n (μ := mu_tw_leadsOf) (pc := 29) 3 dX11_leadsOf_29 rfl ?_
      refine x_iconst (μ := mu_tw_leadsOf) (pc := 30) dX11_leadsOf_30 ?_
      refine x_isub (μ := mu_tw_leadsOf) (pc := 31) dX11_leadsOf_31 ?_
      refine x_iload (μ := mu_tw_leadsOf) (pc := 32) 4 dX11_leadsOf_32 rfl ?_
      refine x_iadd (μ := mu_tw_leadsOf) (pc := 34) dX11_leadsOf_34 ?_
      refine x_w1 ?_
      refine x_istore (μ := mu_tw_leadsOf) (pc := 35) (lv' := [(5, vI (w32 ((v3 - 1) + v4))), (0, vR h), (1, vI v1), (2, vI v2), (3, vI v3), (4, vI v4)]) dX11_leadsOf_35 (by decide) rfl ?_
      refine x_aload_n (μ := mu_tw_leadsOf) (pc := 37) 1 dX11_leadsOf_37 rfl ?_
      refine x_fgrE (μ := mu_tw_leadsOf) (pc := 38) fX11_37 (Or.inr ⟨_, rfl⟩) q2673 (hM.a37).1 dX11_leadsOf_38 hM.1 ?_
      refine x_iload (μ := mu_tw_leadsOf) (pc := 41) 0 dX11_leadsOf_41 rfl ?_
      refine x_iald (μ := mu_tw_leadsOf) (pc := 43) dX11_leadsOf_43 (hM.a37).2.1 (hM.a37).2.2 (fun hr3 => ?_)
      refine x_if_lt (μ := mu_tw_leadsOf) (pc := 44) (tgt := 50) dX11_leadsOf_44 rfl hr3 ?_ ?_
      · refine x_aload_n (μ := mu_tw_leadsOf) (pc := 50) 1 dX11_leadsOf_50 rfl ?_
        refine x_fgrE (μ := mu_tw_leadsOf) (pc := 51) fX11_26 (Or.inr ⟨_, rfl⟩) q2662 (hM.a26).1 dX11_leadsOf_51 hM.1 ?_
        refine x_iload (μ := mu_tw_leadsOf) (pc := 54) 0 dX11_leadsOf_54 rfl ?_
        refine x_iald (μ := mu_tw_leadsOf) (pc := 56) dX11_leadsOf_56 (hM.a26).2.1 (hM.a26).2.2 (fun hr4 => ?_)
        refine x_iconst (μ := mu_tw_leadsOf) (pc := 57) dX11_leadsOf_57 ?_
        refine x_icmp_ne (μ := mu_tw_leadsOf) (pc := 58) (tgt := 104) dX11_leadsOf_58 rfl hr4 (by decide) ?_ ?_
        · refine x_loc (lv' := [(0, vR h), (1, vI v1), (2, vI v2), (3, vI v3), (4, vI v4), (5, vI (w32 ((v3 - 1) + v4)))]) [1, 2, 3, 4, 5, 0] rfl ?_
          exact okj_tw_leadsOf_l16_j104 hdp hM hv1 hv2 hv3 hv4 (w32_rng _) ih hK
        · refine x_aload_n (μ := mu_tw_leadsOf) (pc := 61) 1 dX11_leadsOf_61 rfl ?_
          refine x_fgrE (μ := mu_tw_leadsOf) (pc := 62) fX11_36 (Or.inr ⟨_, rfl⟩) q2672 (hM.a36).1 dX11_leadsOf_62 hM.1 ?_
          refine x_iload (μ := mu_tw_leadsOf) (pc := 65) 0 dX11_leadsOf_65 rfl ?_
          refine x_iald (μ := mu_tw_leadsOf) (pc := 67) dX11_leadsOf_67 (hM.a36).2.1 (hM.a36).2.2 (fun hr18 => ?_)
          refine x_bipush (μ := mu_tw_leadsOf) (pc := 68) dX11_leadsOf_68 (by decide) ?_
          refine x_iand (μ := mu_tw_leadsOf) (pc := 70) dX11_leadsOf_70 ?_
          refine x_if_ne (μ := mu_tw_leadsOf) (pc := 71) (tgt := 104) dX11_leadsOf_71 rfl (bAnd_rng _ _) ?_ ?_
          · refine x_loc (lv' := [(0, vR h), (1, vI v1), (2, vI v2), (3, vI v3), (4, vI v4), (5, vI (w32 ((v3 - 1) + v4)))]) [1, 2, 3, 4, 5, 0] rfl ?_
            exact okj_tw_leadsOf_l16_j104 hdp hM hv1 hv2 hv3 hv4 (w32_rng _) ih hK
          · refine x_aload_n (μ := mu_tw_leadsOf) (pc := 74) 1 dX11_leadsOf_74 rfl ?_
            refine x_iload (μ := mu_tw_leadsOf) (pc := 75) 0 dX11_leadsOf_75 rfl ?_
            refine x_iload_n (μ := mu_tw_leadsOf) (pc := 77) 2 dX11_leadsOf_77 rfl ?_
            refine x_callV_pi (μ := mu_tw_leadsOf) (pc := 78) (ok_tw_spotCell (ω := ω) (l := l) (d := d - 1) (by omega) hM (w32_rng _) hv1) gRel_Tw gRel_Tw (fun _ q => q) q3233 q3235 qs126 q232 q3236 dX11_leadsOf_78 rfl hM.1 hy_tw_spotCell (by omega) (Nat.le_of_ble_eq_true rfl) rfl (Nat.le_of_ble_eq_true rfl) (fun x19 hr20 => ?_)
            refine x_istore (μ := mu_tw_leadsOf) (pc := 81) (lv' := [(6, vI x19), (5, vI (w32 ((v3 - 1) + v4))), (0, vR h), (1, vI v1), (2, vI v2), (3, vI v3), (4, vI v4)]) dX11_leadsOf_81 (by decide) rfl ?_
            refine x_iload (μ := mu_tw_leadsOf) (pc := 83) 0 dX11_leadsOf_83 rfl ?_
            refine x_if_lt (μ := mu_tw_leadsOf) (pc := 85) (tgt := 101) dX11_leadsOf_85 rfl hr20 ?_ ?_
            · refine x_goto (μ := mu_tw_leadsOf) (pc := 101) (tgt := 149) dX11_leadsOf_101 rfl ?_
              refine x_loc (lv' := [(0, vR h), (1, vI v1), (2, vI v2), (3, vI v3), (4, vI v4)]) [2, 3, 4, 5, 6] rfl ?_
              exact okj_tw_leadsOf_l16_j149 hdp hM hv1 hv2 hv3 hv4 ih hK
            · refine x_aload_n (μ := mu_tw_leadsOf) (pc := 88) 2 dX11_leadsOf_88 rfl ?_
              refine x_iload_n (μ := mu_tw_leadsOf) (pc := 89) 4 dX11_leadsOf_89 rfl ?_
              refine x_iload (μ := mu_tw_leadsOf) (pc := 90) 0 dX11_leadsOf_90 rfl ?_
              refine x_sipush (μ := mu_tw_leadsOf) (pc := 92) dX11_leadsOf_92 (by decide) ?_
              refine x_iload_n (μ := mu_tw_leadsOf) (pc := 95) 3 dX11_leadsOf_95 rfl ?_
              refine x_imul (μ := mu_tw_leadsOf) (pc := 96) dX11_leadsOf_96 ?_
              refine x_isub (μ := mu_tw_leadsOf) (pc := 97) dX11_leadsOf_97 ?_
              refine x_w1 ?_
              refine x_callV_mv (μ := mu_tw_leadsOf) (pc := 98) (ok_tw_lead (ω := ω) (l := l) (d := d - 1) (by omega) hM hv2 (w32_rng _)) gRel_Tw gRel_Tw (fun _ q => q) q3249 q3251 qs130 q232 q3252 dX11_leadsOf_98 rfl hM.1 hy_tw_lead (by omega) (Nat.le_of_ble_eq_true rfl) rfl (Nat.le_of_ble_eq_true rfl) (fun x21 k22 => ?_)
              have hM23 : TM x21 h := hM.tw k22
              refine x_goto (μ := mu_tw_leadsOf) (pc := 101) (tgt := 149) dX11_leadsOf_101 rfl ?_
              refine x_loc (lv' := [(0, vR h), (1, vI v1), (2, vI v2), (3, vI v3), (4, vI v4)]) [2, 3, 4, 5, 6] rfl ?_
              exact okj_tw_leadsOf_l16_j149 hdp hM23 hv1 hv2 hv3 hv4 ih hK
      · refine x_goto (μ := mu_tw_leadsOf) (pc := 47) (tgt := 149) dX11_leadsOf_47 rfl ?_
        refine x_loc (lv' := [(0, vR h), (1, vI v1), (2, vI v2), (3, vI v3), (4, vI v4)]) [1, 2, 3, 4, 5] rfl ?_
        exact okj_tw_leadsOf_l16_j149 hdp hM hv1 hv2 hv3 hv4 ih hK
def tw_leadsOf (N : Nat) (h : Nat) (v1 : Int) (v2 : Int) (σ : gMem) : Option gMem := if 0 ≤ ((320 * v1) + v2) ∧ ((320 * v1) + v2) < ((39040 : Nat) : Int) then tw_leadsOf_l16 N h v1 v2 (mI σ (h + 5) ((320 * v1) + v2).toNat) (fun s24 => some s24) N 0 σ else none
set_option maxRecDepth 100000 in
theorem ok_tw_leadsOf {ω : gW} {l : Launch} {d : Nat} {N : Nat} {h : Nat} {σ : gMem} {v1 : Int} {v2 : Int} (hdp : 3 ≤ d) (hM : TM σ h) (hv1 : g32 v1) (hv2 : g32 v2) : gK (fun p : gMem => (.inl none, p)) gTw ω l d mu_tw_leadsOf [vR h, vI v1, vI v2] σ (tw_leadsOf N h v1 v2 σ) := by
  refine gK.of hp_X11 (Nat.le_of_ble_eq_true rfl) ?_
  unfold tw_leadsOf
  refine x_aload_n (μ := mu_tw_leadsOf) (pc := 0) 0 dX11_leadsOf_0 rfl ?_
  refine x_fgrE (μ := mu_tw_leadsOf) (pc := 1) fX11_5 (Or.inr ⟨_, rfl⟩) q2641 (hM.a5).1 dX11_leadsOf_1 hM.1 ?_
  refine x_sipush (μ := mu_tw_leadsOf) (pc := 4) dX11_leadsOf_4 (by decide) ?_
  refine x_iload_n (μ := mu_tw_leadsOf) (pc := 7) 1 dX11_leadsOf_7 rfl ?_
  refine x_imul (μ := mu_tw_leadsOf) (pc := 8) dX11_leadsOf_8 ?_
  refine x_iload_n (μ := mu_tw_leadsOf) (pc := 9) 2 dX11_leadsOf_9 rfl ?_
  refine x_iadd (μ := mu_tw_leadsOf) (pc := 10) dX11_leadsOf_10 ?_
  refine x_iald (μ := mu_tw_leadsOf) (pc := 11) dX11_leadsOf_11 (hM.a5).2.1 (hM.a5).2.2 (fun hr1 => ?_)
  refine x_istore_n (μ := mu_tw_leadsOf) (pc := 12) (lv' := [(3, vI (mI σ (h + 5) ((320 * v1) + v2).toNat)), (0, vR h), (1, vI v1), (2, vI v2)]) dX11_leadsOf_12 rfl (by decide) rfl ?_
  refine x_iconst (μ := mu_tw_leadsOf) (pc := 13) dX11_leadsOf_13 ?_
  refine x_istore (μ := mu_tw_leadsOf) (pc := 14) (lv' := [(4, vI 0), (3, vI (mI σ (h + 5) ((320 * v1) + v2).toNat)), (0, vR h), (1, vI v1), (2, vI v2)]) dX11_leadsOf_14 (by decide) rfl ?_
  refine x_loc (lv' := [(0, vR h), (1, vI v1), (2, vI v2), (3, vI (mI σ (h + 5) ((320 * v1) + v2).toNat)), (4, vI 0)]) [2, 3, 4, 1, 0] rfl ?_
  refine okl_tw_leadsOf_l16 hdp hv1 hv2 hr1 (fun s24 hM25 => ?_) N 0 σ (by decide) hM
  exact x_vret (μ := mu_tw_leadsOf) (pc := 155) (a1 := s24) dX11_leadsOf_155 rfl rfl (gRel_Tw.1 _) trivial
def tw_workTwo (N : Nat) (W : Int → Int → Int → gMem → Option gMem) (h : Nat) (v1 : Int) (v2 : Int) (v3 : Int) (σ : gMem) : Option gMem := (tw_under N h v1 0 σ).bind (fun x1 => (W x1 v2 v3 σ).bind (fun x3 => if 0 ≤ v3 ∧ v3 < ((200 : Nat) : Int) then if mI x3 (h + 33) v3.toNat ≠ 4 then (tw_under N h v1 1 x3).bind (fun x7 => (W x7 v2 (w32 (v3 + 1)) x3).bind (fun x9 => if 0 ≤ v1 ∧ v1 < ((60420 : Nat) : Int) then if 0 ≤ (v3 + 1) ∧ (v3 + 1) < ((200 : Nat) : Int) then if mI x9 (h + 33) (v3 + 1).toNat ≠ 4 then if 16 ≤ mI x9 (h + 14) v1.toNat then if mI x9 (h + 14) v1.toNat ≠ 16 then (tw_wantsNumber h v3 x9).bind (fun x14 => if x14.1 = 0 then some (x14.2) else (tw_wantsNumber h (w32 (v3 + 1)) (x14.2)).bind (fun x18 => if x18.1 = 0 then (tw_error h v3 3 (x18.2)).bind (fun x22 => some x22) else (tw_reckon h v3 (mI x9 (h + 14) v1.toNat) (x18.2)).bind (fun x25 => some x25))) else (tw_join N h v3 x9).bind (fun x28 => some x28) else (tw_compare N h v3 (w32 ((mI x9 (h + 14) v1.toNat) - 10)) x9).bind (fun x31 => some x31) else (tw_bring N h (w32 (v3 + 1)) v3 x9).bind (fun x34 => some x34) else none else none)) else some x3 else none))
set_option maxRecDepth 100000 in
theorem ok_tw_workTwo {ω : gW} {l : Launch} {d : Nat} {N : Nat} {W : Int → Int → Int → gMem → Option gMem} {dW : Nat} {h : Nat} {σ : gMem} {v1 : Int} {v2 : Int} {v3 : Int} (hW : ∀ (a1 : Int) (a2 : Int) (a3 : Int) (s : gMem), TM s h → g32 a1 → g32 a2 → g32 a3 → gK (fun p : gMem => (.inl none, p)) gTw ω l dW mu_tw_work [vR h, vI a1, vI a2, vI a3] s (W a1 a2 a3 s)) (hdp : 8 ≤ d) (hdw : dW + 1 ≤ d) (hM : TM σ h) (hv1 : g32 v1) (hv2 : g32 v2) (hv3 : g32 v3) : gK (fun p : gMem => (.inl none, p)) gTw ω l d mu_tw_workTwo [vR h, vI v1, vI v2, vI v3] σ (tw_workTwo N W h v1 v2 v3 σ) := by
  refine gK.of hp_X11 (Nat.le_of_ble_eq_true rfl) ?_
  unfold tw_workTwo
  refine x_aload_n (μ := mu_tw_workTwo) (pc := 0) 0 dX11_workTwo_0 rfl ?_
  refine x_aload_n (μ := mu_tw_workTwo) (pc := 1) 0 dX11_workTwo_1 rfl ?_
  refine x_iload_n (μ := mu_tw_workTwo) (pc := 2) 1 dX11_workTwo_2 rfl ?_
  refine x_iconst (μ := mu_tw_workTwo) (pc := 3) dX11_workTwo_3 ?_
  refine x_callV_pi (μ := mu_tw_workTwo) (pc := 4) (ok_tw_under (ω := ω) (l := l) (d := d - 1) (by omega) hM hv1 (by decide)) gRel_Tw gRel_Tw (fun _ q => q) q3338 q3340 qs149 q232 q3341 dX11_workTwo_4 rfl hM.1 hy_tw_under (by omega) (Nat.le_of_ble_eq_true rfl) rfl (Nat.le_of_ble_eq_true rfl) (fun x1 hr2 => ?_)
  refine x_iload_n (μ := mu_tw_workTwo) (pc := 7) 2 dX11_workTwo_7 rfl ?_
  refine x_iload_n (μ := mu_tw_workTwo) (pc := 8) 3 dX11_workTwo_8 rfl ?_
  refine x_callV_mv (μ := mu_tw_workTwo) (pc := 9) (hW x1 v2 v3 σ hM hr2 hv2 hv3) gRel_Tw gRel_Tw (fun _ q => q) q3311 q3313 qs143 q232 q3314 dX11_workTwo_9 rfl hM.1 hy_tw_work (by omega) (Nat.le_of_ble_eq_true rfl) rfl (Nat.le_of_ble_eq_true rfl) (fun x3 k4 => ?_)
  have hM5 : TM x3 h := hM.tw k4
  refine x_aload_n (μ := mu_tw_workTwo) (pc := 12) 0 dX11_workTwo_12 rfl ?_
  refine x_fgrE (μ := mu_tw_workTwo) (pc := 13) fX11_66 (Or.inr ⟨_, rfl⟩) q2702 (hM5.a66).1 dX11_workTwo_13 hM5.1 ?_
  refine x_iload_n (μ := mu_tw_workTwo) (pc := 16) 3 dX11_workTwo_16 rfl ?_
  refine x_iald (μ := mu_tw_workTwo) (pc := 17) dX11_workTwo_17 (hM5.a66).2.1 (hM5.a66).2.2 (fun hr6 => ?_)
  refine x_iconst (μ := mu_tw_workTwo) (pc := 18) dX11_workTwo_18 ?_
  refine x_icmp_ne (μ := mu_tw_workTwo) (pc := 19) (tgt := 23) dX11_workTwo_19 rfl hr6 (by decide) ?_ ?_
  · refine x_aload_n (μ := mu_tw_workTwo) (pc := 23) 0 dX11_workTwo_23 rfl ?_
    refine x_aload_n (μ := mu_tw_workTwo) (pc := 24) 0 dX11_workTwo_24 rfl ?_
    refine x_iload_n (μ := mu_tw_workTwo) (pc := 25) 1 dX11_workTwo_25 rfl ?_
    refine x_iconst (μ := mu_tw_workTwo) (pc := 26) dX11_workTwo_26 ?_
    refine x_callV_pi (μ := mu_tw_workTwo) (pc := 27) (ok_tw_under (ω := ω) (l := l) (d := d - 1) (by omega) hM5 hv1 (by decide)) gRel_Tw gRel_Tw (fun _ q => q) q3338 q3340 qs149 q232 q3341 dX11_workTwo_27 rfl hM5.1 hy_tw_under (by omega) (Nat.le_of_ble_eq_true rfl) rfl (Nat.le_of_ble_eq_true rfl) (fun x7 hr8 => ?_)
    refine x_iload_n (μ := mu_tw_workTwo) (pc := 30) 2 dX11_workTwo_30 rfl ?_
    refine x_iload_n (μ := mu_tw_workTwo) (pc := 31) 3 dX11_workTwo_31 rfl ?_
    refine x_iconst (μ := mu_tw_workTwo) (pc := 32) dX11_workTwo_32 ?_
    refine x_iadd (μ := mu_tw_workTwo) (pc := 33) dX11_workTwo_33 ?_
    refine x_w1 ?_
    refine x_callV_mv (μ := mu_tw_workTwo) (pc := 34) (hW x7 v2 (w32 (v3 + 1)) x3 hM5 hr8 hv2 (w32_rng _)) gRel_Tw gRel_Tw (fun _ q => q) q3311 q3313 qs143 q232 q3314 dX11_workTwo_34 rfl hM5.1 hy_tw_work (by omega) (Nat.le_of_ble_eq_true rfl) rfl (Nat.le_of_ble_eq_true rfl) (fun x9 k10 => ?_)
    have hM11 : TM x9 h := hM5.tw k10
    refine x_aload_n (μ := mu_tw_workTwo) (pc := 37) 0 dX11_workTwo_37 rfl ?_
    refine x_fgrE (μ := mu_tw_workTwo) (pc := 38) fX11_26 (Or.inr ⟨_, rfl⟩) q2662 (hM11.a26).1 dX11_workTwo_38 hM11.1 ?_
    refine x_iload_n (μ := mu_tw_workTwo) (pc := 41) 1 dX11_workTwo_41 rfl ?_
    refine x_iald (μ := mu_tw_workTwo) (pc := 42) dX11_workTwo_42 (hM11.a26).2.1 (hM11.a26).2.2 (fun hr12 => ?_)
    refine x_istore (μ := mu_tw_workTwo) (pc := 43) (lv' := [(4, vI (mI x9 (h + 14) v1.toNat)), (0, vR h), (1, vI v1), (2, vI v2), (3, vI v3)]) dX11_workTwo_43 (by decide) rfl ?_
    refine x_aload_n (μ := mu_tw_workTwo) (pc := 45) 1 dX11_workTwo_45 rfl ?_
    refine x_fgrE (μ := mu_tw_workTwo) (pc := 46) fX11_66 (Or.inr ⟨_, rfl⟩) q2702 (hM11.a66).1 dX11_workTwo_46 hM11.1 ?_
    refine x_iload_n (μ := mu_tw_workTwo) (pc := 49) 4 dX11_workTwo_49 rfl ?_
    refine x_iconst (μ := mu_tw_workTwo) (pc := 50) dX11_workTwo_50 ?_
    refine x_iadd (μ := mu_tw_workTwo) (pc := 51) dX11_workTwo_51 ?_
    refine x_iald (μ := mu_tw_workTwo) (pc := 52) dX11_workTwo_52 (hM11.a66).2.1 (hM11.a66).2.2 (fun hr13 => ?_)
    refine x_iconst (μ := mu_tw_workTwo) (pc := 53) dX11_workTwo_53 ?_
    refine x_icmp_ne (μ := mu_tw_workTwo) (pc := 54) (tgt := 68) dX11_workTwo_54 rfl hr13 (by decide) ?_ ?_
    · refine x_iload (μ := mu_tw_workTwo) (pc := 68) 0 dX11_workTwo_68 rfl ?_
      refine x_bipush (μ := mu_tw_workTwo) (pc := 70) dX11_workTwo_70 (by decide) ?_
      refine x_icmp_ge (μ := mu_tw_workTwo) (pc := 72) (tgt := 88) dX11_workTwo_72 rfl hr12 (by decide) ?_ ?_
      · refine x_iload (μ := mu_tw_workTwo) (pc := 88) 0 dX11_workTwo_88 rfl ?_
        refine x_bipush (μ := mu_tw_workTwo) (pc := 90) dX11_workTwo_90 (by decide) ?_
        refine x_icmp_ne (μ := mu_tw_workTwo) (pc := 92) (tgt := 103) dX11_workTwo_92 rfl hr12 (by decide) ?_ ?_
        · refine x_aload_n (μ := mu_tw_workTwo) (pc := 103) 1 dX11_workTwo_103 rfl ?_
          refine x_iload_n (μ := mu_tw_workTwo) (pc := 104) 4 dX11_workTwo_104 rfl ?_
          refine x_callV_mi (μ := mu_tw_workTwo) (pc := 105) (ok_tw_wantsNumber (ω := ω) (l := l) (d := d - 1) (by omega) hM11 hv3) gRel_Tw gRel_Tw (fun _ q => q) q3330 q3332 qs147 q232 q3333 dX11_workTwo_105 rfl hM11.1 hy_tw_wantsNumber (by omega) (Nat.le_of_ble_eq_true rfl) rfl (Nat.le_of_ble_eq_true rfl) (fun x14 k16 hr15 => ?_)
          have hM17 : TM (x14.2) h := hM11.tw k16
          refine x_if_eq (μ := mu_tw_workTwo) (pc := 108) (tgt := 137) dX11_workTwo_108 rfl hr15 ?_ ?_
          · exact x_vret (μ := mu_tw_workTwo) (pc := 137) (a1 := x14.2) dX11_workTwo_137 rfl rfl (gRel_Tw.1 _) trivial
          · refine x_aload_n (μ := mu_tw_workTwo) (pc := 111) 1 dX11_workTwo_111 rfl ?_
            refine x_iload_n (μ := mu_tw_workTwo) (pc := 112) 4 dX11_workTwo_112 rfl ?_
            refine x_iconst (μ := mu_tw_workTwo) (pc := 113) dX11_workTwo_113 ?_
            refine x_iadd (μ := mu_tw_workTwo) (pc := 114) dX11_workTwo_114 ?_
            refine x_w1 ?_
            refine x_callV_mi (μ := mu_tw_workTwo) (pc := 115) (ok_tw_wantsNumber (ω := ω) (l := l) (d := d - 1) (by omega) hM17 (w32_rng _)) gRel_Tw gRel_Tw (fun _ q => q) q3330 q3332 qs147 q232 q3333 dX11_workTwo_115 rfl hM17.1 hy_tw_wantsNumber (by omega) (Nat.le_of_ble_eq_true rfl) rfl (Nat.le_of_ble_eq_true rfl) (fun x18 k20 hr19 => ?_)
            have hM21 : TM (x18.2) h := hM17.tw k20
            refine x_if_eq (μ := mu_tw_workTwo) (pc := 118) (tgt := 131) dX11_workTwo_118 rfl hr19 ?_ ?_
            · refine x_aload_n (μ := mu_tw_workTwo) (pc := 131) 1 dX11_workTwo_131 rfl ?_
              refine x_iload_n (μ := mu_tw_workTwo) (pc := 132) 4 dX11_workTwo_132 rfl ?_
              refine x_iconst (μ := mu_tw_workTwo) (pc := 133) dX11_workTwo_133 ?_
              refine x_callV_mv (μ := mu_tw_workTwo) (pc := 134) (ok_tw_error (ω := ω) (l := l) (d := d - 1) (by omega) hM21 hv3 (by decide)) gRel_Tw gRel_Tw (fun _ q => q) q3294 q3296 qs139 q232 q3297 dX11_workTwo_134 rfl hM21.1 hy_tw_error (by omega) (Nat.le_of_ble_eq_true rfl) rfl (Nat.le_of_ble_eq_true rfl) (fun x22 k23 => ?_)
              have hM24 : TM x22 h := hM21.tw k23
              exact x_vret (μ := mu_tw_workTwo) (pc := 137) (a1 := x22) dX11_workTwo_137 rfl rfl (gRel_Tw.1 _) trivial
            · refine x_aload_n (μ := mu_tw_workTwo) (pc := 121) 1 dX11_workTwo_121 rfl ?_
              refine x_iload_n (μ := mu_tw_workTwo) (pc := 122) 4 dX11_workTwo_122 rfl ?_
              refine x_iload (μ := mu_tw_workTwo) (pc := 123) 0 dX11_workTwo_123 rfl ?_
              refine x_callV_mv (μ := mu_tw_workTwo) (pc := 125) (ok_tw_reckon (ω := ω) (l := l) (d := d - 1) (by omega) hM21 hv3 hr12) gRel_Tw gRel_Tw (fun _ q => q) q3378 q3380 qs158 q232 q3381 dX11_workTwo_125 rfl hM21.1 hy_tw_reckon (by omega) (Nat.le_of_ble_eq_true rfl) rfl (Nat.le_of_ble_eq_true rfl) (fun x25 k26 => ?_)
              have hM27 : TM x25 h := hM21.tw k26
              refine x_goto (μ := mu_tw_workTwo) (pc := 128) (tgt := 137) dX11_workTwo_128 rfl ?_
              exact x_vret (μ := mu_tw_workTwo) (pc := 137) (a1 := x25) dX11_workTwo_137 rfl rfl (gRel_Tw.1 _) trivial
        · refine x_aload_n (μ := mu_tw_workTwo) (pc := 95) 1 dX11_workTwo_95 rfl ?_
          refine x_iload_n (μ := mu_tw_workTwo) (pc := 96) 4 dX11_workTwo_96 rfl ?_
          refine x_callV_mv (μ := mu_tw_workTwo) (pc := 97) (ok_tw_join (ω := ω) (l := l) (d := d - 1) (by omega) hM11 hv3) gRel_Tw gRel_Tw (fun _ q => q) q3366 q3368 qs155 q232 q3369 dX11_workTwo_97 rfl hM11.1 hy_tw_join (by omega) (Nat.le_of_ble_eq_true rfl) rfl (Nat.le_of_ble_eq_true rfl) (fun x28 k29 => ?_)
          have hM30 : TM x28 h := hM11.tw k29
          refine x_goto (μ := mu_tw_workTwo) (pc := 100) (tgt := 137) dX11_workTwo_100 rfl ?_
          exact x_vret (μ := mu_tw_workTwo) (pc := 137) (a1 := x28) dX11_workTwo_137 rfl rfl (gRel_Tw.1 _) trivial
      · refine x_aload_n (μ := mu_tw_workTwo) (pc := 75) 1 dX11_workTwo_75 rfl ?_
        refine x_iload_n (μ := mu_tw_workTwo) (pc := 76) 4 dX11_workTwo_76 rfl ?_
        refine x_iload (μ := mu_tw_workTwo) (pc := 77) 0 dX11_workTwo_77 rfl ?_
        refine x_bipush (μ := mu_tw_workTwo) (pc := 79) dX11_workTwo_79 (by decide) ?_
        refine x_isub (μ := mu_tw_workTwo) (pc := 81) dX11_workTwo_81 ?_
        refine x_w1 ?_
        refine x_callV_mv (μ := mu_tw_workTwo) (pc := 82) (ok_tw_compare (ω := ω) (l := l) (d := d - 1) (by omega) hM11 hv3 (w32_rng _)) gRel_Tw gRel_Tw (fun _ q => q) q3346 q3348 qs151 q232 q3349 dX11_workTwo_82 rfl hM11.1 hy_tw_compare (by omega) (Nat.le_of_ble_eq_true rfl) rfl (Nat.le_of_ble_eq_true rfl) (fun x31 k32 => ?_)
        have hM33 : TM x31 h := hM11.tw k32
        refine x_goto (μ := mu_tw_workTwo) (pc := 85) (tgt := 137) dX11_workTwo_85 rfl ?_
        exact x_vret (μ := mu_tw_workTwo) (pc := 137) (a1 := x31) dX11_workTwo_137 rfl rfl (gRel_Tw.1 _) trivial
    · refine x_aload_n (μ := mu_tw_workTwo) (pc := 57) 1 dX11_workTwo_57 rfl ?_
      refine x_iload_n (μ := mu_tw_workTwo) (pc := 58) 4 dX11_workTwo_58 rfl ?_
      refine x_iconst (μ := mu_tw_workTwo) (pc := 59) dX11_workTwo_59 ?_
      refine x_iadd (μ := mu_tw_workTwo) (pc := 60) dX11_workTwo_60 ?_
      refine x_iload_n (μ := mu_tw_workTwo) (pc := 61) 4 dX11_workTwo_61 rfl ?_
      refine x_w2 ?_
      refine x_callV_mv (μ := mu_tw_workTwo) (pc := 62) (ok_tw_bring (ω := ω) (l := l) (d := d - 1) (by omega) hM11 (w32_rng _) hv3) gRel_Tw gRel_Tw (fun _ q => q) q3342 q3344 qs150 q232 q3345 dX11_workTwo_62 rfl hM11.1 hy_tw_bring (by omega) (Nat.le_of_ble_eq_true rfl) rfl (Nat.le_of_ble_eq_true rfl) (fun x34 k35 => ?_)
      have hM36 : TM x34 h := hM11.tw k35
      refine x_goto (μ := mu_tw_workTwo) (pc := 65) (tgt := 137) dX11_workTwo_65 rfl ?_
      exact x_vret (μ := mu_tw_workTwo) (pc := 137) (a1 := x34) dX11_workTwo_137 rfl rfl (gRel_Tw.1 _) trivial
  · exact x_vret (μ := mu_tw_workTwo) (pc := 22) (a1 := x3) dX11_workTwo_22 rfl rfl (gRel_Tw.1 _) trivial
def tw_countOne_j109 (N : Nat) (h : Nat) (v1 : Int) (v3 : Int) (t0 : Int) (s : gMem) : Option (Int × gMem) := if t0 = 0 then if t0 = 0 ∨ t0 = 1 then some (t0, s) else none else (tw_count h v1 v3 s).bind (fun x7 => if t0 = 0 ∨ t0 = 1 then some (t0, x7) else none)
set_option maxRecDepth 100000 in
theorem okj_tw_countOne_j109 {ω : gW} {l : Launch} {d : Nat} {N : Nat} {h : Nat} {σ0 : gMem} {s : gMem} {v1 : Int} {v3 : Int} {t0 : Int} (hdp : 4 ≤ d) (hM : TM s h) (hv1 : g32 v1) (hv3 : g32 v3) (ht0 : g32 t0) : GG (fun p : Int × gMem => (.inl (some (vI p.1)), p.2)) gTw ω l d mu_tw_countOne σ0 109 [(0, vR h), (1, vI v1), (3, vI v3)] [vI t0] s (tw_countOne_j109 N h v1 v3 t0 s) := by
  unfold tw_countOne_j109
  refine x_istore (μ := mu_tw_countOne) (pc := 109) (lv' := [(4, vI t0), (0, vR h), (1, vI v1), (3, vI v3)]) dX11_countOne_109 (by decide) rfl ?_
  refine x_iload (μ := mu_tw_countOne) (pc := 111) 0 dX11_countOne_111 rfl ?_
  refine x_if_eq (μ := mu_tw_countOne) (pc := 113) (tgt := 122) dX11_countOne_113 rfl ht0 ?_ ?_
  · refine x_iload (μ := mu_tw_countOne) (pc := 122) 0 dX11_countOne_122 rfl ?_
    exact x_if (μ := mu_tw_countOne) (pc := 124) (fun hz => x_zret dX11_countOne_124 rfl hz rfl (gRel_Tw.1 _) (show g32 t0 from ht0))
  · refine x_aload_n (μ := mu_tw_countOne) (pc := 116) 1 dX11_countOne_116 rfl ?_
    refine x_iload_n (μ := mu_tw_countOne) (pc := 117) 2 dX11_countOne_117 rfl ?_
    refine x_iload_n (μ := mu_tw_countOne) (pc := 118) 3 dX11_countOne_118 rfl ?_
    refine x_callV_mv (μ := mu_tw_countOne) (pc := 119) (ok_tw_count (ω := ω) (l := l) (d := d - 1) (by omega) hM hv1 hv3) gRel_Tw gRel_Tw (fun _ q => q) q3410 q3412 qs166 q232 q3413 dX11_countOne_119 rfl hM.1 hy_tw_count (by omega) (Nat.le_of_ble_eq_true rfl) rfl (Nat.le_of_ble_eq_true rfl) (fun x7 k8 => ?_)
    have hM9 : TM x7 h := hM.tw k8
    refine x_iload (μ := mu_tw_countOne) (pc := 122) 0 dX11_countOne_122 rfl ?_
    exact x_if (μ := mu_tw_countOne) (pc := 124) (fun hz => x_zret dX11_countOne_124 rfl hz rfl (gRel_Tw.1 _) (show g32 t0 from ht0))
def tw_countOne_j78 (N : Nat) (h : Nat) (v4 : Int) (s : gMem) : Option (Int × gMem) := if v4 ≠ 0 then some (0, s) else some (1, s)
set_option maxRecDepth 100000 in
theorem okj_tw_countOne_j78 {ω : gW} {l : Launch} {d : Nat} {N : Nat} {h : Nat} {σ0 : gMem} {s : gMem} {v4 : Int} (hdp : 4 ≤ d) (hM : TM s h) (hv4 : g32 v4) : GG (fun p : Int × gMem => (.inl (some (vI p.1)), p.2)) gTw ω l d mu_tw_countOne σ0 78 [(4, vI v4)] [] s (tw_countOne_j78 N h v4 s) := by
  unfold tw_countOne_j78
  refine x_iload (μ := mu_tw_countOne) (pc := 78) 0 dX11_countOne_78 rfl ?_
  refine x_if_ne (μ := mu_tw_countOne) (pc := 80) (tgt := 87) dX11_countOne_80 rfl hv4 ?_ ?_
  · refine x_iconst (μ := mu_tw_countOne) (pc := 87) dX11_countOne_87 ?_
    exact x_zret (μ := mu_tw_countOne) (pc := 88) dX11_countOne_88 rfl (by decide) rfl (gRel_Tw.1 _) (show g32 0 from (by decide))
  · refine x_iconst (μ := mu_tw_countOne) (pc := 83) dX11_countOne_83 ?_
    refine x_goto (μ := mu_tw_countOne) (pc := 84) (tgt := 88) dX11_countOne_84 rfl ?_
    exact x_zret (μ := mu_tw_countOne) (pc := 88) dX11_countOne_88 rfl (by decide) rfl (gRel_Tw.1 _) (show g32 1 from (by decide))
def tw_countOne_j60 (N : Nat) (h : Nat) (v1 : Int) (v3 : Int) (t0 : Int) (s : gMem) : Option (Int × gMem) := if 0 ≤ v3 ∧ v3 < ((200 : Nat) : Int) then if mI s (h + 33) v3.toNat ≠ 1 then tw_countOne_j78 N h t0  s else (tw_count h v1 v3 s).bind (fun x16 => tw_countOne_j78 N h t0  x16) else none
set_option maxRecDepth 100000 in
theorem okj_tw_countOne_j60 {ω : gW} {l : Launch} {d : Nat} {N : Nat} {h : Nat} {σ0 : gMem} {s : gMem} {v1 : Int} {v3 : Int} {t0 : Int} (hdp : 4 ≤ d) (hM : TM s h) (hv1 : g32 v1) (hv3 : g32 v3) (ht0 : g32 t0) : GG (fun p : Int × gMem => (.inl (some (vI p.1)), p.2)) gTw ω l d mu_tw_countOne σ0 60 [(0, vR h), (1, vI v1), (3, vI v3)] [vI t0] s (tw_countOne_j60 N h v1 v3 t0 s) := by
  unfold tw_countOne_j60
  refine x_istore (μ := mu_tw_countOne) (pc := 60) (lv' := [(4, vI t0), (0, vR h), (1, vI v1), (3, vI v3)]) dX11_countOne_60 (by decide) rfl ?_
  refine x_aload_n (μ := mu_tw_countOne) (pc := 62) 1 dX11_countOne_62 rfl ?_
  refine x_fgrE (μ := mu_tw_countOne) (pc := 63) fX11_66 (Or.inr ⟨_, rfl⟩) q2702 (hM.a66).1 dX11_countOne_63 hM.1 ?_
  refine x_iload_n (μ := mu_tw_countOne) (pc := 66) 3 dX11_countOne_66 rfl ?_
  refine x_iald (μ := mu_tw_countOne) (pc := 67) dX11_countOne_67 (hM.a66).2.1 (hM.a66).2.2 (fun hr15 => ?_)
  refine x_iconst (μ := mu_tw_countOne) (pc := 68) dX11_countOne_68 ?_
  refine x_icmp_ne (μ := mu_tw_countOne) (pc := 69) (tgt := 78) dX11_countOne_69 rfl hr15 (by decide) ?_ ?_
  · refine x_loc (lv' := [(4, vI t0)]) [0] rfl ?_
    exact okj_tw_countOne_j78 hdp hM ht0
  · refine x_aload_n (μ := mu_tw_countOne) (pc := 72) 1 dX11_countOne_72 rfl ?_
    refine x_iload_n (μ := mu_tw_countOne) (pc := 73) 2 dX11_countOne_73 rfl ?_
    refine x_iload_n (μ := mu_tw_countOne) (pc := 74) 3 dX11_countOne_74 rfl ?_
    refine x_callV_mv (μ := mu_tw_countOne) (pc := 75) (ok_tw_count (ω := ω) (l := l) (d := d - 1) (by omega) hM hv1 hv3) gRel_Tw gRel_Tw (fun _ q => q) q3410 q3412 qs166 q232 q3413 dX11_countOne_75 rfl hM.1 hy_tw_count (by omega) (Nat.le_of_ble_eq_true rfl) rfl (Nat.le_of_ble_eq_true rfl) (fun x16 k17 => ?_)
    have hM18 : TM x16 h := hM.tw k17
    refine x_loc (lv' := [(4, vI t0)]) [0] rfl ?_
    exact okj_tw_countOne_j78 hdp hM18 ht0
def tw_countOne_j59 (N : Nat) (h : Nat) (v1 : Int) (v3 : Int) (s : gMem) : Option (Int × gMem) := tw_countOne_j60 N h v1 v3 0 s
set_option maxRecDepth 100000 in
theorem okj_tw_countOne_j59 {ω : gW} {l : Launch} {d : Nat} {N : Nat} {h : Nat} {σ0 : gMem} {s : gMem} {v1 : Int} {v3 : Int} (hdp : 4 ≤ d) (hM : TM s h) (hv1 : g32 v1) (hv3 : g32 v3) : GG (fun p : Int × gMem => (.inl (some (vI p.1)), p.2)) gTw ω l d mu_tw_countOne σ0 59 [(0, vR h), (1, vI v1), (3, vI v3)] [] s (tw_countOne_j59 N h v1 v3 s) := by
  unfold tw_countOne_j59
  refine x_iconst (μ := mu_tw_countOne) (pc := 59) dX11_countOne_59 ?_
  exact okj_tw_countOne_j60 hdp hM hv1 hv3 (by decide)
def tw_countOne_j55 (N : Nat) (h : Nat) (v1 : Int) (v3 : Int) (s : gMem) : Option (Int × gMem) := tw_countOne_j60 N h v1 v3 1 s
set_option maxRecDepth 100000 in
theorem okj_tw_countOne_j55 {ω : gW} {l : Launch} {d : Nat} {N : Nat} {h : Nat} {σ0 : gMem} {s : gMem} {v1 : Int} {v3 : Int} (hdp : 4 ≤ d) (hM : TM s h) (hv1 : g32 v1) (hv3 : g32 v3) : GG (fun p : Int × gMem => (.inl (some (vI p.1)), p.2)) gTw ω l d mu_tw_countOne σ0 55 [(0, vR h), (1, vI v1), (3, vI v3)] [] s (tw_countOne_j55 N h v1 v3 s) := by
  unfold tw_countOne_j55
  refine x_iconst (μ := mu_tw_countOne) (pc := 55) dX11_countOne_55 ?_
  refine x_goto (μ := mu_tw_countOne) (pc := 56) (tgt := 60) dX11_countOne_56 rfl ?_
  exact okj_tw_countOne_j60 hdp hM hv1 hv3 (by decide)
def tw_countOne (N : Nat) (h : Nat) (v1 : Int) (v2 : Int) (v3 : Int) (σ : gMem) : Option (Int × gMem) := if v1 ≠ 36 then (tw_wantsTruths v1 σ).bind (fun x1 => if x1 = 0 then (tw_wantsNumber h v3 σ).bind (fun x3 => tw_countOne_j109 N h v1 v3 (x3.1) (x3.2)) else (tw_wantsTruth h v3 σ).bind (fun x10 => tw_countOne_j109 N h v1 v3 (x10.1) (x10.2))) else if 0 ≤ v3 ∧ v3 < ((200 : Nat) : Int) then if mI σ (h + 33) v3.toNat ≠ 4 then tw_countOne_j59 N h v1 v3  σ else if 0 ≤ v3 ∧ v3 < ((200 : Nat) : Int) then if gcmp (mL σ (h + 34) v3.toNat) (((1 : Fin 2) : Nat) : Int) ≠ 0 then tw_countOne_j59 N h v1 v3  σ else if 0 ≤ v2 ∧ v2 < ((60420 : Nat) : Int) then if mI σ (h + 14) v2.toNat = 4 then tw_countOne_j55 N h v1 v3  σ else if 0 ≤ v2 ∧ v2 < ((60420 : Nat) : Int) then if mI σ (h + 14) v2.toNat ≠ 5 then tw_countOne_j59 N h v1 v3  σ else (tw_isGone N h v2 σ).bind (fun x22 => if x22 = 0 then tw_countOne_j59 N h v1 v3  σ else tw_countOne_j55 N h v1 v3  σ) else none else none else none else none
set_option maxRecDepth 100000 in
theorem ok_tw_countOne {ω : gW} {l : Launch} {d : Nat} {N : Nat} {h : Nat} {σ : gMem} {v1 : Int} {v2 : Int} {v3 : Int} (hdp : 4 ≤ d) (hM : TM σ h) (hv1 : g32 v1) (hv2 : g32 v2) (hv3 : g32 v3) : gK (fun p : Int × gMem => (.inl (some (vI p.1)), p.2)) gTw ω l d mu_tw_countOne [vR h, vI v1, vI v2, vI v3] σ (tw_countOne N h v1 v2 v3 σ) := by
  refine gK.of hp_X11 (Nat.le_of_ble_eq_true rfl) ?_
  unfold tw_countOne
  refine x_iload_n (μ := mu_tw_countOne) (pc := 0) 1 dX11_countOne_0 rfl ?_
  refine x_bipush (μ := mu_tw_countOne) (pc := 1) dX11_countOne_1 (by decide) ?_
  refine x_icmp_ne (μ := mu_tw_countOne) (pc := 3) (tgt := 89) dX11_countOne_3 rfl hv1 (by decide) ?_ ?_
  · refine x_iload_n (μ := mu_tw_countOne) (pc := 89) 1 dX11_countOne_89 rfl ?_
    refine x_callS_pi (μ := mu_tw_countOne) (pc := 90) (ok_tw_wantsTruths (ω := ω) (l := l) (d := d - 1) (by omega) hv1) gRel_Tw gRel_Tw (fun _ q => q) q3414 q3415 q232 q3416 dX11_countOne_90 hy_tw_wantsTruths (by omega) (Nat.le_of_ble_eq_true rfl) rfl (Nat.le_of_ble_eq_true rfl) (fun x1 hr2 => ?_)
    refine x_if_eq (μ := mu_tw_countOne) (pc := 93) (tgt := 104) dX11_countOne_93 rfl hr2 ?_ ?_
    · refine x_aload_n (μ := mu_tw_countOne) (pc := 104) 0 dX11_countOne_104 rfl ?_
      refine x_iload_n (μ := mu_tw_countOne) (pc := 105) 3 dX11_countOne_105 rfl ?_
      refine x_callV_mi (μ := mu_tw_countOne) (pc := 106) (ok_tw_wantsNumber (ω := ω) (l := l) (d := d - 1) (by omega) hM hv3) gRel_Tw gRel_Tw (fun _ q => q) q3330 q3332 qs147 q232 q3333 dX11_countOne_106 rfl hM.1 hy_tw_wantsNumber (by omega) (Nat.le_of_ble_eq_true rfl) rfl (Nat.le_of_ble_eq_true rfl) (fun x3 k5 hr4 => ?_)
      have hM6 : TM (x3.2) h := hM.tw k5
      refine x_loc (lv' := [(0, vR h), (1, vI v1), (3, vI v3)]) [0, 1, 3] rfl ?_
      exact okj_tw_countOne_j109 hdp hM6 hv1 hv3 hr4
    · refine x_aload_n (μ := mu_tw_countOne) (pc := 96) 0 dX11_countOne_96 rfl ?_
      refine x_iload_n (μ := mu_tw_countOne) (pc := 97) 3 dX11_countOne_97 rfl ?_
      refine x_callV_mi (μ := mu_tw_countOne) (pc := 98) (ok_tw_wantsTruth (ω := ω) (l := l) (d := d - 1) (by omega) hM hv3) gRel_Tw gRel_Tw (fun _ q => q) q3394 q3396 qs162 q232 q3397 dX11_countOne_98 rfl hM.1 hy_tw_wantsTruth (by omega) (Nat.le_of_ble_eq_true rfl) rfl (Nat.le_of_ble_eq_true rfl) (fun x10 k12 hr11 => ?_)
      have hM13 : TM (x10.2) h := hM.tw k12
      refine x_goto (μ := mu_tw_countOne) (pc := 101) (tgt := 109) dX11_countOne_101 rfl ?_
      refine x_loc (lv' := [(0, vR h), (1, vI v1), (3, vI v3)]) [0, 1, 3] rfl ?_
      exact okj_tw_countOne_j109 hdp hM13 hv1 hv3 hr11
  · refine x_aload_n (μ := mu_tw_countOne) (pc := 6) 0 dX11_countOne_6 rfl ?_
    refine x_fgrE (μ := mu_tw_countOne) (pc := 7) fX11_66 (Or.inr ⟨_, rfl⟩) q2702 (hM.a66).1 dX11_countOne_7 hM.1 ?_
    refine x_iload_n (μ := mu_tw_countOne) (pc := 10) 3 dX11_countOne_10 rfl ?_
    refine x_iald (μ := mu_tw_countOne) (pc := 11) dX11_countOne_11 (hM.a66).2.1 (hM.a66).2.2 (fun hr14 => ?_)
    refine x_iconst (μ := mu_tw_countOne) (pc := 12) dX11_countOne_12 ?_
    refine x_icmp_ne (μ := mu_tw_countOne) (pc := 13) (tgt := 59) dX11_countOne_13 rfl hr14 (by decide) ?_ ?_
    · refine x_loc (lv' := [(0, vR h), (1, vI v1), (3, vI v3)]) [0, 1, 3] rfl ?_
      exact okj_tw_countOne_j59 hdp hM hv1 hv3
    · refine x_aload_n (μ := mu_tw_countOne) (pc := 16) 0 dX11_countOne_16 rfl ?_
      refine x_fgrE (μ := mu_tw_countOne) (pc := 17) fX11_67 (Or.inr ⟨_, rfl⟩) q2703 (hM.a67).1 dX11_countOne_17 hM.1 ?_
      refine x_iload_n (μ := mu_tw_countOne) (pc := 20) 3 dX11_countOne_20 rfl ?_
      refine x_lald (μ := mu_tw_countOne) (pc := 21) dX11_countOne_21 (hM.a67).2.1 (hM.a67).2.2 (fun hr19 => ?_)
      refine x_lconst (μ := mu_tw_countOne) (pc := 22) dX11_countOne_22 ?_
      refine x_lcmp (μ := mu_tw_countOne) (pc := 23) dX11_countOne_23 hr19 (by decide) ?_
      refine x_if_ne (μ := mu_tw_countOne) (pc := 24) (tgt := 59) dX11_countOne_24 rfl (gcmp_rng _ _) ?_ ?_
      · refine x_loc (lv' := [(0, vR h), (1, vI v1), (3, vI v3)]) [0, 1, 3] rfl ?_
        exact okj_tw_countOne_j59 hdp hM hv1 hv3
      · refine x_aload_n (μ := mu_tw_countOne) (pc := 27) 0 dX11_countOne_27 rfl ?_
        refine x_fgrE (μ := mu_tw_countOne) (pc := 28) fX11_26 (Or.inr ⟨_, rfl⟩) q2662 (hM.a26).1 dX11_countOne_28 hM.1 ?_
        refine x_iload_n (μ := mu_tw_countOne) (pc := 31) 2 dX11_countOne_31 rfl ?_
        refine x_iald (μ := mu_tw_countOne) (pc := 32) dX11_countOne_32 (hM.a26).2.1 (hM.a26).2.2 (fun hr20 => ?_)
        refine x_iconst (μ := mu_tw_countOne) (pc := 33) dX11_countOne_33 ?_
        refine x_icmp_eq (μ := mu_tw_countOne) (pc := 34) (tgt := 55) dX11_countOne_34 rfl hr20 (by decide) ?_ ?_
        · refine x_loc (lv' := [(0, vR h), (1, vI v1), (3, vI v3)]) [0, 1, 3] rfl ?_
          exact okj_tw_countOne_j55 hdp hM hv1 hv3
        · refine x_aload_n (μ := mu_tw_countOne) (pc := 37) 0 dX11_countOne_37 rfl ?_
          refine x_fgrE (μ := mu_tw_countOne) (pc := 38) fX11_26 (Or.inr ⟨_, rfl⟩) q2662 (hM.a26).1 dX11_countOne_38 hM.1 ?_
          refine x_iload_n (μ := mu_tw_countOne) (pc := 41) 2 dX11_countOne_41 rfl ?_
          refine x_iald (μ := mu_tw_countOne) (pc := 42) dX11_countOne_42 (hM.a26).2.1 (hM.a26).2.2 (fun hr21 => ?_)
          refine x_iconst (μ := mu_tw_countOne) (pc := 43) dX11_countOne_43 ?_
          refine x_icmp_ne (μ := mu_tw_countOne) (pc := 44) (tgt := 59) dX11_countOne_44 rfl hr21 (by decide) ?_ ?_
          · refine x_loc (lv' := [(0, vR h), (1, vI v1), (3, vI v3)]) [0, 1, 3] rfl ?_
            exact okj_tw_countOne_j59 hdp hM hv1 hv3
          · refine x_aload_n (μ := mu_tw_countOne) (pc := 47) 0 dX11_countOne_47 rfl ?_
            refine x_iload_n (μ := mu_tw_countOne) (pc := 48) 2 dX11_countOne_48 rfl ?_
            refine x_callV_pi (μ := mu_tw_countOne) (pc := 49) (ok_tw_isGone (ω := ω) (l := l) (d := d - 1) (by omega) hM hv2) gRel_Tw gRel_Tw (fun _ q => q) q3406 q3408 qs165 q232 q3409 dX11_countOne_49 rfl hM.1 hy_tw_isGone (by omega) (Nat.le_of_ble_eq_true rfl) rfl (Nat.le_of_ble_eq_true rfl) (fun x22 hr23 => ?_)
            refine x_if_eq (μ := mu_tw_countOne) (pc := 52) (tgt := 59) dX11_countOne_52 rfl hr23 ?_ ?_
            · refine x_loc (lv' := [(0, vR h), (1, vI v1), (3, vI v3)]) [0, 1, 3] rfl ?_
              exact okj_tw_countOne_j59 hdp hM hv1 hv3
            · refine x_loc (lv' := [(0, vR h), (1, vI v1), (3, vI v3)]) [0, 1, 3] rfl ?_
              exact okj_tw_countOne_j55 hdp hM hv1 hv3
def tw_write_j124 (N : Nat) (h : Nat) (v3 : Int) (s : gMem) : Option gMem := if 0 ≤ v3 ∧ v3 < ((4200 : Nat) : Int) then if 0 ≤ v3 ∧ v3 < ((4200 : Nat) : Int) then (tw_putLetters N h (mI s (h + 12) v3.toNat) (mI s (h + 13) v3.toNat) s).bind (fun x14 => some x14) else none else none
set_option maxRecDepth 100000 in
theorem okj_tw_write_j124 {ω : gW} {l : Launch} {d : Nat} {N : Nat} {h : Nat} {σ0 : gMem} {s : gMem} {v3 : Int} (hdp : 136 ≤ d) (hM : TM s h) (hv3 : g32 v3) : GG (fun p : gMem => (.inl none, p)) gTw ω l d mu_tw_write σ0 124 [(0, vR h), (3, vI v3)] [] s (tw_write_j124 N h v3 s) := by
  unfold tw_write_j124
  refine x_aload_n (μ := mu_tw_write) (pc := 124) 0 dX11_write_124 rfl ?_
  refine x_aload_n (μ := mu_tw_write) (pc := 125) 0 dX11_write_125 rfl ?_
  refine x_fgrE (μ := mu_tw_write) (pc := 126) fX11_22 (Or.inr ⟨_, rfl⟩) q2658 (hM.a22).1 dX11_write_126 hM.1 ?_
  refine x_iload_n (μ := mu_tw_write) (pc := 129) 1 dX11_write_129 rfl ?_
  refine x_iald (μ := mu_tw_write) (pc := 130) dX11_write_130 (hM.a22).2.1 (hM.a22).2.2 (fun hr12 => ?_)
  refine x_aload_n (μ := mu_tw_write) (pc := 131) 0 dX11_write_131 rfl ?_
  refine x_fgrE (μ := mu_tw_write) (pc := 132) fX11_23 (Or.inr ⟨_, rfl⟩) q2659 (hM.a23).1 dX11_write_132 hM.1 ?_
  refine x_iload_n (μ := mu_tw_write) (pc := 135) 1 dX11_write_135 rfl ?_
  refine x_iald (μ := mu_tw_write) (pc := 136) dX11_write_136 (hM.a23).2.1 (hM.a23).2.2 (fun hr13 => ?_)
  refine x_callV_mv (μ := mu_tw_write) (pc := 137) (ok_tw_putLetters (ω := ω) (l := l) (d := d - 1) (by omega) hM hr12 hr13) gRel_Tw gRel_Tw (fun _ q => q) q3476 q3478 qs178 q232 q3479 dX11_write_137 rfl hM.1 hy_tw_putLetters (by omega) (Nat.le_of_ble_eq_true rfl) rfl (Nat.le_of_ble_eq_true rfl) (fun x14 k15 => ?_)
  have hM16 : TM x14 h := hM.tw k15
  exact x_vret (μ := mu_tw_write) (pc := 140) (a1 := x14) dX11_write_140 rfl rfl (gRel_Tw.1 _) trivial
def tw_write (N : Nat) (h : Nat) (v1 : Int) (v2 : Int) (σ : gMem) : Option gMem := gLet (wI σ h 87 0) (fun s1 => if v2 ≠ 0 then (tw_isFormula v2 s1).bind (fun x4 => if x4 = 0 then if 0 ≤ (w32 (v2 - 100000)) ∧ (w32 (v2 - 100000)) < ((4200 : Nat) : Int) then if mI s1 (h + 10) (w32 (v2 - 100000)).toNat ≠ 1 then if 0 ≤ (w32 (v2 - 100000)) ∧ (w32 (v2 - 100000)) < ((4200 : Nat) : Int) then if mI s1 (h + 10) (w32 (v2 - 100000)).toNat ≠ 3 then if 0 ≤ (w32 (v2 - 100000)) ∧ (w32 (v2 - 100000)) < ((4200 : Nat) : Int) then if 0 ≤ (w32 (v2 - 100000)) ∧ (w32 (v2 - 100000)) < ((4200 : Nat) : Int) then (tw_needsMark N h (mI s1 (h + 12) (w32 (v2 - 100000)).toNat) (mI s1 (h + 13) (w32 (v2 - 100000)).toNat) s1).bind (fun x10 => if x10 = 0 then tw_write_j124 N h (w32 (v2 - 100000))  s1 else (tw_put h 39 s1).bind (fun x17 => tw_write_j124 N h (w32 (v2 - 100000))  x17)) else none else none else if 0 ≤ (w32 (v2 - 100000)) ∧ (w32 (v2 - 100000)) < ((4200 : Nat) : Int) then if gcmp (mL s1 (h + 11) (w32 (v2 - 100000)).toNat) (((1 : Fin 2) : Nat) : Int) ≠ 0 then (tw_say N h (mR s1 0 102) s1).bind (fun x21 => some x21) else (tw_say N h (mR s1 0 101) s1).bind (fun x24 => some x24) else none else none else if 0 ≤ (w32 (v2 - 100000)) ∧ (w32 (v2 - 100000)) < ((4200 : Nat) : Int) then (tw_putNumber N h (mL s1 (h + 11) (w32 (v2 - 100000)).toNat) s1).bind (fun x28 => some x28) else none else none else (tw_put h 61 s1).bind (fun x31 => (tw_wholeOf h v2 x31).bind (fun x34 => (tw_putPart N h 64 x34 v1 x31).bind (fun x36 => some x36)))) else some s1)
set_option maxRecDepth 100000 in
theorem ok_tw_write {ω : gW} {l : Launch} {d : Nat} {N : Nat} {h : Nat} {σ : gMem} {v1 : Int} {v2 : Int} (hdp : 136 ≤ d) (hM : TM σ h) (hv1 : g32 v1) (hv2 : g32 v2) : gK (fun p : gMem => (.inl none, p)) gTw ω l d mu_tw_write [vR h, vI v1, vI v2] σ (tw_write N h v1 v2 σ) := by
  refine gK.of hp_X11 (Nat.le_of_ble_eq_true rfl) ?_
  unfold tw_write
  refine x_aload_n (μ := mu_tw_write) (pc := 0) 0 dX11_write_0 rfl ?_
  refine x_iconst (μ := mu_tw_write) (pc := 1) dX11_write_1 ?_
  refine x_fpi (μ := mu_tw_write) (pc := 2) fX11_87 q2723 dX11_write_2 hM.1 (fun _ q => gTw_wI q) ?_
  refine x_let (fun s1 e2 => ?_)
  have hM3 := TM.eI e2 hM
  refine x_iload_n (μ := mu_tw_write) (pc := 5) 2 dX11_write_5 rfl ?_
  refine x_if_ne (μ := mu_tw_write) (pc := 6) (tgt := 10) dX11_write_6 rfl hv2 ?_ ?_
  · refine x_iload_n (μ := mu_tw_write) (pc := 10) 2 dX11_write_10 rfl ?_
    refine x_callS_pi (μ := mu_tw_write) (pc := 11) (ok_tw_isFormula (ω := ω) (l := l) (d := d - 1) (by omega) hv2) gRel_Tw gRel_Tw (fun _ q => q) q3226 q3227 q232 q3228 dX11_write_11 hy_tw_isFormula (by omega) (Nat.le_of_ble_eq_true rfl) rfl (Nat.le_of_ble_eq_true rfl) (fun x4 hr5 => ?_)
    refine x_if_eq (μ := mu_tw_write) (pc := 14) (tgt := 34) dX11_write_14 rfl hr5 ?_ ?_
    · refine x_iload_n (μ := mu_tw_write) (pc := 34) 2 dX11_write_34 rfl ?_
      refine x_ldc (μ := mu_tw_write) (pc := 35) (n := 100000) dX11_write_35 q3189 ?_
      refine x_isub (μ := mu_tw_write) (pc := 37) dX11_write_37 ?_
      refine x_w1 ?_
      refine x_istore_n (μ := mu_tw_write) (pc := 38) (lv' := [(3, vI (w32 (v2 - 100000))), (0, vR h), (1, vI v1), (2, vI v2)]) dX11_write_38 rfl (by decide) rfl ?_
      refine x_aload_n (μ := mu_tw_write) (pc := 39) 1 dX11_write_39 rfl ?_
      refine x_fgrE (μ := mu_tw_write) (pc := 40) fX11_20 (Or.inr ⟨_, rfl⟩) q2656 (hM3.a20).1 dX11_write_40 hM3.1 ?_
      refine x_iload_n (μ := mu_tw_write) (pc := 43) 0 dX11_write_43 rfl ?_
      refine x_iald (μ := mu_tw_write) (pc := 44) dX11_write_44 (hM3.a20).2.1 (hM3.a20).2.2 (fun hr6 => ?_)
      refine x_iconst (μ := mu_tw_write) (pc := 45) dX11_write_45 ?_
      refine x_icmp_ne (μ := mu_tw_write) (pc := 46) (tgt := 62) dX11_write_46 rfl hr6 (by decide) ?_ ?_
      · refine x_aload_n (μ := mu_tw_write) (pc := 62) 1 dX11_write_62 rfl ?_
        refine x_fgrE (μ := mu_tw_write) (pc := 63) fX11_20 (Or.inr ⟨_, rfl⟩) q2656 (hM3.a20).1 dX11_write_63 hM3.1 ?_
        refine x_iload_n (μ := mu_tw_write) (pc := 66) 0 dX11_write_66 rfl ?_
        refine x_iald (μ := mu_tw_write) (pc := 67) dX11_write_67 (hM3.a20).2.1 (hM3.a20).2.2 (fun hr7 => ?_)
        refine x_iconst (μ := mu_tw_write) (pc := 68) dX11_write_68 ?_
        refine x_icmp_ne (μ := mu_tw_write) (pc := 69) (tgt := 99) dX11_write_69 rfl hr7 (by decide) ?_ ?_
        · refine x_aload_n (μ := mu_tw_write) (pc := 99) 1 dX11_write_99 rfl ?_
          refine x_aload_n (μ := mu_tw_write) (pc := 100) 1 dX11_write_100 rfl ?_
          refine x_fgrE (μ := mu_tw_write) (pc := 101) fX11_22 (Or.inr ⟨_, rfl⟩) q2658 (hM3.a22).1 dX11_write_101 hM3.1 ?_
          refine x_iload_n (μ := mu_tw_write) (pc := 104) 0 dX11_write_104 rfl ?_
          refine x_iald (μ := mu_tw_write) (pc := 105) dX11_write_105 (hM3.a22).2.1 (hM3.a22).2.2 (fun hr8 => ?_)
          refine x_aload_n (μ := mu_tw_write) (pc := 106) 1 dX11_write_106 rfl ?_
          refine x_fgrE (μ := mu_tw_write) (pc := 107) fX11_23 (Or.inr ⟨_, rfl⟩) q2659 (hM3.a23).1 dX11_write_107 hM3.1 ?_
          refine x_iload_n (μ := mu_tw_write) (pc := 110) 0 dX11_write_110 rfl ?_
          refine x_iald (μ := mu_tw_write) (pc := 111) dX11_write_111 (hM3.a23).2.1 (hM3.a23).2.2 (fun hr9 => ?_)
          refine x_callV_pi (μ := mu_tw_write) (pc := 112) (ok_tw_needsMark (ω := ω) (l := l) (d := d - 1) (by omega) hM3 hr8 hr9) gRel_Tw gRel_Tw (fun _ q => q) q3511 q3513 qs183 q232 q3514 dX11_write_112 rfl hM3.1 hy_tw_needsMark (by omega) (Nat.le_of_ble_eq_true rfl) rfl (Nat.le_of_ble_eq_true rfl) (fun x10 hr11 => ?_)
          refine x_if_eq (μ := mu_tw_write) (pc := 115) (tgt := 124) dX11_write_115 rfl hr11 ?_ ?_
          · refine x_loc (lv' := [(0, vR h), (3, vI (w32 (v2 - 100000)))]) [1, 0] rfl ?_
            exact okj_tw_write_j124 hdp hM3 (w32_rng _)
          · refine x_aload_n (μ := mu_tw_write) (pc := 118) 1 dX11_write_118 rfl ?_
            refine x_bipush (μ := mu_tw_write) (pc := 119) dX11_write_119 (by decide) ?_
            refine x_callV_mv (μ := mu_tw_write) (pc := 121) (ok_tw_put (ω := ω) (l := l) (d := d - 1) (by omega) hM3 (by decide)) gRel_Tw gRel_Tw (fun _ q => q) q3461 q3463 qs175 q232 q3464 dX11_write_121 rfl hM3.1 hy_tw_put (by omega) (Nat.le_of_ble_eq_true rfl) rfl (Nat.le_of_ble_eq_true rfl) (fun x17 k18 => ?_)
            have hM19 : TM x17 h := hM3.tw k18
            refine x_loc (lv' := [(0, vR h), (3, vI (w32 (v2 - 100000)))]) [1, 0] rfl ?_
            exact okj_tw_write_j124 hdp hM19 (w32_rng _)
        · refine x_aload_n (μ := mu_tw_write) (pc := 72) 1 dX11_write_72 rfl ?_
          refine x_aload_n (μ := mu_tw_write) (pc := 73) 1 dX11_write_73 rfl ?_
          refine x_fgrE (μ := mu_tw_write) (pc := 74) fX11_21 (Or.inr ⟨_, rfl⟩) q2657 (hM3.a21).1 dX11_write_74 hM3.1 ?_
          refine x_iload_n (μ := mu_tw_write) (pc := 77) 0 dX11_write_77 rfl ?_
          refine x_lald (μ := mu_tw_write) (pc := 78) dX11_write_78 (hM3.a21).2.1 (hM3.a21).2.2 (fun hr20 => ?_)
          refine x_lconst (μ := mu_tw_write) (pc := 79) dX11_write_79 ?_
          refine x_lcmp (μ := mu_tw_write) (pc := 80) dX11_write_80 hr20 (by decide) ?_
          refine x_if_ne (μ := mu_tw_write) (pc := 81) (tgt := 90) dX11_write_81 rfl (gcmp_rng _ _) ?_ ?_
          · refine x_ldcwS (μ := mu_tw_write) (pc := 90) (j := 102) (List.mem_of_getElem? (i := 12) rfl) dX11_write_90 ?_
            refine x_callV_mv (μ := mu_tw_write) (pc := 93) (ok_tw_say (ω := ω) (l := l) (d := d - 1) (by omega) hM3 ) gRel_Tw gRel_Tw (fun _ q => q) q3480 q3482 qs179 q232 q3483 dX11_write_93 rfl hM3.1 hy_tw_say (by omega) (Nat.le_of_ble_eq_true rfl) rfl (Nat.le_of_ble_eq_true rfl) (fun x21 k22 => ?_)
            have hM23 : TM x21 h := hM3.tw k22
            refine x_goto (μ := mu_tw_write) (pc := 96) (tgt := 140) dX11_write_96 rfl ?_
            exact x_vret (μ := mu_tw_write) (pc := 140) (a1 := x21) dX11_write_140 rfl rfl (gRel_Tw.1 _) trivial
          · refine x_ldcwS (μ := mu_tw_write) (pc := 84) (j := 101) (List.mem_of_getElem? (i := 8) rfl) dX11_write_84 ?_
            refine x_goto (μ := mu_tw_write) (pc := 87) (tgt := 93) dX11_write_87 rfl ?_
            refine x_callV_mv (μ := mu_tw_write) (pc := 93) (ok_tw_say (ω := ω) (l := l) (d := d - 1) (by omega) hM3 ) gRel_Tw gRel_Tw (fun _ q => q) q3480 q3482 qs179 q232 q3483 dX11_write_93 rfl hM3.1 hy_tw_say (by omega) (Nat.le_of_ble_eq_true rfl) rfl (Nat.le_of_ble_eq_true rfl) (fun x24 k25 => ?_)
            have hM26 : TM x24 h := hM3.tw k25
            refine x_goto (μ := mu_tw_write) (pc := 96) (tgt := 140) dX11_write_96 rfl ?_
            exact x_vret (μ := mu_tw_write) (pc := 140) (a1 := x24) dX11_write_140 rfl rfl (gRel_Tw.1 _) trivial
      · refine x_aload_n (μ := mu_tw_write) (pc := 49) 1 dX11_write_49 rfl ?_
        refine x_aload_n (μ := mu_tw_write) (pc := 50) 1 dX11_write_50 rfl ?_
        refine x_fgrE (μ := mu_tw_write) (pc := 51) fX11_21 (Or.inr ⟨_, rfl⟩) q2657 (hM3.a21).1 dX11_write_51 hM3.1 ?_
        refine x_iload_n (μ := mu_tw_write) (pc := 54) 0 dX11_write_54 rfl ?_
        refine x_lald (μ := mu_tw_write) (pc := 55) dX11_write_55 (hM3.a21).2.1 (hM3.a21).2.2 (fun hr27 => ?_)
        refine x_callV_mv (μ := mu_tw_write) (pc := 56) (ok_tw_putNumber (ω := ω) (l := l) (d := d - 1) (by omega) hM3 hr27) gRel_Tw gRel_Tw (fun _ q => q) q3472 q3474 qs177 q232 q3475 dX11_write_56 rfl hM3.1 hy_tw_putNumber (by omega) (Nat.le_of_ble_eq_true rfl) rfl (Nat.le_of_ble_eq_true rfl) (fun x28 k29 => ?_)
        have hM30 : TM x28 h := hM3.tw k29
        refine x_goto (μ := mu_tw_write) (pc := 59) (tgt := 140) dX11_write_59 rfl ?_
        exact x_vret (μ := mu_tw_write) (pc := 140) (a1 := x28) dX11_write_140 rfl rfl (gRel_Tw.1 _) trivial
    · refine x_aload_n (μ := mu_tw_write) (pc := 17) 0 dX11_write_17 rfl ?_
      refine x_bipush (μ := mu_tw_write) (pc := 18) dX11_write_18 (by decide) ?_
      refine x_callV_mv (μ := mu_tw_write) (pc := 20) (ok_tw_put (ω := ω) (l := l) (d := d - 1) (by omega) hM3 (by decide)) gRel_Tw gRel_Tw (fun _ q => q) q3461 q3463 qs175 q232 q3464 dX11_write_20 rfl hM3.1 hy_tw_put (by omega) (Nat.le_of_ble_eq_true rfl) rfl (Nat.le_of_ble_eq_true rfl) (fun x31 k32 => ?_)
      have hM33 : TM x31 h := hM3.tw k32
      refine x_aload_n (μ := mu_tw_write) (pc := 23) 0 dX11_write_23 rfl ?_
      refine x_aload_n (μ := mu_tw_write) (pc := 24) 0 dX11_write_24 rfl ?_
      refine x_iload_n (μ := mu_tw_write) (pc := 25) 2 dX11_write_25 rfl ?_
      refine x_callV_pi (μ := mu_tw_write) (pc := 26) (ok_tw_wholeOf (ω := ω) (l := l) (d := d - 1) (by omega) hM33 hv2) gRel_Tw gRel_Tw (fun _ q => q) q3307 q3309 qs142 q232 q3310 dX11_write_26 rfl hM33.1 hy_tw_wholeOf (by omega) (Nat.le_of_ble_eq_true rfl) rfl (Nat.le_of_ble_eq_true rfl) (fun x34 hr35 => ?_)
      refine x_iload_n (μ := mu_tw_write) (pc := 29) 1 dX11_write_29 rfl ?_
      refine x_callV_mv (μ := mu_tw_write) (pc := 30) (ok_tw_putPart (ω := ω) (l := l) (d := d - 1) 64 x34 v1 x31 hM33 hr35 hv1 (by omega)) gRel_Tw gRel_Tw (fun _ q => q) q3465 q3467 qs176 q232 q3468 dX11_write_30 rfl hM33.1 hy_tw_putPart (by omega) (Nat.le_of_ble_eq_true rfl) rfl (Nat.le_of_ble_eq_true rfl) (fun x36 k37 => ?_)
      have hM38 : TM x36 h := hM33.tw k37
      exact x_vret (μ := mu_tw_write) (pc := 33) (a1 := x36) dX11_write_33 rfl rfl (gRel_Tw.1 _) trivial
  · exact x_vret (μ := mu_tw_write) (pc := 9) (a1 := s1) dX11_write_9 rfl rfl (gRel_Tw.1 _) trivial
